/-! contracts of methods that make objects: the pool grows -/
def jx_rmA (lv mc ms : Nat) : Room := { frames := lv, cells := mc, slots := ms, locals := 40 * lv }
def jf_sub (pl pl1 : va_W) : Prop := ∀ q ∈ pl, q ∈ pl1
theorem jf_sub.rf {pl : va_W} : jf_sub pl pl := fun _ h => h
theorem jf_sub.trans {a b d : va_W} (h : jf_sub a b) (k : jf_sub b d) : jf_sub a d := fun q hq => k q (h q hq)
theorem jf_sub.add {a b d : va_W} (h : jf_sub a b) : jf_sub a (b ++ d) := fun q hq => List.mem_append_left _ (h q hq)
def jr_Qx (D : va_G) (E : jf_E) (A : Nat → Prop) (fo : Nat → Nat → Option Nat) (pl : va_W) (S : jf_S) (k : Nat) : Array Value → State → Addr → State → Prop := fun _ st x t => jx_exc D E k x t ∧ (∃ pl1, jf_sub pl pl1 ∧ jf_U D E A S fo pl1 t) ∧ va_F A st t
def jr_M {α : Type} (I : va_W → Nat → α → Prop) (l : Launch) (D : va_G) (E : jf_E) (A : Nat → Prop) (fo : Nat → Nat → Option Nat) (pl : va_W) (y : MethodName) (cc : ByteArray) (nL : Nat) (rt : Option FieldType) (lv mc ms : Nat) (As : List Value) (S : jf_S) (out : (α ⊕ Nat) × jf_S) : Prop := match out.1 with
  | .inl v => Met l y (ws_ y cc nL rt) (jx_rmA lv mc ms) (va_Pc As (jf_U D E A S fo pl)) (va_Qr (fun u : va_W => jf_sub pl u) (fun u a t => I u a v ∧ jf_U D E A out.2 fo u t) A) mc ms A
  | .inr k => jx_MetT l y (ws_ y cc nL rt) (jx_rmA lv mc ms) (va_Pc As (jf_U D E A S fo pl)) (jr_Qx D E A fo pl out.2 k) mc ms A
def jr_Q {α : Type} (I : va_W → Nat → α → Prop) (below : List Frame) (args : Array Value) (s : State) (A : Nat → Prop) (D : va_G) (E : jf_E) (fo : Nat → Nat → Option Nat) (pl : va_W) (mc ms : Nat) (out : (α ⊕ Nat) × jf_S) : State → Prop := match out.1 with
  | .inl v => MQ below (va_Qr (fun u : va_W => jf_sub pl u) (fun u a t => I u a v ∧ jf_U D E A out.2 fo u t) A) args s mc ms A
  | .inr k => jx_QT below (jr_Qx D E A fo pl out.2 k) args s mc ms A
def jr_Ok (own : String) (l : Launch) (p : Program) (R : Room) (s : State) (m : MethodId) (args : Array Value) (meth : Method) (c : Code) (A : Nat → Prop) (D : va_G) (E : jf_E) (cc : ByteArray) (nL : Nat) (rt : Option FieldType) (lv mc ms : Nat) : Prop :=
  jf_Ok own p R s m args meth c A D E cc nL rt lv ∧ l.flags = flags0 ∧ mc ≤ R.cells ∧ ms ≤ R.slots
def jr_J (p : Program) (l : Launch) (e : Env) (R : Room) (s : State) (m : MethodId) (args : Array Value) (below : List Frame) (meth : Method) (c : Code) (A : Nat → Prop) (D : va_G) (E : jf_E) (fo : Nat → Nat → Option Nat) (pl : va_W) (nL cells slots : Nat) (Q : State → Prop) (pc : Nat) (lv : List (Nat × Value)) (stk : List Value) (S : jf_S) : Prop :=
  ∀ (H : Heap) (locs : List Loc) (ls : Array Slot), jf_P D E A S fo pl H → va_S A s.heap H locs → lv_has ls nL lv → W p l e R s m args below meth c H locs cells slots Q (F0 m pc ls stk)
theorem jf_P_un {D : va_G} {E : jf_E} {A : Nat → Prop} {S : jf_S} {fo : Nat → Nat → Option Nat} {pl : va_W} {H : Heap} {x : Nat × va_E} (h : jf_P D (jf_un E x) A S fo pl H) : jf_P D E A S fo pl H := by
  obtain ⟨h1, h2, h3⟩ := h
  rw [jf_ws_un] at h1 h2
  refine ⟨fun k q hk => h1 k q ?_, ⟨fun i j a b ha hb => h2.1 i j a b ?_ ?_, fun k q hk => h2.2 k q ?_⟩, h3⟩ <;> rw [List.getElem?_append_left (List.getElem?_eq_some_iff.mp (by assumption)).1] <;> assumption
section
variable {p : Program} {l : Launch} {e : Env} {R : Room} {s : State} {m : MethodId} {args : Array Value} {below : List Frame} {meth : Method} {c : Code} {H : Heap} {locs : List Loc} {cells slots : Nat} {Q : State → Prop} {pc : Nat} {ls : Array Slot} {rest : List Value} {A : Nat → Prop} {D : va_G} {E E0 : jf_E} {fo : Nat → Nat → Option Nat} {pl pl0 : va_W} {cc : ByteArray} {S S1 : jf_S} {own C : String} {T : u_T} {N ci : Nat}
theorem jr_ret {α : Type} {I : va_W → Nat → α → Prop} {v : α} {a : Nat} {n : String} {out : (α ⊕ Nat) × jf_S} (hx : p.tables.exec = Jvm.exec) (hb : c.code = cc) (hr : meth.sig.returnType = some (.object n)) (hlk : meth.locks = false) (hV : jf_V D E A s) (hP : jf_P D E A S fo pl H) (hS : va_S A s.heap H locs) (hsub : jf_sub pl0 pl) (hi : I pl a v) (h : some (Sum.inl v, S) = some out) (hdg : decode cc pc = .ok (.areturn, 1)) : W p l e R s m args below meth c H locs cells slots (jr_Q I below args s A D E fo pl0 cells slots out) (F0 m pc ls [.ref a]) := by
  cases h
  show W p l e R s m args below meth c H locs cells slots (MQ below (va_Qr (fun u : va_W => jf_sub pl0 u) (fun u a t => I u a v ∧ jf_U D E A S fo u t) A) args s cells slots A) (F0 m pc ls [.ref a])
  exact W.aret (v := .ref a) hx hb hr (Or.inl ⟨n, rfl⟩) (Or.inr ⟨a, rfl⟩) (fun t ht hW => ⟨⟨pl, a, rfl, hsub, hi, by rw [ht]; exact hP, hV.moved hW (by rw [ht]; exact hS.1) (fun a h1 h2 => by rw [ht]; exact hS.2.1 a h1 h2)⟩, hS.F ht⟩) hS.2.2 hdg hlk
theorem jr_callI {out : Int32 × jf_S} {y : MethodName} {bytes : ByteArray} {maxL nL lv lv' ix n q0 b : Nat} {rt : Option FieldType} {stk fs : List Value} (hx : p.tables.exec = Jvm.exec) (hb : c.code = cc) (hml : c.maxLocals = nL) (hown : s.vm.findClass own = some m.cls) (hts : ∀ w ∈ lw_all, w.before args s = true) (hlv : jx_hr R lv) (hV : jf_V D E A s) {As : List Value} (hM : jf_Mi l D E A fo pl y bytes maxL rt lv' (.ref b :: As) S out) (hg : GoodIn lw_all (wsV own ix C y (ws_ y bytes maxL rt))) (hd : y.cls = C ∧ y.cls ≠ "java/lang/invoke/MethodHandle" ∧ y.cls ≠ "java/lang/invoke/VarHandle" ∧ (parseMethodDescriptor y.desc).map (fun d => d.parameters.length) = some n) (h1 : lv' + 1 ≤ lv) (h2 : maxL ≤ 21) (hcs : cells ≤ R.cells ∧ slots ≤ R.slots) (hP : jf_P D E A S fo pl H) (hS : va_S A s.heap H locs) (he : (jf_ws E S fo pl)[q0]? = some (b, .inr (ci, fs))) (hc : jx_cl[ci]? = some (C, T, N)) (hls : ls.size = nL) (hn : As.length = n) (hst : stk = As.reverse ++ .ref b :: rest) (hW : 2 * (F0 m pc ls stk).monitorRoom + (rest.map fun v => v.category).sum ≤ 8) (hdg : decode cc pc = .ok (.invokevirtual ix, 3))
    (kk : ∀ (H : Heap) (locs : List Loc), jf_P D E A out.2 fo pl H → va_S A s.heap H locs → W p l e R s m args below meth c H locs cells slots Q (F0 m (pc + 3) ls (.int out.1 :: rest))) : W p l e R s m args below meth c H locs cells slots Q (F0 m pc ls stk) := by
  unfold jf_Mi at hM
  refine va_calli (va_runV (As := As) (rest := rest) (C := C) (own := own) (index := ix) ⟨hx, hb, hml, hown, hts⟩ hM (cwV n hts hg rfl rfl rfl hd ⟨Nat.le_trans h1 hlv.1, by have := hlv.2; show 8 + (maxL + 11) + 40 * lv' ≤ R.locals; omega⟩) ⟨jf_U.blind, va_recv hV.1 hP.1 (ci := ci) (q0 := q0) hc he, fun U hU hW => ⟨rfl, by rw [hU]; exact hP, hV.moved hW (by rw [hU]; exact hS.1) (fun a h1 h2 => by rw [hU]; exact hS.2.1 a h1 h2)⟩⟩ rfl hn hls hst hW hdg hcs) hS (fun _ _ h => h) (fun _ h => h) (fun r u t H1 l1 ht hvm hp hB hz hk hS1 => ?_)
  subst hp
  obtain ⟨hP1, -⟩ := hB
  rw [ht] at hP1
  exact kk H1 l1 hP1 hS1
theorem jr_callV {out : jf_S} {y : MethodName} {bytes : ByteArray} {maxL nL lv lv' ix n q0 b : Nat} {rt : Option FieldType} {stk fs : List Value} (hx : p.tables.exec = Jvm.exec) (hb : c.code = cc) (hml : c.maxLocals = nL) (hown : s.vm.findClass own = some m.cls) (hts : ∀ w ∈ lw_all, w.before args s = true) (hlv : jx_hr R lv) (hV : jf_V D E A s) {As : List Value} (hM : jf_Mv l D E A fo pl y bytes maxL rt lv' (.ref b :: As) S out) (hg : GoodIn lw_all (wsV own ix C y (ws_ y bytes maxL rt))) (hd : y.cls = C ∧ y.cls ≠ "java/lang/invoke/MethodHandle" ∧ y.cls ≠ "java/lang/invoke/VarHandle" ∧ (parseMethodDescriptor y.desc).map (fun d => d.parameters.length) = some n) (h1 : lv' + 1 ≤ lv) (h2 : maxL ≤ 21) (hcs : cells ≤ R.cells ∧ slots ≤ R.slots) (hP : jf_P D E A S fo pl H) (hS : va_S A s.heap H locs) (he : (jf_ws E S fo pl)[q0]? = some (b, .inr (ci, fs))) (hc : jx_cl[ci]? = some (C, T, N)) (hls : ls.size = nL) (hn : As.length = n) (hst : stk = As.reverse ++ .ref b :: rest) (hW : 2 * (F0 m pc ls stk).monitorRoom + (rest.map fun v => v.category).sum ≤ 8) (hdg : decode cc pc = .ok (.invokevirtual ix, 3))
    (kk : ∀ (H : Heap) (locs : List Loc), jf_P D E A out fo pl H → va_S A s.heap H locs → W p l e R s m args below meth c H locs cells slots Q (F0 m (pc + 3) ls rest)) : W p l e R s m args below meth c H locs cells slots Q (F0 m pc ls stk) := by
  unfold jf_Mv at hM
  refine va_callv (va_runV (As := As) (rest := rest) (C := C) (own := own) (index := ix) ⟨hx, hb, hml, hown, hts⟩ hM (cwV n hts hg rfl rfl rfl hd ⟨Nat.le_trans h1 hlv.1, by have := hlv.2; show 8 + (maxL + 11) + 40 * lv' ≤ R.locals; omega⟩) ⟨jf_U.blind, va_recv hV.1 hP.1 (ci := ci) (q0 := q0) hc he, fun U hU hW => ⟨rfl, by rw [hU]; exact hP, hV.moved hW (by rw [hU]; exact hS.1) (fun a h1 h2 => by rw [hU]; exact hS.2.1 a h1 h2)⟩⟩ rfl hn hls hst hW hdg hcs) hS (fun _ _ h => h) (fun _ h => h) (fun u t H1 l1 ht hvm hp hB hz hk hS1 => ?_)
  subst hp
  obtain ⟨hP1, -⟩ := hB
  rw [ht] at hP1
  exact kk H1 l1 hP1 hS1
/-- a call that makes objects and answers one -/
theorem jr_callA {α : Type} {I : va_W → Nat → α → Prop} {v : α} {y : MethodName} {bytes : ByteArray} {maxL nL lv lv' mc ms ix n q0 b : Nat} {rt : Option FieldType} {stk fs : List Value} (hx : p.tables.exec = Jvm.exec) (hb : c.code = cc) (hml : c.maxLocals = nL) (hown : s.vm.findClass own = some m.cls) (hts : ∀ w ∈ lw_all, w.before args s = true) (hlv : jx_hr R lv) (hV : jf_V D E A s) {As : List Value} (hM : jr_M I l D E A fo pl y bytes maxL rt lv' mc ms (.ref b :: As) S (.inl v, S1)) (hg : GoodIn lw_all (wsV own ix C y (ws_ y bytes maxL rt))) (hd : y.cls = C ∧ y.cls ≠ "java/lang/invoke/MethodHandle" ∧ y.cls ≠ "java/lang/invoke/VarHandle" ∧ (parseMethodDescriptor y.desc).map (fun d => d.parameters.length) = some n) (h1 : lv' + 1 ≤ lv) (h2 : maxL ≤ 21) (hcs : cells + mc ≤ R.cells ∧ slots + ms ≤ R.slots) (hP : jf_P D E A S fo pl H) (hS : va_S A s.heap H locs) (he : (jf_ws E S fo pl)[q0]? = some (b, .inr (ci, fs))) (hc : jx_cl[ci]? = some (C, T, N)) (hls : ls.size = nL) (hn : As.length = n) (hst : stk = As.reverse ++ .ref b :: rest) (hW : 2 * (F0 m pc ls stk).monitorRoom + (rest.map fun v => v.category).sum ≤ 8) (hdg : decode cc pc = .ok (.invokevirtual ix, 3))
    (kk : ∀ (pl1 : va_W) (a : Nat) (H : Heap) (locs : List Loc), jf_sub pl pl1 → I pl1 a v → jf_P D E A S1 fo pl1 H → va_S A s.heap H locs → W p l e R s m args below meth c H locs (cells + mc) (slots + ms) Q (F0 m (pc + 3) ls (.ref a :: rest))) : W p l e R s m args below meth c H locs cells slots Q (F0 m pc ls stk) := by
  unfold jr_M at hM
  refine va_callr (va_runV (As := As) (rest := rest) (C := C) (own := own) (index := ix) ⟨hx, hb, hml, hown, hts⟩ hM (cwV n hts hg rfl rfl rfl hd ⟨Nat.le_trans h1 hlv.1, by have := hlv.2; show 8 + (maxL + 11) + 40 * lv' ≤ R.locals; omega⟩) ⟨jf_U.blind, va_recv hV.1 hP.1 (ci := ci) (q0 := q0) hc he, fun U hU hW => ⟨rfl, by rw [hU]; exact hP, hV.moved hW (by rw [hU]; exact hS.1) (fun a h1 h2 => by rw [hU]; exact hS.2.1 a h1 h2)⟩⟩ rfl hn hls hst hW hdg hcs) hS (fun _ _ h => h) (fun _ h => h) (fun u ra t H1 l1 ht hvm hp hB hz hk hS1 => ?_)
  obtain ⟨hI, hP1, -⟩ := hB
  rw [ht] at hP1
  exact kk u ra H1 l1 hp hI hP1 hS1
/-- a call that throws, out of a method that makes objects -/
theorem jr_outV {y : MethodName} {bytes : ByteArray} {maxL nL lv lv' ix n q0 b k : Nat} {rt : Option FieldType} {stk fs : List Value} (hx : p.tables.exec = Jvm.exec) (hb : c.code = cc) (hml : c.maxLocals = nL) (hown : s.vm.findClass own = some m.cls) (hts : ∀ w ∈ lw_all, w.before args s = true) (hlv : jx_hr R lv) (hV : jf_V D E A s) (hV0 : jf_V D E0 A s) (het : c.exceptionTable.isEmpty = true) (hlk : meth.locks = false) {As : List Value} (hM : jf_Mx l D E A fo pl y bytes maxL rt lv' (.ref b :: As) S S1 k) (hg : GoodIn lw_all (wsV own ix C y (ws_ y bytes maxL rt))) (hd : y.cls = C ∧ y.cls ≠ "java/lang/invoke/MethodHandle" ∧ y.cls ≠ "java/lang/invoke/VarHandle" ∧ (parseMethodDescriptor y.desc).map (fun d => d.parameters.length) = some n) (h1 : lv' + 1 ≤ lv) (h2 : maxL ≤ 21) (hcx : cells + 1 ≤ R.cells ∧ slots + 6 ≤ R.slots) (hsub : jf_sub pl0 pl) (hdr : ∀ H : Heap, jf_P D E A S1 fo pl H → jf_P D E0 A S1 fo pl H) (h12 : E.1 2 = E0.1 2) (hP : jf_P D E A S fo pl H) (hS : va_S A s.heap H locs) (he : (jf_ws E S fo pl)[q0]? = some (b, .inr (ci, fs))) (hc : jx_cl[ci]? = some (C, T, N)) (hls : ls.size = nL) (hn : As.length = n) (hst : stk = As.reverse ++ .ref b :: rest) (hW : 2 * (F0 m pc ls stk).monitorRoom + (rest.map fun v => v.category).sum ≤ 8) (hdg : decode cc pc = .ok (.invokevirtual ix, 3)) :
    W p l e R s m args below meth c H locs cells slots (jx_QT below (jr_Qx D E0 A fo pl0 S1 k) args s (cells + 1) (slots + 6) A) (F0 m pc ls stk) := by
  unfold jf_Mx at hM
  refine jx_callOut (mc := 1) (ms := 6) (jx_runVT (As := As) (rest := rest) (C := C) (own := own) (index := ix) ⟨hx, hb, hml, hown, hts⟩ hM (cwV n hts hg rfl rfl rfl hd ⟨Nat.le_trans h1 hlv.1, by have := hlv.2; show 8 + (maxL + 11) + 40 * lv' ≤ R.locals; omega⟩) ⟨jf_U.blind, va_recv hV.1 hP.1 (ci := ci) (q0 := q0) hc he, fun U hU hW => ⟨rfl, by rw [hU]; exact hP, hV.moved hW (by rw [hU]; exact hS.1) (fun a h1 h2 => by rw [hU]; exact hS.2.1 a h1 h2)⟩⟩ rfl hn hls hst hW hdg hcx) het hlk (fun x st0 t t2 h0 hq e2 hW2 => ?_) hS.2.2 (fun _ h => h)
  obtain ⟨⟨⟨ce, g1, g2, g3⟩, g4⟩, ⟨hP1, hV1⟩, hF⟩ := hq
  refine ⟨⟨⟨ce, by rw [e2]; exact g1, g2, g3⟩, fun h => by rw [← h12]; exact g4 h⟩, ⟨pl, hsub, hdr _ (by rw [e2]; exact hP1), hV0.moved hW2 ?_ ?_⟩, ?_, ?_⟩
  · rw [e2]; exact Nat.le_trans hS.1 (by have := hF.1; rw [h0] at this; exact this)
  · intro a h1 h2; rw [e2, hF.2 a (by rw [h0]; exact Nat.lt_of_lt_of_le h1 hS.1) h2, h0]; exact hS.2.1 a h1 h2
  · rw [e2]; exact Nat.le_trans hS.1 (by have := hF.1; rw [h0] at this; exact this)
  · intro a h1 h2; rw [e2, hF.2 a (by rw [h0]; exact Nat.lt_of_lt_of_le h1 hS.1) h2, h0]; exact hS.2.1 a h1 h2
theorem jr_outA {α : Type} {I : va_W → Nat → α → Prop} {y : MethodName} {bytes : ByteArray} {maxL nL lv lv' mc ms ix n q0 b k : Nat} {rt : Option FieldType} {stk fs : List Value} (hx : p.tables.exec = Jvm.exec) (hb : c.code = cc) (hml : c.maxLocals = nL) (hown : s.vm.findClass own = some m.cls) (hts : ∀ w ∈ lw_all, w.before args s = true) (hlv : jx_hr R lv) (hV : jf_V D E A s) (hV0 : jf_V D E0 A s) (het : c.exceptionTable.isEmpty = true) (hlk : meth.locks = false) {As : List Value} (hM : jr_M I l D E A fo pl y bytes maxL rt lv' mc ms (.ref b :: As) S (.inr k, S1)) (hg : GoodIn lw_all (wsV own ix C y (ws_ y bytes maxL rt))) (hd : y.cls = C ∧ y.cls ≠ "java/lang/invoke/MethodHandle" ∧ y.cls ≠ "java/lang/invoke/VarHandle" ∧ (parseMethodDescriptor y.desc).map (fun d => d.parameters.length) = some n) (h1 : lv' + 1 ≤ lv) (h2 : maxL ≤ 21) (hcx : cells + mc ≤ R.cells ∧ slots + ms ≤ R.slots) (hsub : jf_sub pl0 pl) (hdr : ∀ (H : Heap) (pl : va_W), jf_P D E A S1 fo pl H → jf_P D E0 A S1 fo pl H) (h12 : E.1 2 = E0.1 2) (hP : jf_P D E A S fo pl H) (hS : va_S A s.heap H locs) (he : (jf_ws E S fo pl)[q0]? = some (b, .inr (ci, fs))) (hc : jx_cl[ci]? = some (C, T, N)) (hls : ls.size = nL) (hn : As.length = n) (hst : stk = As.reverse ++ .ref b :: rest) (hW : 2 * (F0 m pc ls stk).monitorRoom + (rest.map fun v => v.category).sum ≤ 8) (hdg : decode cc pc = .ok (.invokevirtual ix, 3)) :
    W p l e R s m args below meth c H locs cells slots (jx_QT below (jr_Qx D E0 A fo pl0 S1 k) args s (cells + mc) (slots + ms) A) (F0 m pc ls stk) := by
  unfold jr_M at hM
  refine jx_callOut (mc := mc) (ms := ms) (jx_runVT (As := As) (rest := rest) (C := C) (own := own) (index := ix) ⟨hx, hb, hml, hown, hts⟩ hM (cwV n hts hg rfl rfl rfl hd ⟨Nat.le_trans h1 hlv.1, by have := hlv.2; show 8 + (maxL + 11) + 40 * lv' ≤ R.locals; omega⟩) ⟨jf_U.blind, va_recv hV.1 hP.1 (ci := ci) (q0 := q0) hc he, fun U hU hW => ⟨rfl, by rw [hU]; exact hP, hV.moved hW (by rw [hU]; exact hS.1) (fun a h1 h2 => by rw [hU]; exact hS.2.1 a h1 h2)⟩⟩ rfl hn hls hst hW hdg hcx) het hlk (fun x st0 t t2 h0 hq e2 hW2 => ?_) hS.2.2 (fun _ h => h)
  obtain ⟨⟨⟨ce, g1, g2, g3⟩, g4⟩, ⟨pl1, hsub1, hP1, hV1⟩, hF⟩ := hq
  refine ⟨⟨⟨ce, by rw [e2]; exact g1, g2, g3⟩, fun h => by rw [← h12]; exact g4 h⟩, ⟨pl1, hsub.trans hsub1, hdr _ _ (by rw [e2]; exact hP1), hV0.moved hW2 ?_ ?_⟩, ?_, ?_⟩
  · rw [e2]; exact Nat.le_trans hS.1 (by have := hF.1; rw [h0] at this; exact this)
  · intro a h1 h2; rw [e2, hF.2 a (by rw [h0]; exact Nat.lt_of_lt_of_le h1 hS.1) h2, h0]; exact hS.2.1 a h1 h2
  · rw [e2]; exact Nat.le_trans hS.1 (by have := hF.1; rw [h0] at this; exact this)
  · intro a h1 h2; rw [e2, hF.2 a (by rw [h0]; exact Nat.lt_of_lt_of_le h1 hS.1) h2, h0]; exact hS.2.1 a h1 h2
theorem jr_M_of {α : Type} {I : va_W → Nat → α → Prop} {out : (α ⊕ Nat) × jf_S} {y : MethodName} {nL lv mc ms : Nat} {rt : Option FieldType} {As : List Value} (hfl : l.flags = flags0) (hy : plainName y.cls = true ∧ y.cls = own ∧ (lg_sl As).length ≤ nL)
    (body : ∀ {p : Program} {e : Env} {s : State} {m : MethodId} {args : Array Value} {below : List Frame} {meth : Method} {c : Code}, jr_Ok own l p (jx_rmA lv mc ms) s m args meth c A D E cc nL rt lv mc ms → jr_J p l e (jx_rmA lv mc ms) s m args below meth c A D E fo pl nL 0 0 (jr_Q I below args s A D E fo pl mc ms out) 0 (lv_args 0 As) [] S) : jr_M I l D E A fo pl y cc nL rt lv mc ms As S out := by
  obtain ⟨o1, o2⟩ := out
  cases o1 with
  | inl v =>
    refine Met.ofW (cc := cc) (maxL := nL) (ret := rt) hy.1 rfl ?_
    intro p e s m args below meth c s₁ B hml hv
    obtain ⟨rfl, hP, hV⟩ := hv
    have hts0 := atoms_spec (ws := ws_ y cc nL rt) B.pre
    have hts : ∀ w ∈ lw_all, w.before _ s = true := fun w h => hts0 w (List.mem_cons_of_mem _ h)
    have hown : s.vm.findClass own = some m.cls := by
      have h := findClass_of_methodNamed B.named
      rw [hy.2.1] at h
      exact h
    have hl := lv_entry As (n := nL) hy.2.2
    rw [lg_entry_eq]
    have hJ := body (p := p) (e := e) (s := s) (m := m) (below := below) (meth := meth) (c := c) ⟨⟨B.exec, B.bytes, hml, hown, hts, B.notSynchronized, B.returns, ⟨Nat.le_refl _, Nat.le_refl _⟩, hV, B.noHandlers (hts0 _ List.mem_cons_self)⟩, hfl, Nat.le_refl _, Nat.le_refl _⟩
    exact hJ _ _ _ hP va_S.rf hl
  | inr k =>
    refine jx_MetT_ofW (cc := cc) (maxL := nL) (ret := rt) hy.1 rfl ?_
    intro p e s m args below meth c s₁ B hml hv
    obtain ⟨rfl, hP, hV⟩ := hv
    have hts0 := atoms_spec (ws := ws_ y cc nL rt) B.pre
    have hts : ∀ w ∈ lw_all, w.before _ s = true := fun w h => hts0 w (List.mem_cons_of_mem _ h)
    have hown : s.vm.findClass own = some m.cls := by
      have h := findClass_of_methodNamed B.named
      rw [hy.2.1] at h
      exact h
    have hl := lv_entry As (n := nL) hy.2.2
    rw [lg_entry_eq]
    have hJ := body (p := p) (e := e) (s := s) (m := m) (below := below) (meth := meth) (c := c) ⟨⟨B.exec, B.bytes, hml, hown, hts, B.notSynchronized, B.returns, ⟨Nat.le_refl _, Nat.le_refl _⟩, hV, B.noHandlers (hts0 _ List.mem_cons_self)⟩, hfl, Nat.le_refl _, Nat.le_refl _⟩
    exact hJ _ _ _ hP va_S.rf hl
end

/-! contracts and rows of component methods that may throw: an answer is a value, or the number (in jx_cl) of what is thrown -/
def jx_xb {α β σ : Type} (o : Option ((α ⊕ Nat) × σ)) (k : α → σ → Option ((β ⊕ Nat) × σ)) : Option ((β ⊕ Nat) × σ) := o.bind fun q => match q.1 with
  | .inl v => k v q.2
  | .inr x => some (.inr x, q.2)
theorem jx_xb_some {α β σ : Type} {o : Option ((α ⊕ Nat) × σ)} {k : α → σ → Option ((β ⊕ Nat) × σ)} {out : (β ⊕ Nat) × σ} (h : jx_xb o k = some out) : (∃ (v : α) (S : σ), o = some (.inl v, S) ∧ k v S = some out) ∨ ∃ (x : Nat) (S : σ), o = some (.inr x, S) ∧ out = (.inr x, S) := by
  unfold jx_xb at h
  cases o with
  | none => cases h
  | some q =>
    obtain ⟨q1, q2⟩ := q
    cases q1 with
    | inl v => exact Or.inl ⟨v, q2, rfl, h⟩
    | inr x => exact Or.inr ⟨x, q2, rfl, (Option.some.inj h).symm⟩
theorem jx_xb_l {α β σ : Type} {v : α} {S : σ} {k : α → σ → Option ((β ⊕ Nat) × σ)} : jx_xb (some (.inl v, S)) k = k v S := rfl
theorem jx_xb_r {α β σ : Type} {x : Nat} {S : σ} {k : α → σ → Option ((β ⊕ Nat) × σ)} : jx_xb (some (.inr x, S)) k = some (.inr x, S) := rfl
def jx_rmX (n : Nat) : Room := { frames := n, cells := 1, slots := 6, locals := 40 * n }
def jx_exc (D : va_G) (E : jf_E) (k : Nat) (x : Addr) (t : State) : Prop := (∃ ce : Cell, t.heap[x]? = some ce ∧ ce.cls = D.1 k ∧ ce.vm.isStatics = false) ∧ (k = 16 → x = E.1 2)
def jf_Qx (D : va_G) (E : jf_E) (A : Nat → Prop) (fo : Nat → Nat → Option Nat) (pl : va_W) (S : jf_S) (k : Nat) : Array Value → State → Addr → State → Prop := fun _ st x t => jx_exc D E k x t ∧ jf_U D E A S fo pl t ∧ va_F A st t
def jf_Mx (l : Launch) (D : va_G) (E : jf_E) (A : Nat → Prop) (fo : Nat → Nat → Option Nat) (pl : va_W) (y : MethodName) (cc : ByteArray) (nL : Nat) (rt : Option FieldType) (lv : Nat) (As : List Value) (S S1 : jf_S) (k : Nat) : Prop :=
  jx_MetT l y (ws_ y cc nL rt) (jx_rmX lv) (va_Pc As (jf_U D E A S fo pl)) (jf_Qx D E A fo pl S1 k) 1 6 A
def jf_MXi (l : Launch) (D : va_G) (E : jf_E) (A : Nat → Prop) (fo : Nat → Nat → Option Nat) (pl : va_W) (y : MethodName) (cc : ByteArray) (nL : Nat) (rt : Option FieldType) (lv : Nat) (As : List Value) (S : jf_S) (out : (Int32 ⊕ Nat) × jf_S) : Prop := match out.1 with
  | .inl v => jf_Mi l D E A fo pl y cc nL rt lv As S (v, out.2)
  | .inr k => jf_Mx l D E A fo pl y cc nL rt lv As S out.2 k
def jf_MXl (l : Launch) (D : va_G) (E : jf_E) (A : Nat → Prop) (fo : Nat → Nat → Option Nat) (pl : va_W) (y : MethodName) (cc : ByteArray) (nL : Nat) (rt : Option FieldType) (lv : Nat) (As : List Value) (S : jf_S) (out : (Int64 ⊕ Nat) × jf_S) : Prop := match out.1 with
  | .inl v => jf_Ml l D E A fo pl y cc nL rt lv As S (v, out.2)
  | .inr k => jf_Mx l D E A fo pl y cc nL rt lv As S out.2 k
def jf_MXv (l : Launch) (D : va_G) (E : jf_E) (A : Nat → Prop) (fo : Nat → Nat → Option Nat) (pl : va_W) (y : MethodName) (cc : ByteArray) (nL : Nat) (rt : Option FieldType) (lv : Nat) (As : List Value) (S : jf_S) (out : (Unit ⊕ Nat) × jf_S) : Prop := match out.1 with
  | .inl _ => jf_Mv l D E A fo pl y cc nL rt lv As S out.2
  | .inr k => jf_Mx l D E A fo pl y cc nL rt lv As S out.2 k
/-- an answer that is an order -/
def jf_Mo (l : Launch) (D : va_G) (E : jf_E) (A : Nat → Prop) (fo : Nat → Nat → Option Nat) (pl : va_W) (y : MethodName) (cc : ByteArray) (nL : Nat) (rt : Option FieldType) (lv : Nat) (As : List Value) (S : jf_S) (out : jo_R × jf_S) : Prop :=
  Met l y (ws_ y cc nL rt) (jx_rm lv) (va_Pc As (jf_U D E A S fo pl)) (va_Qr (fun u => u = out.2) (fun u a t => jo_Is pl a out.1 ∧ jf_U D E A u fo pl t) A) 0 0 A
def jf_MXo (l : Launch) (D : va_G) (E : jf_E) (A : Nat → Prop) (fo : Nat → Nat → Option Nat) (pl : va_W) (y : MethodName) (cc : ByteArray) (nL : Nat) (rt : Option FieldType) (lv : Nat) (As : List Value) (S : jf_S) (out : (jo_R ⊕ Nat) × jf_S) : Prop := match out.1 with
  | .inl v => jf_Mo l D E A fo pl y cc nL rt lv As S (v, out.2)
  | .inr k => jf_Mx l D E A fo pl y cc nL rt lv As S out.2 k
def jf_Qo (below : List Frame) (args : Array Value) (s : State) (A : Nat → Prop) (D : va_G) (E : jf_E) (fo : Nat → Nat → Option Nat) (pl : va_W) (out : jo_R × jf_S) : State → Prop := MQ below (va_Qr (fun u => u = out.2) (fun u a t => jo_Is pl a out.1 ∧ jf_U D E A u fo pl t) A) args s 0 0 A
def jf_QXi (below : List Frame) (args : Array Value) (s : State) (A : Nat → Prop) (D : va_G) (E : jf_E) (fo : Nat → Nat → Option Nat) (pl : va_W) (out : (Int32 ⊕ Nat) × jf_S) : State → Prop := match out.1 with
  | .inl v => jf_Qi below args s A D E fo pl (v, out.2)
  | .inr k => jx_QT below (jf_Qx D E A fo pl out.2 k) args s 1 6 A
def jf_QXl (below : List Frame) (args : Array Value) (s : State) (A : Nat → Prop) (D : va_G) (E : jf_E) (fo : Nat → Nat → Option Nat) (pl : va_W) (out : (Int64 ⊕ Nat) × jf_S) : State → Prop := match out.1 with
  | .inl v => jf_Ql below args s A D E fo pl (v, out.2)
  | .inr k => jx_QT below (jf_Qx D E A fo pl out.2 k) args s 1 6 A
def jf_QXv (below : List Frame) (args : Array Value) (s : State) (A : Nat → Prop) (D : va_G) (E : jf_E) (fo : Nat → Nat → Option Nat) (pl : va_W) (out : (Unit ⊕ Nat) × jf_S) : State → Prop := match out.1 with
  | .inl _ => jf_Qv below args s A D E fo pl out.2
  | .inr k => jx_QT below (jf_Qx D E A fo pl out.2 k) args s 1 6 A
def jf_QXo (below : List Frame) (args : Array Value) (s : State) (A : Nat → Prop) (D : va_G) (E : jf_E) (fo : Nat → Nat → Option Nat) (pl : va_W) (out : (jo_R ⊕ Nat) × jf_S) : State → Prop := match out.1 with
  | .inl v => jf_Qo below args s A D E fo pl (v, out.2)
  | .inr k => jx_QT below (jf_Qx D E A fo pl out.2 k) args s 1 6 A
/-- a throwing method's context: beside jf_Ok, room for the throwable if one is thrown -/
def jf_OkX {α : Type} (own : String) (l : Launch) (p : Program) (R : Room) (s : State) (m : MethodId) (args : Array Value) (meth : Method) (c : Code) (A : Nat → Prop) (D : va_G) (E : jf_E) (cc : ByteArray) (nL : Nat) (rt : Option FieldType) (lv : Nat) (out : (α ⊕ Nat) × jf_S) : Prop :=
  jf_Ok own p R s m args meth c A D E cc nL rt lv ∧ l.flags = flags0 ∧ ∀ k : Nat, out.1 = .inr k → 1 ≤ R.cells ∧ 6 ≤ R.slots
section
variable {p : Program} {l : Launch} {e : Env} {R : Room} {s : State} {m : MethodId} {args : Array Value} {below : List Frame} {meth : Method} {c : Code} {H : Heap} {locs : List Loc} {Q : State → Prop} {pc : Nat} {ls : Array Slot} {rest : List Value} {A : Nat → Prop} {D : va_G} {E : jf_E} {fo : Nat → Nat → Option Nat} {pl : va_W} {cc : ByteArray} {S S1 : jf_S} {own C : String} {T : u_T} {N ci : Nat}
theorem jf_P.kept {H1 : Heap} (h : jf_P D E A S fo pl H) (hq : ∀ q : Nat, q < H.size → H1[q]? = H[q]?) : jf_P D E A S fo pl H1 := ⟨fun k q hk => (h.1 k q hk).kept (hq q.1 (h.1 k q hk).lt), h.2⟩
/-- 'throw new X()' that leaves -/
theorem jf_throwNew {cls : String} {ix ic nL lv k : Nat} {T : u_T} {N : Nat} (hfl : l.flags = flags0) (hx : p.tables.exec = Jvm.exec) (hb : c.code = cc) (hml : c.maxLocals = nL) (hls : ls.size = nL) (hown : s.vm.findClass own = some m.cls) (het : c.exceptionTable.isEmpty = true) (hlk : meth.locks = false) (hlv : jx_hr R lv) (h6 : 6 ≤ lv) (hV : jf_V D E A s) (hP : jf_P D E A S fo pl H) (hS : va_S A s.heap H locs)
    (h1 : ∀ a ∈ Bundle.throwableAtoms, a.before args s = true) (h2 : ∀ a ∈ Bundle.chain0Atoms cls ["java/lang/RuntimeException", "java/lang/Exception"], a.before args s = true) (h3 : ∀ a ∈ jx_ctorW own ic cls, a.before args s = true) (hcl : (Cond.classLink own ix cls).before args s = true) (hini : (Cond.initialized cls).before args s = true)
    (hk : jx_cl[k]? = some (cls, T, N)) (h16 : ¬ k = 16) (hcls : Bundle.fit cls = true) (hc : 1 ≤ R.cells ∧ 6 ≤ R.slots) (hrest : (rest.map fun v => v.category).sum ≤ 8)
    (d0 : decode cc pc = .ok (.new ix, 3)) (d3 : decode cc (pc + 3) = .ok (.dup, 1)) (d4 : decode cc (pc + 4) = .ok (.invokespecial ic, 3)) (d7 : decode cc (pc + 7) = .ok (.athrow, 1)) :
    W p l e R s m args below meth c H locs 0 0 (jx_QT below (jf_Qx D E A fo pl S k) args s 1 6 A) (F0 m pc ls rest) := by
  have hKn := hV.1.1 k _ hk
  refine jx_newT (names := ["java/lang/RuntimeException", "java/lang/Exception"]) hfl hx hb hml hls hown hcls (by decide) h1 h2 h3 hcl hini hV.2.1 hS hKn.2.1 (by omega) (by omega) (by have := hlv.1; show 2 + 3 < R.frames; omega) (by have := hlv.2; show _ + 1 + (13 * (2 + 1) + 41) ≤ R.locals; omega) d0 d3 d4 (fun H1 z1 o1 hce => ?_)
  obtain ⟨ce, hce1, hce2, hce3⟩ := hce
  have hS1 : va_S A s.heap H1 locs := ⟨Nat.le_trans hS.1 (by omega), fun q h1 h2 => (o1 q (Nat.lt_of_lt_of_le h1 hS.1)).trans (hS.2.1 q h1 h2), hS.2.2⟩
  exact jx_throwOut hx hb het hlk (fun t ht hW => ⟨⟨⟨ce, by rw [ht]; exact hce1, hce2, hce3⟩, fun h => absurd h h16⟩, ⟨by rw [ht]; exact hP.kept o1, hV.moved hW (by rw [ht]; exact hS1.1) (fun a h1 h2 => by rw [ht]; exact hS1.2.1 a h1 h2)⟩, hS1.F ht⟩) hS.2.2 d7
/-- a call of a method of an object that throws: the caller throws the same -/
theorem jf_outV {y : MethodName} {bytes : ByteArray} {maxL nL lv lv' ix n q0 b k : Nat} {rt : Option FieldType} {stk fs : List Value} (hx : p.tables.exec = Jvm.exec) (hb : c.code = cc) (hml : c.maxLocals = nL) (hown : s.vm.findClass own = some m.cls) (hts : ∀ w ∈ lw_all, w.before args s = true) (hlv : jx_hr R lv) (hV : jf_V D E A s) (het : c.exceptionTable.isEmpty = true) (hlk : meth.locks = false) {As : List Value} (hM : jf_Mx l D E A fo pl y bytes maxL rt lv' (.ref b :: As) S S1 k) (hg : GoodIn lw_all (wsV own ix C y (ws_ y bytes maxL rt))) (hd : y.cls = C ∧ y.cls ≠ "java/lang/invoke/MethodHandle" ∧ y.cls ≠ "java/lang/invoke/VarHandle" ∧ (parseMethodDescriptor y.desc).map (fun d => d.parameters.length) = some n) (h1 : lv' + 1 ≤ lv) (h2 : maxL ≤ 21) (hcx : 1 ≤ R.cells ∧ 6 ≤ R.slots) (hP : jf_P D E A S fo pl H) (hS : va_S A s.heap H locs) (he : (jf_ws E S fo pl)[q0]? = some (b, .inr (ci, fs))) (hc : jx_cl[ci]? = some (C, T, N)) (hls : ls.size = nL) (hn : As.length = n) (hst : stk = As.reverse ++ .ref b :: rest) (hW : 2 * (F0 m pc ls stk).monitorRoom + (rest.map fun v => v.category).sum ≤ 8) (hdg : decode cc pc = .ok (.invokevirtual ix, 3)) :
    W p l e R s m args below meth c H locs 0 0 (jx_QT below (jf_Qx D E A fo pl S1 k) args s 1 6 A) (F0 m pc ls stk) := by
  unfold jf_Mx at hM
  refine jx_callOut (mc := 1) (ms := 6) (jx_runVT (As := As) (rest := rest) (C := C) (own := own) (index := ix) ⟨hx, hb, hml, hown, hts⟩ hM (cwV n hts hg rfl rfl rfl hd ⟨Nat.le_trans h1 hlv.1, by have := hlv.2; show 8 + (maxL + 11) + 40 * lv' ≤ R.locals; omega⟩) ⟨jf_U.blind, va_recv hV.1 hP.1 (ci := ci) (q0 := q0) hc he, fun U hU hW => ⟨rfl, by rw [hU]; exact hP, hV.moved hW (by rw [hU]; exact hS.1) (fun a h1 h2 => by rw [hU]; exact hS.2.1 a h1 h2)⟩⟩ rfl hn hls hst hW hdg ⟨by omega, by omega⟩) het hlk (fun x st0 t t2 h0 hq e2 hW2 => ?_) hS.2.2 (fun _ h => h)
  obtain ⟨⟨⟨ce, g1, g2, g3⟩, g4⟩, ⟨hP1, hV1⟩, hF⟩ := hq
  refine ⟨⟨⟨ce, by rw [e2]; exact g1, g2, g3⟩, g4⟩, ⟨by rw [e2]; exact hP1, hV.moved hW2 ?_ ?_⟩, ?_, ?_⟩
  · rw [e2]; exact Nat.le_trans hS.1 (by have := hF.1; rw [h0] at this; exact this)
  · intro a h1 h2; rw [e2, hF.2 a (by rw [h0]; exact Nat.lt_of_lt_of_le h1 hS.1) h2, h0]; exact hS.2.1 a h1 h2
  · rw [e2]; exact Nat.le_trans hS.1 (by have := hF.1; rw [h0] at this; exact this)
  · intro a h1 h2; rw [e2, hF.2 a (by rw [h0]; exact Nat.lt_of_lt_of_le h1 hS.1) h2, h0]; exact hS.2.1 a h1 h2
theorem jf_outS {y : MethodName} {bytes : ByteArray} {maxL nL lv lv' ix n k : Nat} {rt : Option FieldType} {stk : List Value} (hx : p.tables.exec = Jvm.exec) (hb : c.code = cc) (hml : c.maxLocals = nL) (hown : s.vm.findClass own = some m.cls) (hts : ∀ w ∈ lw_all, w.before args s = true) (hlv : jx_hr R lv) (hV : jf_V D E A s) (het : c.exceptionTable.isEmpty = true) (hlk : meth.locks = false) {As : List Value} (hM : jf_Mx l D E A fo pl y bytes maxL rt lv' As S S1 k) (hg : GoodIn lw_all (va_wsS own ix y (ws_ y bytes maxL rt))) (hd : y.cls ≠ "java/lang/invoke/MethodHandle" ∧ y.cls ≠ "java/lang/invoke/VarHandle" ∧ (parseMethodDescriptor y.desc).map (fun d => d.parameters.length) = some n) (h1 : lv' + 1 ≤ lv) (h2 : maxL ≤ 21) (hcx : 1 ≤ R.cells ∧ 6 ≤ R.slots) (hP : jf_P D E A S fo pl H) (hS : va_S A s.heap H locs) (hls : ls.size = nL) (hn : As.length = n) (hst : stk = As.reverse ++ rest) (hW : 2 * (F0 m pc ls stk).monitorRoom + (rest.map fun v => v.category).sum ≤ 8) (hdg : decode cc pc = .ok (.invokestatic ix, 3)) :
    W p l e R s m args below meth c H locs 0 0 (jx_QT below (jf_Qx D E A fo pl S1 k) args s 1 6 A) (F0 m pc ls stk) := by
  unfold jf_Mx at hM
  refine jx_callOut (mc := 1) (ms := 6) (jx_runST (As := As) (rest := rest) (own := own) (index := ix) ⟨hx, hb, hml, hown, hts⟩ hM (va_cwS n hts hg rfl rfl rfl hd ⟨Nat.le_trans h1 hlv.1, by have := hlv.2; show 8 + (maxL + 11) + 40 * lv' ≤ R.locals; omega⟩) ⟨jf_U.blind, fun U hU hW => ⟨rfl, by rw [hU]; exact hP, hV.moved hW (by rw [hU]; exact hS.1) (fun a h1 h2 => by rw [hU]; exact hS.2.1 a h1 h2)⟩⟩ rfl hn hls hst hW hdg ⟨by omega, by omega⟩) het hlk (fun x st0 t t2 h0 hq e2 hW2 => ?_) hS.2.2 (fun _ h => h)
  obtain ⟨⟨⟨ce, g1, g2, g3⟩, g4⟩, ⟨hP1, hV1⟩, hF⟩ := hq
  refine ⟨⟨⟨ce, by rw [e2]; exact g1, g2, g3⟩, g4⟩, ⟨by rw [e2]; exact hP1, hV.moved hW2 ?_ ?_⟩, ?_, ?_⟩
  · rw [e2]; exact Nat.le_trans hS.1 (by have := hF.1; rw [h0] at this; exact this)
  · intro a h1 h2; rw [e2, hF.2 a (by rw [h0]; exact Nat.lt_of_lt_of_le h1 hS.1) h2, h0]; exact hS.2.1 a h1 h2
  · rw [e2]; exact Nat.le_trans hS.1 (by have := hF.1; rw [h0] at this; exact this)
  · intro a h1 h2; rw [e2, hF.2 a (by rw [h0]; exact Nat.lt_of_lt_of_le h1 hS.1) h2, h0]; exact hS.2.1 a h1 h2
/-- a static void method of the component's that returns -/
theorem jf_callVS {out : jf_S} {y : MethodName} {bytes : ByteArray} {maxL nL lv lv' ix n : Nat} {rt : Option FieldType} {stk : List Value} (hx : p.tables.exec = Jvm.exec) (hb : c.code = cc) (hml : c.maxLocals = nL) (hown : s.vm.findClass own = some m.cls) (hts : ∀ w ∈ lw_all, w.before args s = true) (hlv : jx_hr R lv) (hV : jf_V D E A s) {As : List Value} (hM : jf_Mv l D E A fo pl y bytes maxL rt lv' As S out) (hg : GoodIn lw_all (va_wsS own ix y (ws_ y bytes maxL rt))) (hd : y.cls ≠ "java/lang/invoke/MethodHandle" ∧ y.cls ≠ "java/lang/invoke/VarHandle" ∧ (parseMethodDescriptor y.desc).map (fun d => d.parameters.length) = some n) (h1 : lv' + 1 ≤ lv) (h2 : maxL ≤ 21) (hP : jf_P D E A S fo pl H) (hS : va_S A s.heap H locs) (hls : ls.size = nL) (hn : As.length = n) (hst : stk = As.reverse ++ rest) (hW : 2 * (F0 m pc ls stk).monitorRoom + (rest.map fun v => v.category).sum ≤ 8) (hdg : decode cc pc = .ok (.invokestatic ix, 3))
    (kk : ∀ (H : Heap) (locs : List Loc), jf_P D E A out fo pl H → va_S A s.heap H locs → W p l e R s m args below meth c H locs 0 0 Q (F0 m (pc + 3) ls rest)) : W p l e R s m args below meth c H locs 0 0 Q (F0 m pc ls stk) := by
  unfold jf_Mv at hM
  refine va_callv (va_runS (As := As) (rest := rest) (own := own) (index := ix) ⟨hx, hb, hml, hown, hts⟩ hM (va_cwS n hts hg rfl rfl rfl hd ⟨Nat.le_trans h1 hlv.1, by have := hlv.2; show 8 + (maxL + 11) + 40 * lv' ≤ R.locals; omega⟩) ⟨jf_U.blind, fun U hU hW => ⟨rfl, by rw [hU]; exact hP, hV.moved hW (by rw [hU]; exact hS.1) (fun a h1 h2 => by rw [hU]; exact hS.2.1 a h1 h2)⟩⟩ rfl hn hls hst hW hdg ⟨Nat.zero_le _, Nat.zero_le _⟩) hS (fun _ _ h => h) (fun _ h => h) (fun u t H1 l1 ht hvm hp hB hz hk hS1 => ?_)
  subst hp
  obtain ⟨hP1, -⟩ := hB
  rw [ht] at hP1
  exact kk H1 l1 hP1 hS1
/-- a call that answers an order -/
theorem jf_callO {out : jo_R × jf_S} {y : MethodName} {bytes : ByteArray} {maxL nL lv lv' ix n q0 b : Nat} {rt : Option FieldType} {stk fs : List Value} (hx : p.tables.exec = Jvm.exec) (hb : c.code = cc) (hml : c.maxLocals = nL) (hown : s.vm.findClass own = some m.cls) (hts : ∀ w ∈ lw_all, w.before args s = true) (hlv : jx_hr R lv) (hV : jf_V D E A s) {As : List Value} (hM : jf_Mo l D E A fo pl y bytes maxL rt lv' (.ref b :: As) S out) (hg : GoodIn lw_all (wsV own ix C y (ws_ y bytes maxL rt))) (hd : y.cls = C ∧ y.cls ≠ "java/lang/invoke/MethodHandle" ∧ y.cls ≠ "java/lang/invoke/VarHandle" ∧ (parseMethodDescriptor y.desc).map (fun d => d.parameters.length) = some n) (h1 : lv' + 1 ≤ lv) (h2 : maxL ≤ 21) (hP : jf_P D E A S fo pl H) (hS : va_S A s.heap H locs) (he : (jf_ws E S fo pl)[q0]? = some (b, .inr (ci, fs))) (hc : jx_cl[ci]? = some (C, T, N)) (hls : ls.size = nL) (hn : As.length = n) (hst : stk = As.reverse ++ .ref b :: rest) (hW : 2 * (F0 m pc ls stk).monitorRoom + (rest.map fun v => v.category).sum ≤ 8) (hdg : decode cc pc = .ok (.invokevirtual ix, 3))
    (kk : ∀ (a : Nat) (H : Heap) (locs : List Loc), jo_Is pl a out.1 → jf_P D E A out.2 fo pl H → va_S A s.heap H locs → W p l e R s m args below meth c H locs 0 0 Q (F0 m (pc + 3) ls (.ref a :: rest))) : W p l e R s m args below meth c H locs 0 0 Q (F0 m pc ls stk) := by
  unfold jf_Mo at hM
  refine va_callr (va_runV (As := As) (rest := rest) (C := C) (own := own) (index := ix) ⟨hx, hb, hml, hown, hts⟩ hM (cwV n hts hg rfl rfl rfl hd ⟨Nat.le_trans h1 hlv.1, by have := hlv.2; show 8 + (maxL + 11) + 40 * lv' ≤ R.locals; omega⟩) ⟨jf_U.blind, va_recv hV.1 hP.1 (ci := ci) (q0 := q0) hc he, fun U hU hW => ⟨rfl, by rw [hU]; exact hP, hV.moved hW (by rw [hU]; exact hS.1) (fun a h1 h2 => by rw [hU]; exact hS.2.1 a h1 h2)⟩⟩ rfl hn hls hst hW hdg ⟨Nat.zero_le _, Nat.zero_le _⟩) hS (fun _ _ h => h) (fun _ h => h) (fun u ra t H1 l1 ht hvm hp hB hz hk hS1 => ?_)
  subst hp
  obtain ⟨hI, hP1, -⟩ := hB
  rw [ht] at hP1
  exact kk ra H1 l1 hI hP1 hS1
theorem jf_xiret {v : Int32} {out : (Int32 ⊕ Nat) × jf_S} (hx : p.tables.exec = Jvm.exec) (hb : c.code = cc) (hr : meth.sig.returnType = some .int) (hlk : meth.locks = false) (hV : jf_V D E A s) (hP : jf_P D E A S fo pl H) (hS : va_S A s.heap H locs) (h : some (Sum.inl v, S) = some out) (hdg : decode cc pc = .ok (.ireturn, 1)) : W p l e R s m args below meth c H locs 0 0 (jf_QXi below args s A D E fo pl out) (F0 m pc ls [.int v]) := by
  cases h
  exact jf_iret hx hb hr hlk hV hP hS rfl hdg
theorem jf_xzret {v : Int32} {out : (Int32 ⊕ Nat) × jf_S} (hx : p.tables.exec = Jvm.exec) (hb : c.code = cc) (hr : meth.sig.returnType = some .boolean) (hlk : meth.locks = false) (hV : jf_V D E A s) (hP : jf_P D E A S fo pl H) (hS : va_S A s.heap H locs) (hn : narrow .boolean (.int v) = .int v ∧ fits .boolean (.int v) = true) (h : some (Sum.inl v, S) = some out) (hdg : decode cc pc = .ok (.ireturn, 1)) : W p l e R s m args below meth c H locs 0 0 (jf_QXi below args s A D E fo pl out) (F0 m pc ls [.int v]) := by
  cases h
  exact jf_zret hx hb hr hlk hV hP hS hn rfl hdg
theorem jf_xlret {v : Int64} {out : (Int64 ⊕ Nat) × jf_S} (hx : p.tables.exec = Jvm.exec) (hb : c.code = cc) (hr : meth.sig.returnType = some .long) (hlk : meth.locks = false) (hV : jf_V D E A s) (hP : jf_P D E A S fo pl H) (hS : va_S A s.heap H locs) (h : some (Sum.inl v, S) = some out) (hdg : decode cc pc = .ok (.lreturn, 1)) : W p l e R s m args below meth c H locs 0 0 (jf_QXl below args s A D E fo pl out) (F0 m pc ls [.long v]) := by
  cases h
  exact jf_lret hx hb hr hlk hV hP hS rfl hdg
theorem jf_xvret {out : (Unit ⊕ Nat) × jf_S} (hx : p.tables.exec = Jvm.exec) (hb : c.code = cc) (hr : meth.sig.returnType = none) (hlk : meth.locks = false) (hV : jf_V D E A s) (hP : jf_P D E A S fo pl H) (hS : va_S A s.heap H locs) (h : some (Sum.inl (), S) = some out) (hdg : decode cc pc = .ok (.return_, 1)) : W p l e R s m args below meth c H locs 0 0 (jf_QXv below args s A D E fo pl out) (F0 m pc ls []) := by
  cases h
  exact jf_vret hx hb hr hlk hV hP hS rfl hdg
theorem jf_xoret {v : jo_R} {a : Nat} {n : String} {out : (jo_R ⊕ Nat) × jf_S} (hx : p.tables.exec = Jvm.exec) (hb : c.code = cc) (hr : meth.sig.returnType = some (.object n)) (hlk : meth.locks = false) (hV : jf_V D E A s) (hP : jf_P D E A S fo pl H) (hS : va_S A s.heap H locs) (hi : jo_Is pl a v) (h : some (Sum.inl v, S) = some out) (hdg : decode cc pc = .ok (.areturn, 1)) : W p l e R s m args below meth c H locs 0 0 (jf_QXo below args s A D E fo pl out) (F0 m pc ls [.ref a]) := by
  cases h
  show W p l e R s m args below meth c H locs 0 0 (jf_Qo below args s A D E fo pl (v, S)) (F0 m pc ls [.ref a])
  unfold jf_Qo
  exact W.aret (v := .ref a) hx hb hr (Or.inl ⟨n, rfl⟩) (Or.inr ⟨a, rfl⟩) (fun t ht hW => ⟨⟨S, a, rfl, rfl, hi, by rw [ht]; exact hP, hV.moved hW (by rw [ht]; exact hS.1) (fun a h1 h2 => by rw [ht]; exact hS.2.1 a h1 h2)⟩, hS.F ht⟩) hS.2.2 hdg hlk
/-- 'throw wrong' that leaves: the reader's own throwable -/
theorem jf_throwOld (hx : p.tables.exec = Jvm.exec) (hb : c.code = cc) (het : c.exceptionTable.isEmpty = true) (hlk : meth.locks = false) (hV : jf_V D E A s) (hP : jf_P D E A S fo pl H) (hS : va_S A s.heap H locs) (hdg : decode cc pc = .ok (.athrow, 1)) :
    W p l e R s m args below meth c H locs 0 0 (jx_QT below (jf_Qx D E A fo pl S 16) args s 1 6 A) (F0 m pc ls (.ref (E.1 2) :: rest)) := by
  obtain ⟨q', hq', ce, g1, g2, g3, -⟩ := hP.1 2 _ jf_o2
  intro T hT X
  obtain ⟨t, a1, x, b1, b2, b3, L, ⟨c1, c2⟩, c3⟩ := jx_throwOut (Qc := jf_Qx D E A fo pl S 16) (free := A) hx hb het hlk (fun t ht hW => ⟨⟨⟨ce, by rw [ht]; exact g1, g2, by rw [g3]; rfl⟩, fun _ => rfl⟩, ⟨by rw [ht]; exact hP, hV.moved hW (by rw [ht]; exact hS.1) (fun a h1 h2 => by rw [ht]; exact hS.2.1 a h1 h2)⟩, hS.F ht⟩) hS.2.2 hdg T hT X
  exact ⟨t, a1, x, b1, b2, b3, L, ⟨c1, c2.mono (Nat.zero_le _) (Nat.zero_le _)⟩, c3⟩
/-- strings of the reader -/
theorem jf_ldcS {i ix cells slots : Nat} {tx : String} (hx : p.tables.exec = Jvm.exec) (hb : c.code = cc) (hown : s.vm.findClass RX2 = some m.cls) (hV : jf_V D E A s) (hi : i < 14) (hix : jf_sx i = ix) (htx : jx_st.getD i "" = tx) (hdg : decode cc pc = .ok (.ldc ix, 2))
    (kk : W p l e R s m args below meth c H locs cells slots Q (F0 m (pc + 2) ls (.ref (E.2.2.2.1 i) :: rest))) : W p l e R s m args below meth c H locs cells slots Q (F0 m pc ls rest) := by
  subst hix
  subst htx
  exact va_ldcS hx hb hown (hV.2.1.1 i hi).1 hdg kk
theorem jf_slen {i nL lv : Nat} (hx : p.tables.exec = Jvm.exec) (hb : c.code = cc) (hml : c.maxLocals = nL) (hown : s.vm.findClass RX2 = some m.cls) (hts : ∀ w ∈ lw_all, w.before args s = true) (hlv : jx_hr R lv) (hV : jf_V D E A s) (hS : va_S A s.heap H locs) (hls : ls.size = nL) (hW : 2 * (F0 m pc ls (.ref (E.2.2.2.1 i) :: rest)).monitorRoom + (rest.map fun v => v.category).sum ≤ 8) (hi : i < 14) (h6 : 2 ≤ lv) (hdg : decode cc pc = .ok (.invokevirtual 68, 3))
    (kk : W p l e R s m args below meth c H locs 0 0 Q (F0 m (pc + 3) ls (.int (nI (jx_sl i)) :: rest))) : W p l e R s m args below meth c H locs 0 0 Q (F0 m pc ls (.ref (E.2.2.2.1 i) :: rest)) := by
  have hB : ∀ U : State, U.heap = H → s.WarmedH U.vm → jx_sB A i (E.2.2.2.1 i) U := fun U hU hW => jx_sB.moved (s := s) hW (fun a h1 h2 => by rw [hU]; exact hS.2.1 a h1 h2) ⟨hi, (hV.2.1.1 i hi).2, hV.2.1.2.1⟩
  obtain ⟨v, ⟨cell, g1, g2, g3, g4⟩, -⟩ := (hV.2.1.1 i hi).2
  refine jx_callVs (As := []) (rest := rest) (C := RJ3) (lv' := 1) hx hb hml hown hts jx_length_met jx_sB.blind hB ⟨cell, by rw [hS.2.1 _ (Array.getElem?_eq_some_iff.mp g1).1 g4]; exact g1, g2, g3⟩ (lw_V q965 q966 q967 q111 q968) (n := 0) (by decide +kernel) ⟨Nat.le_trans h6 hlv.1, by have := hlv.2; show 8 + (1 + 11) + 40 * 1 ≤ R.locals; omega⟩ hls rfl rfl hW hdg ⟨Nat.zero_le _, Nat.zero_le _⟩ kk
theorem jf_schar {i nL lv j : Nat} {x : Int32} (hx : p.tables.exec = Jvm.exec) (hb : c.code = cc) (hml : c.maxLocals = nL) (hown : s.vm.findClass RX2 = some m.cls) (hts : ∀ w ∈ lw_all, w.before args s = true) (hlv : jx_hr R lv) (hV : jf_V D E A s) (hS : va_S A s.heap H locs) (hls : ls.size = nL) (hW : 2 * (F0 m pc ls (.int x :: .ref (E.2.2.2.1 i) :: rest)).monitorRoom + (rest.map fun v => v.category).sum ≤ 8) (hi : i < 14) (h6 : 4 ≤ lv) (ej : j = x.toNatClampNeg) (hin : vp_in x (jx_sl i)) (hdg : decode cc pc = .ok (.invokevirtual 71, 3))
    (kk : W p l e R s m args below meth c H locs 0 0 Q (F0 m (pc + 3) ls (.int (jx_sc i j) :: rest))) : W p l e R s m args below meth c H locs 0 0 Q (F0 m pc ls (.int x :: .ref (E.2.2.2.1 i) :: rest)) := by
  have hB : ∀ U : State, U.heap = H → s.WarmedH U.vm → jx_sB A i (E.2.2.2.1 i) U := fun U hU hW => jx_sB.moved (s := s) hW (fun a h1 h2 => by rw [hU]; exact hS.2.1 a h1 h2) ⟨hi, (hV.2.1.1 i hi).2, hV.2.1.2.1⟩
  obtain ⟨v, ⟨cell, g1, g2, g3, g4⟩, -⟩ := (hV.2.1.1 i hi).2
  refine jx_callVs (As := [.int x]) (rest := rest) (C := RJ3) (lv' := 3) hx hb hml hown hts (jx_charAt_met ej hin) jx_sB.blind hB ⟨cell, by rw [hS.2.1 _ (Array.getElem?_eq_some_iff.mp g1).1 g4]; exact g1, g2, g3⟩ (lw_V q975 q976 q977 q111 q978) (n := 1) (by decide +kernel) ⟨Nat.le_trans h6 hlv.1, by have := hlv.2; show 8 + (2 + 11) + 40 * 3 ≤ R.locals; omega⟩ hls rfl rfl hW hdg ⟨Nat.zero_le _, Nat.zero_le _⟩ kk
end

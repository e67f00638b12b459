set_option maxRecDepth 100000
/-! contracts of methods that change which orders lie where: answers hold for some fo, pl -/
abbrev jg_T : Type := (Nat → Nat → Option Nat) × va_W
def jg_Qx (D : va_G) (E : jf_E) (A : Nat → Prop) (S : jf_S) (k : Nat) : Array Value → State → Addr → State → Prop := fun _ st x t => jx_exc D E k x t ∧ (∃ u : jg_T, jf_U D E A S u.1 u.2 t) ∧ va_F A st t
def jg_Mv (l : Launch) (D : va_G) (E : jf_E) (A : Nat → Prop) (fo : Nat → Nat → Option Nat) (pl : va_W) (y : MethodName) (cc : ByteArray) (nL : Nat) (rt : Option FieldType) (lv mc ms : Nat) (As : List Value) (S : jf_S) (out : (Unit ⊕ Nat) × jf_S) : Prop := match out.1 with
  | .inl _ => Met l y (ws_ y cc nL rt) (jx_rmA lv mc ms) (va_Pc As (jf_U D E A S fo pl)) (va_Qv (fun _ : jg_T => True) (fun u t => jf_U D E A out.2 u.1 u.2 t) A) mc ms A
  | .inr k => jx_MetT l y (ws_ y cc nL rt) (jx_rmA lv mc ms) (va_Pc As (jf_U D E A S fo pl)) (jg_Qx D E A out.2 k) mc ms A
def jg_Qv (below : List Frame) (args : Array Value) (s : State) (A : Nat → Prop) (D : va_G) (E : jf_E) (mc ms : Nat) (out : (Unit ⊕ Nat) × jf_S) : State → Prop := match out.1 with
  | .inl _ => MQ below (va_Qv (fun _ : jg_T => True) (fun u t => jf_U D E A out.2 u.1 u.2 t) A) args s mc ms A
  | .inr k => jx_QT below (jg_Qx D E A out.2 k) args s mc ms A
def jg_Mi (l : Launch) (D : va_G) (E : jf_E) (A : Nat → Prop) (fo : Nat → Nat → Option Nat) (pl : va_W) (y : MethodName) (cc : ByteArray) (nL : Nat) (rt : Option FieldType) (lv mc ms : Nat) (As : List Value) (S : jf_S) (out : (Int32 ⊕ Nat) × jf_S) : Prop := match out.1 with
  | .inl v => Met l y (ws_ y cc nL rt) (jx_rmA lv mc ms) (va_Pc As (jf_U D E A S fo pl)) (va_Qi (fun r (_ : jg_T) => r = v) (fun u t => jf_U D E A out.2 u.1 u.2 t) A) mc ms A
  | .inr k => jx_MetT l y (ws_ y cc nL rt) (jx_rmA lv mc ms) (va_Pc As (jf_U D E A S fo pl)) (jg_Qx D E A out.2 k) mc ms A
def jg_Qi (below : List Frame) (args : Array Value) (s : State) (A : Nat → Prop) (D : va_G) (E : jf_E) (mc ms : Nat) (out : (Int32 ⊕ Nat) × jf_S) : State → Prop := match out.1 with
  | .inl v => MQ below (va_Qi (fun r (_ : jg_T) => r = v) (fun u t => jf_U D E A out.2 u.1 u.2 t) A) args s mc ms A
  | .inr k => jx_QT below (jg_Qx D E A out.2 k) args s mc ms A
def jg_J (p : Program) (l : Launch) (e : Env) (R : Room) (s : State) (m : MethodId) (args : Array Value) (below : List Frame) (meth : Method) (c : Code) (A : Nat → Prop) (D : va_G) (E : jf_E) (nL cells slots : Nat) (Q : State → Prop) (pc : Nat) (lv : List (Nat × Value)) (stk : List Value) (S : jf_S) : Prop :=
  ∀ ⦃fo : Nat → Nat → Option Nat⦄ ⦃pl : va_W⦄ (H : Heap) (locs : List Loc) (ls : Array Slot), jf_P D E A S fo pl H → va_S A s.heap H locs → lv_has ls nL lv → W p l e R s m args below meth c H locs cells slots Q (F0 m pc ls stk)
section
variable {p : Program} {l : Launch} {e : Env} {R : Room} {s : State} {m : MethodId} {args : Array Value} {below : List Frame} {meth : Method} {c : Code} {H : Heap} {locs : List Loc} {cells slots : Nat} {Q : State → Prop} {pc : Nat} {ls : Array Slot} {rest : List Value} {A : Nat → Prop} {D : va_G} {E E0 : jf_E} {fo : Nat → Nat → Option Nat} {pl pl0 : va_W} {cc : ByteArray} {S S1 : jf_S} {own C : String} {T : u_T} {N ci : Nat}
theorem jg_mono {Q' : State → Prop} {g : JFrame} (h : ∀ t, Q t → Q' t) (k : W p l e R s m args below meth c H locs cells slots Q g) : W p l e R s m args below meth c H locs cells slots Q' g := fun T hT X => by
  obtain ⟨t, a, b⟩ := k T hT X
  exact ⟨t, a, h t b⟩
theorem jg_QT {mc ms k : Nat} {t : State} (h : jx_QT below (jr_Qx D E A fo pl S k) args s mc ms A t) : jx_QT below (jg_Qx D E A S k) args s mc ms A t := by
  obtain ⟨x, h1, h2, ⟨h3, ⟨pl1, -, h4⟩, h5⟩, h6⟩ := h
  exact ⟨x, h1, h2, ⟨h3, ⟨(fo, pl1), h4⟩, h5⟩, h6⟩
theorem jg_vret {out : (Unit ⊕ Nat) × jf_S} (hx : p.tables.exec = Jvm.exec) (hb : c.code = cc) (hr : meth.sig.returnType = none) (hlk : meth.locks = false) (hV : jf_V D E A s) (hP : jf_P D E A S fo pl H) (hS : va_S A s.heap H locs) (h : some (Sum.inl (), S) = some out) (hdg : decode cc pc = .ok (.return_, 1)) : W p l e R s m args below meth c H locs cells slots (jg_Qv below args s A D E cells slots out) (F0 m pc ls []) := by
  cases h
  show W p l e R s m args below meth c H locs cells slots (MQ below (va_Qv (fun _ : jg_T => True) (fun u t => jf_U D E A S u.1 u.2 t) A) args s cells slots A) _
  exact W.vret hx hb hr (fun t ht hW => ⟨⟨(fo, pl), rfl, trivial, (by rw [ht]; exact hP), hV.moved hW (by rw [ht]; exact hS.1) (fun a h1 h2 => by rw [ht]; exact hS.2.1 a h1 h2)⟩, hS.F ht⟩) hS.2.2 hdg hlk
theorem jg_iret {v : Int32} {out : (Int32 ⊕ Nat) × jf_S} (hx : p.tables.exec = Jvm.exec) (hb : c.code = cc) (hr : meth.sig.returnType = some .int) (hlk : meth.locks = false) (hV : jf_V D E A s) (hP : jf_P D E A S fo pl H) (hS : va_S A s.heap H locs) (h : some (Sum.inl v, S) = some out) (hdg : decode cc pc = .ok (.ireturn, 1)) : W p l e R s m args below meth c H locs cells slots (jg_Qi below args s A D E cells slots out) (F0 m pc ls [.int v]) := by
  cases h
  show W p l e R s m args below meth c H locs cells slots (MQ below (va_Qi (fun r (_ : jg_T) => r = v) (fun u t => jf_U D E A S u.1 u.2 t) A) args s cells slots A) _
  exact W.iret (v := v) hx hb hr (fun t ht hW => ⟨⟨v, (fo, pl), rfl, rfl, (by rw [ht]; exact hP), hV.moved hW (by rw [ht]; exact hS.1) (fun a h1 h2 => by rw [ht]; exact hS.2.1 a h1 h2)⟩, hS.F ht⟩) hS.2.2 hdg hlk
theorem jg_zret {v : Int32} {out : (Int32 ⊕ Nat) × jf_S} (hx : p.tables.exec = Jvm.exec) (hb : c.code = cc) (hr : meth.sig.returnType = some .boolean) (hlk : meth.locks = false) (hV : jf_V D E A s) (hP : jf_P D E A S fo pl H) (hS : va_S A s.heap H locs) (hn : narrow .boolean (.int v) = .int v ∧ fits .boolean (.int v) = true) (h : some (Sum.inl v, S) = some out) (hdg : decode cc pc = .ok (.ireturn, 1)) : W p l e R s m args below meth c H locs cells slots (jg_Qi below args s A D E cells slots out) (F0 m pc ls [.int v]) := by
  cases h
  show W p l e R s m args below meth c H locs cells slots (MQ below (va_Qi (fun r (_ : jg_T) => r = v) (fun u t => jf_U D E A S u.1 u.2 t) A) args s cells slots A) _
  exact W.zret (v := v) hx hb hr hn.1 (fun t ht hW => ⟨⟨v, (fo, pl), rfl, rfl, (by rw [ht]; exact hP), hV.moved hW (by rw [ht]; exact hS.1) (fun a h1 h2 => by rw [ht]; exact hS.2.1 a h1 h2)⟩, hS.F ht⟩) hS.2.2 hdg hlk
theorem jg_Mv_of {out : (Unit ⊕ Nat) × jf_S} {y : MethodName} {nL lv mc ms : Nat} {rt : Option FieldType} {As : List Value} (hfl : l.flags = flags0) (hy : plainName y.cls = true ∧ y.cls = own ∧ (lg_sl As).length ≤ nL)
    (body : ∀ {p : Program} {e : Env} {s : State} {m : MethodId} {args : Array Value} {below : List Frame} {meth : Method} {c : Code}, jr_Ok own l p (jx_rmA lv mc ms) s m args meth c A D E cc nL rt lv mc ms → jg_J p l e (jx_rmA lv mc ms) s m args below meth c A D E nL 0 0 (jg_Qv below args s A D E mc ms out) 0 (lv_args 0 As) [] S) : jg_Mv l D E A fo pl y cc nL rt lv mc ms As S out := by
  obtain ⟨o1, o2⟩ := out
  cases o1 with
  | inl v =>
    refine Met.ofW (cc := cc) (maxL := nL) (ret := rt) hy.1 rfl ?_
    intro p e s m args below meth c s₁ B hml hv
    obtain ⟨rfl, hP, hV⟩ := hv
    have hts0 := atoms_spec (ws := ws_ y cc nL rt) B.pre
    have hts : ∀ w ∈ lw_all, w.before _ s = true := fun w h => hts0 w (List.mem_cons_of_mem _ h)
    have hown : s.vm.findClass own = some m.cls := by
      have h := findClass_of_methodNamed B.named
      rw [hy.2.1] at h
      exact h
    have hl := lv_entry As (n := nL) hy.2.2
    rw [lg_entry_eq]
    have hJ := body (p := p) (e := e) (s := s) (m := m) (below := below) (meth := meth) (c := c) ⟨⟨B.exec, B.bytes, hml, hown, hts, B.notSynchronized, B.returns, ⟨Nat.le_refl _, Nat.le_refl _⟩, hV, B.noHandlers (hts0 _ List.mem_cons_self)⟩, hfl, Nat.le_refl _, Nat.le_refl _⟩
    exact hJ _ _ _ hP va_S.rf hl
  | inr k =>
    refine jx_MetT_ofW (cc := cc) (maxL := nL) (ret := rt) hy.1 rfl ?_
    intro p e s m args below meth c s₁ B hml hv
    obtain ⟨rfl, hP, hV⟩ := hv
    have hts0 := atoms_spec (ws := ws_ y cc nL rt) B.pre
    have hts : ∀ w ∈ lw_all, w.before _ s = true := fun w h => hts0 w (List.mem_cons_of_mem _ h)
    have hown : s.vm.findClass own = some m.cls := by
      have h := findClass_of_methodNamed B.named
      rw [hy.2.1] at h
      exact h
    have hl := lv_entry As (n := nL) hy.2.2
    rw [lg_entry_eq]
    have hJ := body (p := p) (e := e) (s := s) (m := m) (below := below) (meth := meth) (c := c) ⟨⟨B.exec, B.bytes, hml, hown, hts, B.notSynchronized, B.returns, ⟨Nat.le_refl _, Nat.le_refl _⟩, hV, B.noHandlers (hts0 _ List.mem_cons_self)⟩, hfl, Nat.le_refl _, Nat.le_refl _⟩
    exact hJ _ _ _ hP va_S.rf hl
theorem jg_Mi_of {out : (Int32 ⊕ Nat) × jf_S} {y : MethodName} {nL lv mc ms : Nat} {rt : Option FieldType} {As : List Value} (hfl : l.flags = flags0) (hy : plainName y.cls = true ∧ y.cls = own ∧ (lg_sl As).length ≤ nL)
    (body : ∀ {p : Program} {e : Env} {s : State} {m : MethodId} {args : Array Value} {below : List Frame} {meth : Method} {c : Code}, jr_Ok own l p (jx_rmA lv mc ms) s m args meth c A D E cc nL rt lv mc ms → jg_J p l e (jx_rmA lv mc ms) s m args below meth c A D E nL 0 0 (jg_Qi below args s A D E mc ms out) 0 (lv_args 0 As) [] S) : jg_Mi l D E A fo pl y cc nL rt lv mc ms As S out := by
  obtain ⟨o1, o2⟩ := out
  cases o1 with
  | inl v =>
    refine Met.ofW (cc := cc) (maxL := nL) (ret := rt) hy.1 rfl ?_
    intro p e s m args below meth c s₁ B hml hv
    obtain ⟨rfl, hP, hV⟩ := hv
    have hts0 := atoms_spec (ws := ws_ y cc nL rt) B.pre
    have hts : ∀ w ∈ lw_all, w.before _ s = true := fun w h => hts0 w (List.mem_cons_of_mem _ h)
    have hown : s.vm.findClass own = some m.cls := by
      have h := findClass_of_methodNamed B.named
      rw [hy.2.1] at h
      exact h
    have hl := lv_entry As (n := nL) hy.2.2
    rw [lg_entry_eq]
    have hJ := body (p := p) (e := e) (s := s) (m := m) (below := below) (meth := meth) (c := c) ⟨⟨B.exec, B.bytes, hml, hown, hts, B.notSynchronized, B.returns, ⟨Nat.le_refl _, Nat.le_refl _⟩, hV, B.noHandlers (hts0 _ List.mem_cons_self)⟩, hfl, Nat.le_refl _, Nat.le_refl _⟩
    exact hJ _ _ _ hP va_S.rf hl
  | inr k =>
    refine jx_MetT_ofW (cc := cc) (maxL := nL) (ret := rt) hy.1 rfl ?_
    intro p e s m args below meth c s₁ B hml hv
    obtain ⟨rfl, hP, hV⟩ := hv
    have hts0 := atoms_spec (ws := ws_ y cc nL rt) B.pre
    have hts : ∀ w ∈ lw_all, w.before _ s = true := fun w h => hts0 w (List.mem_cons_of_mem _ h)
    have hown : s.vm.findClass own = some m.cls := by
      have h := findClass_of_methodNamed B.named
      rw [hy.2.1] at h
      exact h
    have hl := lv_entry As (n := nL) hy.2.2
    rw [lg_entry_eq]
    have hJ := body (p := p) (e := e) (s := s) (m := m) (below := below) (meth := meth) (c := c) ⟨⟨B.exec, B.bytes, hml, hown, hts, B.notSynchronized, B.returns, ⟨Nat.le_refl _, Nat.le_refl _⟩, hV, B.noHandlers (hts0 _ List.mem_cons_self)⟩, hfl, Nat.le_refl _, Nat.le_refl _⟩
    exact hJ _ _ _ hP va_S.rf hl
theorem jg_callV {y : MethodName} {bytes : ByteArray} {maxL nL lv lv' mc ms ix n q0 b : Nat} {rt : Option FieldType} {stk fs : List Value} (hx : p.tables.exec = Jvm.exec) (hb : c.code = cc) (hml : c.maxLocals = nL) (hown : s.vm.findClass own = some m.cls) (hts : ∀ w ∈ lw_all, w.before args s = true) (hlv : jx_hr R lv) (hV : jf_V D E A s) {As : List Value} (hM : jg_Mv l D E A fo pl y bytes maxL rt lv' mc ms (.ref b :: As) S (.inl (), S1)) (hg : GoodIn lw_all (wsV own ix C y (ws_ y bytes maxL rt))) (hd : y.cls = C ∧ y.cls ≠ "java/lang/invoke/MethodHandle" ∧ y.cls ≠ "java/lang/invoke/VarHandle" ∧ (parseMethodDescriptor y.desc).map (fun d => d.parameters.length) = some n) (h1 : lv' + 1 ≤ lv) (h2 : maxL ≤ 21) (hcs : cells + mc ≤ R.cells ∧ slots + ms ≤ R.slots) (hP : jf_P D E A S fo pl H) (hS : va_S A s.heap H locs) (he : (jf_ws E S fo pl)[q0]? = some (b, .inr (ci, fs))) (hc : jx_cl[ci]? = some (C, T, N)) (hls : ls.size = nL) (hn : As.length = n) (hst : stk = As.reverse ++ .ref b :: rest) (hW : 2 * (F0 m pc ls stk).monitorRoom + (rest.map fun v => v.category).sum ≤ 8) (hdg : decode cc pc = .ok (.invokevirtual ix, 3))
    (kk : ∀ (fo : Nat → Nat → Option Nat) (pl : va_W) (H : Heap) (locs : List Loc), jf_P D E A S1 fo pl H → va_S A s.heap H locs → W p l e R s m args below meth c H locs (cells + mc) (slots + ms) Q (F0 m (pc + 3) ls rest)) : W p l e R s m args below meth c H locs cells slots Q (F0 m pc ls stk) := by
  unfold jg_Mv at hM
  refine va_callv (va_runV (As := As) (rest := rest) (C := C) (own := own) (index := ix) ⟨hx, hb, hml, hown, hts⟩ hM (cwV n hts hg rfl rfl rfl hd ⟨Nat.le_trans h1 hlv.1, by have := hlv.2; show 8 + (maxL + 11) + 40 * lv' ≤ R.locals; omega⟩) ⟨jf_U.blind, va_recv hV.1 hP.1 (ci := ci) (q0 := q0) hc he, fun U hU hW => ⟨rfl, by rw [hU]; exact hP, hV.moved hW (by rw [hU]; exact hS.1) (fun a h1 h2 => by rw [hU]; exact hS.2.1 a h1 h2)⟩⟩ rfl hn hls hst hW hdg hcs) hS (fun _ _ h => h) (fun _ h => h) (fun u t H1 l1 ht hvm hp hB hz hk hS1 => ?_)
  obtain ⟨hP1, -⟩ := hB
  rw [ht] at hP1
  exact kk u.1 u.2 H1 l1 hP1 hS1
end

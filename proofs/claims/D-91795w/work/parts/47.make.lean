/-! constructors of orders and atoms: the object's own cell alone -/
def jc_U (D : va_G) (tys : List (ClassId × FieldType)) (a ci : Nat) (fs : List Value) (U : State) : Prop := va_P D jx_cl [(a, .inr (ci, fs))] U.heap ∧ va_K D jx_cl tys U
def jc_M (l : Launch) (D : va_G) (tys : List (ClassId × FieldType)) (y : MethodName) (cc : ByteArray) (nL lv : Nat) (As : List Value) (a ci : Nat) (fs0 fs1 : List Value) : Prop :=
  Met l y (ws_ y cc nL none) (jx_rm lv) (va_Pc As (jc_U D tys a ci fs0)) (va_Qv (fun _ : Unit => True) (fun _ => jc_U D tys a ci fs1) (fun q => q = a)) 0 0 (fun q => q = a)
def jx_rf (v : Value) : Prop := v = .null ∨ ∃ q : Nat, v = .ref q
theorem jc_U.blind {D : va_G} {tys : List (ClassId × FieldType)} {a ci : Nat} {fs av : List Value} : FrameBlind (va_Pc av (jc_U D tys a ci fs)) := by
  intro b U g mk h
  obtain ⟨h0, hP, hK⟩ := h
  exact ⟨h0, hP, hK⟩
theorem va_D.one {a : Nat} {e : va_E} : va_D (fun q => q = a) [(a, e)] := by
  refine ⟨fun i j p q h1 h2 _ => ?_, fun k q h => ?_⟩
  · have e1 : i < 1 := (List.getElem?_eq_some_iff.mp h1).1
    have e2 : j < 1 := (List.getElem?_eq_some_iff.mp h2).1
    omega
  · have e1 : k < 1 := (List.getElem?_eq_some_iff.mp h).1
    have e2 : k = 0 := by omega
    subst e2
    cases h
    rfl
theorem jx_rf_fits {v : Value} {n : String} (h : jx_rf v) : narrow (.object n) v = v ∧ fits (.object n) v = true := by
  rcases h with rfl | ⟨q, rfl⟩
  · exact ⟨rfl, rfl⟩
  · exact ⟨rfl, rfl⟩
section
variable {p : Program} {l : Launch} {e : Env} {R : Room} {s : State} {m : MethodId} {args : Array Value} {below : List Frame} {meth : Method} {c : Code} {H : Heap} {locs : List Loc} {cells slots : Nat} {Q : State → Prop} {pc : Nat} {ls : Array Slot} {rest : List Value} {D : va_G} {tys : List (ClassId × FieldType)} {cc : ByteArray} {own ref C : String} {T : u_T} {N ci a : Nat} {fs : List Value}
theorem jc_put (hx : p.tables.exec = Jvm.exec) (hb : c.code = cc) (hts : ∀ w ∈ lw_all, w.before args s = true) (hin : ∀ w ∈ u_ws C T N, w ∈ lw_all) {ty0 : Nat → FieldType} (hty : ∀ k, k < N → parseFieldDescriptor (T k).2.2.1 = some (ty0 k)) (hnm : ∀ a, a < N → ∀ b, b < N → a ≠ b → (T a).2.1 ≠ (T b).2.1) (hown : s.vm.findClass own = some m.cls) (hni : meth.name = "<init>") (hK : va_K D jx_cl tys s) (hP : va_P D jx_cl [(a, .inr (ci, fs))] H) (hS : va_S (fun q => q = a) s.heap H locs) {k ix : Nat} {v : Value} (hc : jx_cl[ci]? = some (C, T, N)) (hk : k < N) (hl : (Cond.fieldLink own ix ref (T k).2.1 (T k).2.2.1).before args s = true) (hs : (T k).1 = ref) (hfin : (T k).2.2.2 = true) (hdecl : (T k).1 = own) {ty : FieldType} (hd : parseFieldDescriptor (T k).2.2.1 = some ty) (hn : narrow ty v = v ∧ fits ty v = true) (hlen : k < fs.length) (hdg : decode cc pc = .ok (.putfield ix, 3))
    (kk : ∀ (H : Heap) (locs : List Loc), va_P D jx_cl [(a, .inr (ci, fs.set k v))] H → va_S (fun q => q = a) s.heap H locs → W p l e R s m args below meth c H locs cells slots Q (F0 m (pc + 3) ls rest)) : W p l e R s m args below meth c H locs cells slots Q (F0 m pc ls (v :: .ref a :: rest)) :=
  va_putF (D := D) (ci := ci) (C := C) (T := T) (N := N) hx hb hts hin ty0 hty hnm hown hK hP va_D.one hS 0 rfl hc k hk hl (fun _ h => hs ▸ h) hfin hni hdecl hd hn.1 hn.2 hlen hdg (fun H1 l1 hP1 _ hS1 => kk H1 l1 hP1 hS1)
/-- super(..) -/
theorem jc_super {y : MethodName} {bytes : ByteArray} {maxL nL lv lv' ix n : Nat} {stk As fs1 : List Value} (hx : p.tables.exec = Jvm.exec) (hb : c.code = cc) (hml : c.maxLocals = nL) (hown : s.vm.findClass own = some m.cls) (hts : ∀ w ∈ lw_all, w.before args s = true) (hlv : jx_hr R lv) (hK : va_K D jx_cl tys s) (hM : jc_M l D tys y bytes maxL lv' (.ref a :: As) a ci fs fs1) (hlink : Cond.methodLink own ix y ∈ lw_all) (hini : Cond.initialized y.cls ∈ lw_all) (hinst : Cond.instanceMethod y ∈ lw_all) (hcode : Cond.code y bytes maxL none ∈ lw_all) (hd : y.name = "<init>" ∧ y.cls ≠ "java/lang/invoke/MethodHandle" ∧ y.cls ≠ "java/lang/invoke/VarHandle" ∧ (parseMethodDescriptor y.desc).map (fun d => d.parameters.length) = some n) (h1 : lv' + 1 ≤ lv) (h2 : maxL ≤ 21) (hP : va_P D jx_cl [(a, .inr (ci, fs))] H) (hS : va_S (fun q => q = a) s.heap H locs) (hc : cells ≤ R.cells ∧ slots ≤ R.slots) (hls : ls.size = nL) (hn : As.length = n) (hst : stk = As.reverse ++ .ref a :: rest) (hW : 2 * (F0 m pc ls stk).monitorRoom + (rest.map fun v => v.category).sum ≤ 8) (hdg : decode cc pc = .ok (.invokespecial ix, 3))
    (kk : ∀ (H : Heap) (locs : List Loc), va_P D jx_cl [(a, .inr (ci, fs1))] H → va_S (fun q => q = a) s.heap H locs → W p l e R s m args below meth c H locs cells slots Q (F0 m (pc + 3) ls rest)) : W p l e R s m args below meth c H locs cells slots Q (F0 m pc ls stk) := by
  unfold jc_M at hM
  refine va_callv (va_runI (As := As) (rest := rest) (own := own) (index := ix) ⟨hx, hb, hml, hown, hts⟩ hM ⟨callB_of n hts (lw_meth hcode) rfl rfl rfl (hts _ hini) (hts _ hlink) hd.2 ⟨Nat.le_trans h1 hlv.1, by have := hlv.2; show 8 + (maxL + 11) + 40 * lv' ≤ R.locals; omega⟩, hd.1, hts _ hinst⟩ ⟨jc_U.blind, fun U hU hW => ⟨rfl, by rw [hU]; exact hP, va_K.moved hW.alike hK⟩⟩ rfl hn hls hst hW hdg hc) hS (fun _ _ h => h) (fun _ h => h) (fun u t H1 l1 ht hvm hp hB hz hk hS1 => ?_)
  obtain ⟨hP1, -⟩ := hB
  rw [ht] at hP1
  exact kk H1 l1 hP1 hS1
theorem jc_ret {fs1 : List Value} (hx : p.tables.exec = Jvm.exec) (hb : c.code = cc) (hr : meth.sig.returnType = none) (hlk : meth.locks = false) (hK : va_K D jx_cl tys s) (hP : va_P D jx_cl [(a, .inr (ci, fs))] H) (hS : va_S (fun q => q = a) s.heap H locs) (h : fs = fs1) (hdg : decode cc pc = .ok (.return_, 1)) : W p l e R s m args below meth c H locs 0 0 (MQ below (va_Qv (fun _ : Unit => True) (fun _ => jc_U D tys a ci fs1) (fun q => q = a)) args s 0 0 (fun q => q = a)) (F0 m pc ls []) := by
  subst h
  exact W.vret hx hb hr (fun t ht hW => ⟨⟨(), rfl, trivial, by rw [ht]; exact hP, va_K.moved hW.alike hK⟩, hS.F ht⟩) hS.2.2 hdg hlk
theorem jc_M_of {y : MethodName} {nL lv : Nat} {As fs1 : List Value} (hy : plainName y.cls = true ∧ y.cls = own ∧ (lg_sl As).length ≤ nL ∧ y.name = "<init>")
    (body : ∀ {p : Program} {e : Env} {s : State} {m : MethodId} {args : Array Value} {below : List Frame} {meth : Method} {c : Code} {ls : Array Slot}, p.tables.exec = Jvm.exec → c.code = cc → c.maxLocals = nL → s.vm.findClass own = some m.cls → (∀ w ∈ lw_all, w.before args s = true) → meth.locks = false → meth.sig.returnType = none → meth.name = "<init>" → va_K D jx_cl tys s → va_P D jx_cl [(a, .inr (ci, fs))] s.heap → va_S (fun q => q = a) s.heap s.heap [] → lv_has ls nL (lv_args 0 As) → W p l e (jx_rm lv) s m args below meth c s.heap [] 0 0 (MQ below (va_Qv (fun _ : Unit => True) (fun _ => jc_U D tys a ci fs1) (fun q => q = a)) args s 0 0 (fun q => q = a)) (F0 m 0 ls [])) : jc_M l D tys y cc nL lv As a ci fs fs1 := by
  unfold jc_M
  refine Met.ofW (cc := cc) (maxL := nL) (ret := none) hy.1 rfl ?_
  intro p e s m args below meth c s₁ B hml hv
  obtain ⟨rfl, hP, hK⟩ := hv
  have hts0 := atoms_spec (ws := ws_ y cc nL none) B.pre
  have hts : ∀ w ∈ lw_all, w.before _ s = true := fun w h => hts0 w (List.mem_cons_of_mem _ h)
  have hown : s.vm.findClass own = some m.cls := by
    have h := findClass_of_methodNamed B.named
    rw [hy.2.1] at h
    exact h
  have hl := lv_entry As (n := nL) hy.2.2.1
  rw [lg_entry_eq]
  exact body B.exec B.bytes hml hown hts B.notSynchronized B.returns ((name_of_methodNamed B.named B.method).1.trans hy.2.2.2) hK hP va_S.rf hl
end

/-! methods of the reader that make orders: the pool grows -/
abbrev jf_un (E : jf_E) (x : Nat × va_E) : jf_E := (E.1, E.2.1, E.2.2.1, E.2.2.2.1, E.2.2.2.2.1, E.2.2.2.2.2 ++ [x])
theorem jf_ws_un {E : jf_E} {x : Nat × va_E} {S : jf_S} {fo : Nat → Nat → Option Nat} {pl : va_W} : jf_ws (jf_un E x) S fo pl = jf_ws E S fo pl ++ [x] := by
  unfold jf_ws
  rw [List.append_assoc, List.append_assoc]
  rfl
/-- the new cell goes from the unconstructed to the pool -/
theorem jf_ws_seal {E : jf_E} {x : Nat × va_E} {S : jf_S} {fo : Nat → Nat → Option Nat} {pl : va_W} : ∃ a b : va_W, jf_ws E S fo pl ++ [x] = (a ++ b) ++ [x] ∧ jf_ws E S fo (pl ++ [x]) = (a ++ [x]) ++ b := by
  unfold jf_ws
  refine ⟨_ ++ pl, E.2.2.2.2.2, congrArg (· ++ [x]) (List.append_assoc _ _ _).symm, ?_⟩
  rw [List.append_assoc, List.append_assoc, List.append_assoc]
theorem jo_atom.mono {pl pl1 : va_W} {a : Nat} {v : Int32} (h : ∀ q ∈ pl, q ∈ pl1) (ha : jo_atom pl a v) : jo_atom pl1 a v := h _ ha
theorem jo_Is.mono {pl pl1 : va_W} {a : Nat} {r : jo_R} (h : ∀ q ∈ pl, q ∈ pl1) (ha : jo_Is pl a r) : jo_Is pl1 a r := by
  rcases ha with ⟨e, k⟩ | ⟨e, k⟩ | ⟨e, k⟩ | ⟨e, k⟩ | ⟨e, k⟩ | ⟨e, k⟩ | ⟨e, k⟩ | ⟨e, k⟩ | ⟨e, k⟩ | ⟨e, k⟩
  · obtain ⟨b, w, k1, k2, k3⟩ := k
    exact Or.inl ⟨e, b, w, h _ k1, k2.mono h, fun n => by obtain ⟨d, d1, d2⟩ := k3 n; exact ⟨d, d1, d2.mono h⟩⟩
  · exact Or.inr (Or.inl ⟨e, h _ k⟩)
  · exact Or.inr (Or.inr (Or.inl ⟨e, h _ k⟩))
  · obtain ⟨b, d, k1, k2, k3⟩ := k
    exact Or.inr (Or.inr (Or.inr (Or.inl ⟨e, b, d, h _ k1, k2.mono h, k3.mono h⟩)))
  · exact Or.inr (Or.inr (Or.inr (Or.inr (Or.inl ⟨e, h _ k⟩))))
  · exact Or.inr (Or.inr (Or.inr (Or.inr (Or.inr (Or.inl ⟨e, h _ k⟩)))))
  · exact Or.inr (Or.inr (Or.inr (Or.inr (Or.inr (Or.inr (Or.inl ⟨e, h _ k⟩))))))
  · exact Or.inr (Or.inr (Or.inr (Or.inr (Or.inr (Or.inr (Or.inr (Or.inl ⟨e, h _ k⟩)))))))
  · obtain ⟨b, k1, k2⟩ := k
    exact Or.inr (Or.inr (Or.inr (Or.inr (Or.inr (Or.inr (Or.inr (Or.inr (Or.inl ⟨e, b, h _ k1, k2.mono h⟩))))))))
  · exact Or.inr (Or.inr (Or.inr (Or.inr (Or.inr (Or.inr (Or.inr (Or.inr (Or.inr ⟨e, h _ k⟩))))))))
theorem jf_O.mono {S : jf_S} {fo : Nat → Nat → Option Nat} {pl pl1 : va_W} (h : ∀ q ∈ pl, q ∈ pl1) (ho : jf_O S fo pl) : jf_O S fo pl1 := ⟨fun o i r hr => by obtain ⟨a, h1, h2⟩ := ho.1 o i r hr; exact ⟨a, h1, h2.mono h⟩, ho.2⟩
section
variable {p : Program} {l : Launch} {e : Env} {R : Room} {s : State} {m : MethodId} {args : Array Value} {below : List Frame} {meth : Method} {c : Code} {H : Heap} {locs : List Loc} {cells slots : Nat} {Q : State → Prop} {pc : Nat} {ls : Array Slot} {rest : List Value} {A : Nat → Prop} {D : va_G} {E : jf_E} {fo : Nat → Nat → Option Nat} {pl : va_W} {cc : ByteArray} {S : jf_S} {own C : String} {T : u_T} {N ci : Nat} {g : JFrame}
theorem jx_more {c1 s1 : Nat} (h1 : cells ≤ c1) (h2 : slots ≤ s1) (k : W p l e R s m args below meth c H locs c1 s1 Q g) : W p l e R s m args below meth c H locs cells slots Q g := fun T hT X => k T hT { X with same := X.same.mono h1 h2 }
theorem jf_newC {ix : Nat} {ty : Nat → FieldType} {fs : List Value} (hx : p.tables.exec = Jvm.exec) (hb : c.code = cc) (hts : ∀ w ∈ lw_all, w.before args s = true) (hin : ∀ w ∈ u_ws C T N, w ∈ lw_all) (hty : ∀ k, k < N → parseFieldDescriptor (T k).2.2.1 = some (ty k)) (hown : s.vm.findClass own = some m.cls) (hcl : (Cond.classLink own ix C).before args s = true) (hinst : (Cond.instantiable C N).before args s = true) (hini : (Cond.initialized C).before args s = true) (hV : jf_V D E A s) (hP : jf_P D E A S fo pl H) (hS : va_S A s.heap H locs) (hc : jx_cl[ci]? = some (C, T, N)) (hfs : ∀ j, j < N → defaultValue (ty j) = vp_V fs j) (hcells : cells + 1 ≤ R.cells) (hslots : slots + N ≤ R.slots) (hdg : decode cc pc = .ok (.new ix, 3))
    (kk : ∀ (a : Nat) (H : Heap), jf_P D (jf_un E (a, .inr (ci, fs))) A S fo pl H → va_S A s.heap H locs → W p l e R s m args below meth c H locs (cells + 1) (slots + N) Q (F0 m (pc + 3) ls (.ref a :: rest))) : W p l e R s m args below meth c H locs cells slots Q (F0 m pc ls rest) := by
  refine va_new hx hb hts hin ty hty hown hcl hinst hini hV.1 hP.1 hP.2.1 hS hV.2.2.2 hc hfs hcells hslots hdg (fun a H1 hP1 hD1 hS1 => ?_)
  exact kk a H1 ⟨by rw [jf_ws_un]; exact hP1, by rw [jf_ws_un]; exact hD1, hP.2.2⟩ hS1
/-- X.<init>(..) on an object just made: it goes to the pool -/
theorem jf_initC {y : MethodName} {bytes : ByteArray} {maxL nL lv lv' ix n a : Nat} {stk As fs fs1 : List Value} (hx : p.tables.exec = Jvm.exec) (hb : c.code = cc) (hml : c.maxLocals = nL) (hown : s.vm.findClass own = some m.cls) (hts : ∀ w ∈ lw_all, w.before args s = true) (hlv : jx_hr R lv) (hV : jf_V D E A s) (hM : jc_M l D (jf_ty E) y bytes maxL lv' (.ref a :: As) a ci fs fs1) (hlink : Cond.methodLink own ix y ∈ lw_all) (hini : Cond.initialized y.cls ∈ lw_all) (hinst : Cond.instanceMethod y ∈ lw_all) (hcode : Cond.code y bytes maxL none ∈ lw_all) (hd : y.name = "<init>" ∧ y.cls ≠ "java/lang/invoke/MethodHandle" ∧ y.cls ≠ "java/lang/invoke/VarHandle" ∧ (parseMethodDescriptor y.desc).map (fun d => d.parameters.length) = some n) (h1 : lv' + 1 ≤ lv) (h2 : maxL ≤ 21) (hP : jf_P D (jf_un E (a, .inr (ci, fs))) A S fo pl H) (hS : va_S A s.heap H locs) (hc : cells ≤ R.cells ∧ slots ≤ R.slots) (hls : ls.size = nL) (hn : As.length = n) (hst : stk = As.reverse ++ .ref a :: rest) (hW : 2 * (F0 m pc ls stk).monitorRoom + (rest.map fun v => v.category).sum ≤ 8) (hdg : decode cc pc = .ok (.invokespecial ix, 3))
    (kk : ∀ (H : Heap) (locs : List Loc), jf_P D E A S fo (pl ++ [(a, .inr (ci, fs1))]) H → va_S A s.heap H locs → W p l e R s m args below meth c H locs cells slots Q (F0 m (pc + 3) ls rest)) : W p l e R s m args below meth c H locs cells slots Q (F0 m pc ls stk) := by
  obtain ⟨hP1, hD1, hO⟩ := hP
  rw [jf_ws_un] at hP1 hD1
  have hlast : (jf_ws E S fo pl ++ [(a, (.inr (ci, fs) : va_E))])[(jf_ws E S fo pl).length]? = some (a, .inr (ci, fs)) := by
    rw [List.getElem?_append_right (Nat.le_refl _), Nat.sub_self]; rfl
  have hone : va_P D jx_cl [(a, .inr (ci, fs))] H := fun k q hk => by
    have e1 : k < 1 := (List.getElem?_eq_some_iff.mp hk).1
    have e2 : k = 0 := by omega
    subst e2
    cases hk
    exact hP1 _ _ hlast
  have hAa : A a := hD1.2 _ _ hlast
  unfold jc_M at hM
  refine va_callv (va_runI (As := As) (rest := rest) (own := own) (index := ix) ⟨hx, hb, hml, hown, hts⟩ hM ⟨callB_of n hts (lw_meth hcode) rfl rfl rfl (hts _ hini) (hts _ hlink) hd.2 ⟨Nat.le_trans h1 hlv.1, by have := hlv.2; show 8 + (maxL + 11) + 40 * lv' ≤ R.locals; omega⟩, hd.1, hts _ hinst⟩ ⟨jc_U.blind, fun U hU hW => ⟨rfl, by rw [hU]; exact hone, va_K.moved hW.alike hV.1⟩⟩ rfl hn hls hst hW hdg hc) hS (fun q _ h => by rw [h]; exact hAa) (fun q h => by rw [h]; exact hAa) (fun u t H1 l1 ht hvm hp hB hz hk hS1 => ?_)
  obtain ⟨hPn, -⟩ := hB
  rw [ht] at hPn
  have hD2 : va_D A (jf_ws E S fo pl ++ [(a, .inr (ci, fs1))]) := by
    have h := hD1.set hlast (e := .inr (ci, fs1))
    rw [List.set_append_right _ _ (Nat.le_refl _), Nat.sub_self] at h
    exact h
  have hP2 : va_P D jx_cl (jf_ws E S fo pl ++ [(a, .inr (ci, fs1))]) H1 := by
    refine va_P.app (fun k q hq => ?_) hPn
    have hq' : (jf_ws E S fo pl ++ [(a, (.inr (ci, fs) : va_E))])[k]? = some q := by
      rw [List.getElem?_append_left (List.getElem?_eq_some_iff.mp hq).1]; exact hq
    have hat := hP1 k q hq'
    refine hat.kept (hk q.1 hat.lt (fun e3 => ?_))
    have e4 := hD1.1 k _ q _ hq' hlast e3
    have e5 : k < (jf_ws E S fo pl).length := (List.getElem?_eq_some_iff.mp hq).1
    omega
  obtain ⟨wa, wb, e1, e2⟩ := jf_ws_seal (E := E) (x := (a, .inr (ci, fs1))) (S := S) (fo := fo) (pl := pl)
  rw [e1] at hP2 hD2
  exact kk H1 l1 ⟨by rw [e2]; exact hP2.swap, by rw [e2]; exact hD2.swap, hO.mono (fun q hq => List.mem_append_left _ hq)⟩ hS1
end

/-! contracts of throwing methods out of their walks -/
section
variable {l : Launch} {A : Nat → Prop} {D : va_G} {E : jf_E} {fo : Nat → Nat → Option Nat} {pl : va_W} {cc : ByteArray} {S : jf_S} {own : String}
theorem jf_Mo_of {out : jo_R × jf_S} {y : MethodName} {nL lv : Nat} {rt : Option FieldType} {As : List Value} (hy : plainName y.cls = true ∧ y.cls = own ∧ (lg_sl As).length ≤ nL)
    (body : ∀ {p : Program} {e : Env} {s : State} {m : MethodId} {args : Array Value} {below : List Frame} {meth : Method} {c : Code}, jf_Ok own p (jx_rm lv) s m args meth c A D E cc nL rt lv → jf_J p l e (jx_rm lv) s m args below meth c A D E fo pl nL (jf_Qo below args s A D E fo pl out) 0 (lv_args 0 As) [] S) : jf_Mo l D E A fo pl y cc nL rt lv As S out := by
  unfold jf_Mo
  refine Met.ofW (cc := cc) (maxL := nL) (ret := rt) hy.1 rfl ?_
  intro p e s m args below meth c s₁ B hml hv
  obtain ⟨rfl, hP, hV⟩ := hv
  have hts0 := atoms_spec (ws := ws_ y cc nL rt) B.pre
  have hts : ∀ w ∈ lw_all, w.before _ s = true := fun w h => hts0 w (List.mem_cons_of_mem _ h)
  have hown : s.vm.findClass own = some m.cls := by
    have h := findClass_of_methodNamed B.named
    rw [hy.2.1] at h
    exact h
  have hl := lv_entry As (n := nL) hy.2.2
  rw [lg_entry_eq]
  have hJ := body (p := p) (e := e) (s := s) (m := m) (below := below) (meth := meth) (c := c) ⟨B.exec, B.bytes, hml, hown, hts, B.notSynchronized, B.returns, ⟨Nat.le_refl _, Nat.le_refl _⟩, hV, B.noHandlers (hts0 _ List.mem_cons_self)⟩
  unfold jf_Qo at hJ
  exact hJ _ _ _ hP va_S.rf hl
theorem jf_Mx_of {S1 : jf_S} {k : Nat} {y : MethodName} {nL lv : Nat} {rt : Option FieldType} {As : List Value} (hy : plainName y.cls = true ∧ y.cls = own ∧ (lg_sl As).length ≤ nL)
    (body : ∀ {p : Program} {e : Env} {s : State} {m : MethodId} {args : Array Value} {below : List Frame} {meth : Method} {c : Code}, jf_Ok own p (jx_rmX lv) s m args meth c A D E cc nL rt lv → jf_J p l e (jx_rmX lv) s m args below meth c A D E fo pl nL (jx_QT below (jf_Qx D E A fo pl S1 k) args s 1 6 A) 0 (lv_args 0 As) [] S) : jf_Mx l D E A fo pl y cc nL rt lv As S S1 k := by
  unfold jf_Mx
  refine jx_MetT_ofW (cc := cc) (maxL := nL) (ret := rt) hy.1 rfl ?_
  intro p e s m args below meth c s₁ B hml hv
  obtain ⟨rfl, hP, hV⟩ := hv
  have hts0 := atoms_spec (ws := ws_ y cc nL rt) B.pre
  have hts : ∀ w ∈ lw_all, w.before _ s = true := fun w h => hts0 w (List.mem_cons_of_mem _ h)
  have hown : s.vm.findClass own = some m.cls := by
    have h := findClass_of_methodNamed B.named
    rw [hy.2.1] at h
    exact h
  have hl := lv_entry As (n := nL) hy.2.2
  rw [lg_entry_eq]
  have hJ := body (p := p) (e := e) (s := s) (m := m) (below := below) (meth := meth) (c := c) ⟨B.exec, B.bytes, hml, hown, hts, B.notSynchronized, B.returns, ⟨Nat.le_refl _, Nat.le_refl _⟩, hV, B.noHandlers (hts0 _ List.mem_cons_self)⟩
  exact hJ _ _ _ hP va_S.rf hl
theorem jf_MXi_of {out : (Int32 ⊕ Nat) × jf_S} {y : MethodName} {nL lv : Nat} {rt : Option FieldType} {As : List Value} (hfl : l.flags = flags0) (hy : plainName y.cls = true ∧ y.cls = own ∧ (lg_sl As).length ≤ nL)
    (body : ∀ {R : Room} {p : Program} {e : Env} {s : State} {m : MethodId} {args : Array Value} {below : List Frame} {meth : Method} {c : Code}, jf_OkX own l p R s m args meth c A D E cc nL rt lv out → jf_J p l e R s m args below meth c A D E fo pl nL (jf_QXi below args s A D E fo pl out) 0 (lv_args 0 As) [] S) : jf_MXi l D E A fo pl y cc nL rt lv As S out := by
  obtain ⟨o1, o2⟩ := out
  cases o1 with
  | inl v => exact jf_Mi_of hy (fun hX => body ⟨hX, hfl, fun k hk => by cases hk⟩)
  | inr k => exact jf_Mx_of hy (fun hX => body ⟨hX, hfl, fun _ _ => ⟨Nat.le_refl _, Nat.le_refl _⟩⟩)
theorem jf_MXl_of {out : (Int64 ⊕ Nat) × jf_S} {y : MethodName} {nL lv : Nat} {rt : Option FieldType} {As : List Value} (hfl : l.flags = flags0) (hy : plainName y.cls = true ∧ y.cls = own ∧ (lg_sl As).length ≤ nL)
    (body : ∀ {R : Room} {p : Program} {e : Env} {s : State} {m : MethodId} {args : Array Value} {below : List Frame} {meth : Method} {c : Code}, jf_OkX own l p R s m args meth c A D E cc nL rt lv out → jf_J p l e R s m args below meth c A D E fo pl nL (jf_QXl below args s A D E fo pl out) 0 (lv_args 0 As) [] S) : jf_MXl l D E A fo pl y cc nL rt lv As S out := by
  obtain ⟨o1, o2⟩ := out
  cases o1 with
  | inl v => exact jf_Ml_of hy (fun hX => body ⟨hX, hfl, fun k hk => by cases hk⟩)
  | inr k => exact jf_Mx_of hy (fun hX => body ⟨hX, hfl, fun _ _ => ⟨Nat.le_refl _, Nat.le_refl _⟩⟩)
theorem jf_MXv_of {out : (Unit ⊕ Nat) × jf_S} {y : MethodName} {nL lv : Nat} {rt : Option FieldType} {As : List Value} (hfl : l.flags = flags0) (hy : plainName y.cls = true ∧ y.cls = own ∧ (lg_sl As).length ≤ nL)
    (body : ∀ {R : Room} {p : Program} {e : Env} {s : State} {m : MethodId} {args : Array Value} {below : List Frame} {meth : Method} {c : Code}, jf_OkX own l p R s m args meth c A D E cc nL rt lv out → jf_J p l e R s m args below meth c A D E fo pl nL (jf_QXv below args s A D E fo pl out) 0 (lv_args 0 As) [] S) : jf_MXv l D E A fo pl y cc nL rt lv As S out := by
  obtain ⟨o1, o2⟩ := out
  cases o1 with
  | inl v => exact jf_Mv_of hy (fun hX => body ⟨hX, hfl, fun k hk => by cases hk⟩)
  | inr k => exact jf_Mx_of hy (fun hX => body ⟨hX, hfl, fun _ _ => ⟨Nat.le_refl _, Nat.le_refl _⟩⟩)
theorem jf_MXo_of {out : (jo_R ⊕ Nat) × jf_S} {y : MethodName} {nL lv : Nat} {rt : Option FieldType} {As : List Value} (hfl : l.flags = flags0) (hy : plainName y.cls = true ∧ y.cls = own ∧ (lg_sl As).length ≤ nL)
    (body : ∀ {R : Room} {p : Program} {e : Env} {s : State} {m : MethodId} {args : Array Value} {below : List Frame} {meth : Method} {c : Code}, jf_OkX own l p R s m args meth c A D E cc nL rt lv out → jf_J p l e R s m args below meth c A D E fo pl nL (jf_QXo below args s A D E fo pl out) 0 (lv_args 0 As) [] S) : jf_MXo l D E A fo pl y cc nL rt lv As S out := by
  obtain ⟨o1, o2⟩ := out
  cases o1 with
  | inl v => exact jf_Mo_of hy (fun hX => body ⟨hX, hfl, fun k hk => by cases hk⟩)
  | inr k => exact jf_Mx_of hy (fun hX => body ⟨hX, hfl, fun _ _ => ⟨Nat.le_refl _, Nat.le_refl _⟩⟩)
end

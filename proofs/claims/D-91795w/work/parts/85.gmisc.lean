/-! small things for the reader's making of orders -/
def jo_mk (a0 a1 a2 a3 a4 a5 a6 a7 a8 : Int32) : jo_R := fun i => match i with
  | 0 => a0 | 1 => a1 | 2 => a2 | 3 => a3 | 4 => a4 | 5 => a5 | 6 => a6 | 7 => a7 | 8 => a8 | _ => 0
def jx_gat {α : Type} (v x y : Int32) (k : Int32 → Option α) : Option α := if jo_ac v = x ∧ jo_an v = y then k v else none
theorem jx_gat_some {α : Type} {v x y : Int32} {k : Int32 → Option α} {out : α} (h : jx_gat v x y k = some out) : ∃ t : Int32, (jo_ac t = x ∧ jo_an t = y) ∧ k t = some out := by
  unfold jx_gat at h
  split at h
  · exact ⟨v, by assumption, h⟩
  · cases h
theorem jf_V_un {D : va_G} {E : jf_E} {A : Nat → Prop} {s : State} {x : Nat × va_E} (h : jf_V D E A s) : jf_V D (jf_un E x) A s := h
section
variable {p : Program} {l : Launch} {e : Env} {R : Room} {s : State} {m : MethodId} {args : Array Value} {below : List Frame} {meth : Method} {c : Code} {H : Heap} {locs : List Loc} {cells slots : Nat} {Q : State → Prop} {pc : Nat} {ls : Array Slot} {rest : List Value} {A : Nat → Prop} {D : va_G} {E : jf_E} {fo : Nat → Nat → Option Nat} {pl : va_W} {cc : ByteArray} {S : jf_S}
theorem jf_sald {j : Nat} {i : Int32} (hx : p.tables.exec = Jvm.exec) (hb : c.code = cc) (hV : jf_V D E A s) (hP : jf_P D E A S fo pl H) (ej : j = i.toNatClampNeg) (hin : vp_in i 10) (hdg : decode cc pc = .ok (.aaload, 1))
    (kk : W p l e R s m args below meth c H locs cells slots Q (F0 m (pc + 1) ls (.ref (E.2.2.2.1 j) :: rest))) : W p l e R s m args below meth c H locs cells slots Q (F0 m pc ls (.int i :: .ref (E.2.1 1 1) :: rest)) := by
  subst ej
  exact va_aldq hx hb hV.1 hP.1 _ 4 jf_a1_1 rfl hin hdg kk
theorem jf_slenA (hx : p.tables.exec = Jvm.exec) (hb : c.code = cc) (hV : jf_V D E A s) (hP : jf_P D E A S fo pl H) (hdg : decode cc pc = .ok (.arraylength, 1))
    (kk : W p l e R s m args below meth c H locs cells slots Q (F0 m (pc + 1) ls (.int (nI 10) :: rest))) : W p l e R s m args below meth c H locs cells slots Q (F0 m pc ls (.ref (E.2.1 1 1) :: rest)) :=
  va_alen hx hb hV.1 hP.1 _ 4 jf_a1_1 rfl rfl hdg kk
end

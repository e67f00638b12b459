set_option maxRecDepth 100000
/-! the state of a JumpFence: ints by object and field, longs by object and field, arrays of ints, arrays of longs, arrays of orders as records. objects: 0 itself, 1 reader, 2 wrong, 3 now, 4 image, 5 machine -/
abbrev jo_R : Type := Nat → Int32
abbrev jf_S : Type := (Nat → Nat → Int32) × (Nat → Nat → Int64) × (Nat → Nat → Nat → Int32) × (Nat → Nat → Nat → Int64) × (Nat → Nat → Option jo_R)
/-- addresses: of objects, of arrays by object and field; array classes; strings; a throwable's own fields; objects not yet constructed -/
abbrev jf_E : Type := (Nat → Nat) × (Nat → Nat → Nat) × (Nat → ClassId) × (Nat → Nat) × (Nat → Value) × va_W
def jf_setI (S : jf_S) (o k : Nat) (v : Int32) : jf_S := (fun p j => if p = o then (if j = k then v else S.1 p j) else S.1 p j, S.2)
def jf_setJ (S : jf_S) (o k : Nat) (v : Int64) : jf_S := (S.1, fun p j => if p = o then (if j = k then v else S.2.1 p j) else S.2.1 p j, S.2.2)
def jf_setA (S : jf_S) (o k : Nat) (f : Nat → Int32) : jf_S := (S.1, S.2.1, fun p j => if p = o then (if j = k then f else S.2.2.1 p j) else S.2.2.1 p j, S.2.2.2)
def jf_setL (S : jf_S) (o k : Nat) (f : Nat → Int64) : jf_S := (S.1, S.2.1, S.2.2.1, fun p j => if p = o then (if j = k then f else S.2.2.2.1 p j) else S.2.2.2.1 p j, S.2.2.2.2)
def jf_setO (S : jf_S) (o : Nat) (f : Nat → Option jo_R) : jf_S := (S.1, S.2.1, S.2.2.1, S.2.2.2.1, fun p => if p = o then f else S.2.2.2.2 p)
def jf_xf (E : jf_E) (S : jf_S) : List Value := [.ref (E.1 1), .ref (E.1 3), .ref (E.1 4), .ref (E.1 5), .ref (E.2.1 0 4), .ref (E.2.1 0 5), .ref (E.2.1 0 6), .ref (E.2.1 0 7), .ref (E.2.1 0 8), .ref (E.2.1 0 9), .int (S.1 0 10), .int (S.1 0 11), .int (S.1 0 12), .int (S.1 0 13), .int (S.1 0 14), .int (S.1 0 15)]
def jf_rf (E : jf_E) (S : jf_S) : List Value := [.ref (E.2.1 1 0), .ref (E.2.1 1 1), .ref (E.2.1 1 2), .ref (E.1 2), .int (S.1 1 4), .int (S.1 1 5), .int (S.1 1 6), .int (S.1 1 7)]
def jf_wf (E : jf_E) (S : jf_S) : List Value := [E.2.2.2.2.1 0, E.2.2.2.2.1 1, E.2.2.2.2.1 2, E.2.2.2.2.1 3, E.2.2.2.2.1 4, .int (S.1 2 5), .int (S.1 2 6)]
def jf_pf (E : jf_E) (S : jf_S) (o : Nat) : List Value := [.ref (E.2.1 o 0), .ref (E.2.1 o 1), .ref (E.2.1 o 2), .ref (E.2.1 o 3), .ref (E.2.1 o 4), .ref (E.2.1 o 5), .ref (E.2.1 o 6), .ref (E.2.1 o 7), .ref (E.2.1 o 8), .ref (E.2.1 o 9), .ref (E.2.1 o 10), .ref (E.2.1 o 11), .ref (E.2.1 o 12), .int (S.1 o 13), .int (S.1 o 14), .int (S.1 o 15), .int (S.1 o 16), .int (S.1 o 17), .long (S.2.1 o 18)]
def jf_mf (E : jf_E) (S : jf_S) : List Value := [.ref (E.1 3), .ref (E.2.1 5 1), .ref (E.2.1 5 2), .ref (E.2.1 5 3), .ref (E.2.1 5 4), .ref (E.2.1 5 5), .ref (E.2.1 5 6), .ref (E.2.1 5 7), .int (S.1 5 8), .int (S.1 5 9), .int (S.1 5 10), .int (S.1 5 11), .int (S.1 5 12), .int (S.1 5 13), .int (S.1 5 14), .int (S.1 5 15), .int (S.1 5 16), .int (S.1 5 17), .int (S.1 5 18)]
def jf_ws (E : jf_E) (S : jf_S) (fo : Nat → Nat → Option Nat) (pl : va_W) : va_W := [(E.1 0, .inr (1, jf_xf E S)), (E.1 1, .inr (2, jf_rf E S)), (E.1 2, .inr (16, jf_wf E S)), (E.1 3, .inr (3, jf_pf E S 3)), (E.1 4, .inr (3, jf_pf E S 4)), (E.1 5, .inr (4, jf_mf E S)), (E.2.1 3 0, .inl (E.2.2.1 5, 40, .inr (.inr (.inr (.inr (fo 3)))))), (E.2.1 3 1, .inl (E.2.2.1 0, 40, .inl (S.2.2.1 3 1))), (E.2.1 3 2, .inl (E.2.2.1 0, 4, .inl (S.2.2.1 3 2))), (E.2.1 3 3, .inl (E.2.2.1 0, 6, .inl (S.2.2.1 3 3))), (E.2.1 3 4, .inl (E.2.2.1 0, 8, .inl (S.2.2.1 3 4))), (E.2.1 3 5, .inl (E.2.2.1 0, 8, .inl (S.2.2.1 3 5))), (E.2.1 3 6, .inl (E.2.2.1 0, 8, .inl (S.2.2.1 3 6))), (E.2.1 3 7, .inl (E.2.2.1 0, 8, .inl (S.2.2.1 3 7))), (E.2.1 3 8, .inl (E.2.2.1 2, 6, .inl (S.2.2.1 3 8))), (E.2.1 3 9, .inl (E.2.2.1 3, 16, .inr (.inl (S.2.2.2.1 3 9)))), (E.2.1 3 10, .inl (E.2.2.1 3, 40, .inr (.inl (S.2.2.2.1 3 10)))), (E.2.1 3 11, .inl (E.2.2.1 3, 40, .inr (.inl (S.2.2.2.1 3 11)))), (E.2.1 3 12, .inl (E.2.2.1 3, 40, .inr (.inl (S.2.2.2.1 3 12)))), (E.2.1 4 0, .inl (E.2.2.1 5, 40, .inr (.inr (.inr (.inr (fo 4)))))), (E.2.1 4 1, .inl (E.2.2.1 0, 40, .inl (S.2.2.1 4 1))), (E.2.1 4 2, .inl (E.2.2.1 0, 4, .inl (S.2.2.1 4 2))), (E.2.1 4 3, .inl (E.2.2.1 0, 6, .inl (S.2.2.1 4 3))), (E.2.1 4 4, .inl (E.2.2.1 0, 8, .inl (S.2.2.1 4 4))), (E.2.1 4 5, .inl (E.2.2.1 0, 8, .inl (S.2.2.1 4 5))), (E.2.1 4 6, .inl (E.2.2.1 0, 8, .inl (S.2.2.1 4 6))), (E.2.1 4 7, .inl (E.2.2.1 0, 8, .inl (S.2.2.1 4 7))), (E.2.1 4 8, .inl (E.2.2.1 2, 6, .inl (S.2.2.1 4 8))), (E.2.1 4 9, .inl (E.2.2.1 3, 16, .inr (.inl (S.2.2.2.1 4 9)))), (E.2.1 4 10, .inl (E.2.2.1 3, 40, .inr (.inl (S.2.2.2.1 4 10)))), (E.2.1 4 11, .inl (E.2.2.1 3, 40, .inr (.inl (S.2.2.2.1 4 11)))), (E.2.1 4 12, .inl (E.2.2.1 3, 40, .inr (.inl (S.2.2.2.1 4 12)))), (E.2.1 0 4, .inl (E.2.2.1 0, 40, .inl (S.2.2.1 0 4))), (E.2.1 0 5, .inl (E.2.2.1 0, 40, .inl (S.2.2.1 0 5))), (E.2.1 0 6, .inl (E.2.2.1 0, 40, .inl (S.2.2.1 0 6))), (E.2.1 0 7, .inl (E.2.2.1 0, 40, .inl (S.2.2.1 0 7))), (E.2.1 0 8, .inl (E.2.2.1 0, 6, .inl (S.2.2.1 0 8))), (E.2.1 0 9, .inl (E.2.2.1 0, 6, .inl (S.2.2.1 0 9))), (E.2.1 1 0, .inl (E.2.2.1 1, 400, .inl (S.2.2.1 1 0))), (E.2.1 1 1, .inl (E.2.2.1 4, 10, .inr (.inr (.inr (.inr (fun j => some (E.2.2.2.1 j))))))), (E.2.1 1 2, .inl (E.2.2.1 5, 40, .inr (.inr (.inr (.inr (fo 1)))))), (E.2.1 5 1, .inl (E.2.2.1 0, 16, .inl (S.2.2.1 5 1))), (E.2.1 5 2, .inl (E.2.2.1 0, 16, .inl (S.2.2.1 5 2))), (E.2.1 5 3, .inl (E.2.2.1 0, 8, .inl (S.2.2.1 5 3))), (E.2.1 5 4, .inl (E.2.2.1 0, 8, .inl (S.2.2.1 5 4))), (E.2.1 5 5, .inl (E.2.2.1 0, 8, .inl (S.2.2.1 5 5))), (E.2.1 5 6, .inl (E.2.2.1 0, 300, .inl (S.2.2.1 5 6))), (E.2.1 5 7, .inl (E.2.2.1 0, 300, .inl (S.2.2.1 5 7)))] ++ (pl ++ E.2.2.2.2.2)
def jf_ty (E : jf_E) : List (ClassId × FieldType) := [(E.2.2.1 0, .int), (E.2.2.1 1, .byte), (E.2.2.1 2, .boolean), (E.2.2.1 3, .long), (E.2.2.1 4, .object "java/lang/String"), (E.2.2.1 5, .object "JumpFence$Order")]
theorem jf_o0 {E : jf_E} {S : jf_S} {fo : Nat → Nat → Option Nat} {pl : va_W} : (jf_ws E S fo pl)[0]? = some (E.1 0, .inr (1, jf_xf E S)) := rfl
theorem jf_o1 {E : jf_E} {S : jf_S} {fo : Nat → Nat → Option Nat} {pl : va_W} : (jf_ws E S fo pl)[1]? = some (E.1 1, .inr (2, jf_rf E S)) := rfl
theorem jf_o2 {E : jf_E} {S : jf_S} {fo : Nat → Nat → Option Nat} {pl : va_W} : (jf_ws E S fo pl)[2]? = some (E.1 2, .inr (16, jf_wf E S)) := rfl
theorem jf_o5 {E : jf_E} {S : jf_S} {fo : Nat → Nat → Option Nat} {pl : va_W} : (jf_ws E S fo pl)[5]? = some (E.1 5, .inr (4, jf_mf E S)) := rfl
theorem jf_oP {E : jf_E} {S : jf_S} {fo : Nat → Nat → Option Nat} {pl : va_W} {o : Nat} (ho : o = 3 ∨ o = 4) : (jf_ws E S fo pl)[o]? = some (E.1 o, .inr (3, jf_pf E S o)) := by rcases ho with rfl | rfl <;> rfl
def jf_AI (E : jf_E) (S : jf_S) (fo : Nat → Nat → Option Nat) (pl : va_W) (o k n t : Nat) : Prop := ∃ q, (jf_ws E S fo pl)[q]? = some (E.2.1 o k, .inl (E.2.2.1 t, n, .inl (S.2.2.1 o k))) ∧ ∀ f, (jf_ws E S fo pl).set q (E.2.1 o k, .inl (E.2.2.1 t, n, .inl f)) = jf_ws E (jf_setA S o k f) fo pl
def jf_AL (E : jf_E) (S : jf_S) (fo : Nat → Nat → Option Nat) (pl : va_W) (o k n : Nat) : Prop := ∃ q, (jf_ws E S fo pl)[q]? = some (E.2.1 o k, .inl (E.2.2.1 3, n, .inr (.inl (S.2.2.2.1 o k)))) ∧ ∀ f, (jf_ws E S fo pl).set q (E.2.1 o k, .inl (E.2.2.1 3, n, .inr (.inl f))) = jf_ws E (jf_setL S o k f) fo pl
def jf_up (fo : Nat → Nat → Option Nat) (o : Nat) (f : Nat → Option Nat) : Nat → Nat → Option Nat := fun p => if p = o then f else fo p
def jf_AQ (E : jf_E) (S : jf_S) (fo : Nat → Nat → Option Nat) (pl : va_W) (o k : Nat) : Prop := ∃ q, (jf_ws E S fo pl)[q]? = some (E.2.1 o k, .inl (E.2.2.1 5, 40, .inr (.inr (.inr (.inr (fo o)))))) ∧ ∀ f g, (jf_ws E S fo pl).set q (E.2.1 o k, .inl (E.2.2.1 5, 40, .inr (.inr (.inr (.inr f))))) = jf_ws E (jf_setO S o g) (jf_up fo o f) pl
theorem jf_aP0 {E : jf_E} {S : jf_S} {fo : Nat → Nat → Option Nat} {pl : va_W} {o : Nat} (ho : o = 3 ∨ o = 4) : jf_AQ E S fo pl o 0 := by
  rcases ho with rfl | rfl
  · exact ⟨6, rfl, fun _ _ => rfl⟩
  · exact ⟨19, rfl, fun _ _ => rfl⟩
theorem jf_aP1 {E : jf_E} {S : jf_S} {fo : Nat → Nat → Option Nat} {pl : va_W} {o : Nat} (ho : o = 3 ∨ o = 4) : jf_AI E S fo pl o 1 40 0 := by
  rcases ho with rfl | rfl
  · exact ⟨7, rfl, fun _ => rfl⟩
  · exact ⟨20, rfl, fun _ => rfl⟩
theorem jf_aP2 {E : jf_E} {S : jf_S} {fo : Nat → Nat → Option Nat} {pl : va_W} {o : Nat} (ho : o = 3 ∨ o = 4) : jf_AI E S fo pl o 2 4 0 := by
  rcases ho with rfl | rfl
  · exact ⟨8, rfl, fun _ => rfl⟩
  · exact ⟨21, rfl, fun _ => rfl⟩
theorem jf_aP3 {E : jf_E} {S : jf_S} {fo : Nat → Nat → Option Nat} {pl : va_W} {o : Nat} (ho : o = 3 ∨ o = 4) : jf_AI E S fo pl o 3 6 0 := by
  rcases ho with rfl | rfl
  · exact ⟨9, rfl, fun _ => rfl⟩
  · exact ⟨22, rfl, fun _ => rfl⟩
theorem jf_aP4 {E : jf_E} {S : jf_S} {fo : Nat → Nat → Option Nat} {pl : va_W} {o : Nat} (ho : o = 3 ∨ o = 4) : jf_AI E S fo pl o 4 8 0 := by
  rcases ho with rfl | rfl
  · exact ⟨10, rfl, fun _ => rfl⟩
  · exact ⟨23, rfl, fun _ => rfl⟩
theorem jf_aP5 {E : jf_E} {S : jf_S} {fo : Nat → Nat → Option Nat} {pl : va_W} {o : Nat} (ho : o = 3 ∨ o = 4) : jf_AI E S fo pl o 5 8 0 := by
  rcases ho with rfl | rfl
  · exact ⟨11, rfl, fun _ => rfl⟩
  · exact ⟨24, rfl, fun _ => rfl⟩
theorem jf_aP6 {E : jf_E} {S : jf_S} {fo : Nat → Nat → Option Nat} {pl : va_W} {o : Nat} (ho : o = 3 ∨ o = 4) : jf_AI E S fo pl o 6 8 0 := by
  rcases ho with rfl | rfl
  · exact ⟨12, rfl, fun _ => rfl⟩
  · exact ⟨25, rfl, fun _ => rfl⟩
theorem jf_aP7 {E : jf_E} {S : jf_S} {fo : Nat → Nat → Option Nat} {pl : va_W} {o : Nat} (ho : o = 3 ∨ o = 4) : jf_AI E S fo pl o 7 8 0 := by
  rcases ho with rfl | rfl
  · exact ⟨13, rfl, fun _ => rfl⟩
  · exact ⟨26, rfl, fun _ => rfl⟩
theorem jf_aP8 {E : jf_E} {S : jf_S} {fo : Nat → Nat → Option Nat} {pl : va_W} {o : Nat} (ho : o = 3 ∨ o = 4) : jf_AI E S fo pl o 8 6 2 := by
  rcases ho with rfl | rfl
  · exact ⟨14, rfl, fun _ => rfl⟩
  · exact ⟨27, rfl, fun _ => rfl⟩
theorem jf_aP9 {E : jf_E} {S : jf_S} {fo : Nat → Nat → Option Nat} {pl : va_W} {o : Nat} (ho : o = 3 ∨ o = 4) : jf_AL E S fo pl o 9 16 := by
  rcases ho with rfl | rfl
  · exact ⟨15, rfl, fun _ => rfl⟩
  · exact ⟨28, rfl, fun _ => rfl⟩
theorem jf_aP10 {E : jf_E} {S : jf_S} {fo : Nat → Nat → Option Nat} {pl : va_W} {o : Nat} (ho : o = 3 ∨ o = 4) : jf_AL E S fo pl o 10 40 := by
  rcases ho with rfl | rfl
  · exact ⟨16, rfl, fun _ => rfl⟩
  · exact ⟨29, rfl, fun _ => rfl⟩
theorem jf_aP11 {E : jf_E} {S : jf_S} {fo : Nat → Nat → Option Nat} {pl : va_W} {o : Nat} (ho : o = 3 ∨ o = 4) : jf_AL E S fo pl o 11 40 := by
  rcases ho with rfl | rfl
  · exact ⟨17, rfl, fun _ => rfl⟩
  · exact ⟨30, rfl, fun _ => rfl⟩
theorem jf_aP12 {E : jf_E} {S : jf_S} {fo : Nat → Nat → Option Nat} {pl : va_W} {o : Nat} (ho : o = 3 ∨ o = 4) : jf_AL E S fo pl o 12 40 := by
  rcases ho with rfl | rfl
  · exact ⟨18, rfl, fun _ => rfl⟩
  · exact ⟨31, rfl, fun _ => rfl⟩
theorem jf_a0_4 {E : jf_E} {S : jf_S} {fo : Nat → Nat → Option Nat} {pl : va_W} : jf_AI E S fo pl 0 4 40 0 := ⟨32, rfl, fun _ => rfl⟩
theorem jf_a0_5 {E : jf_E} {S : jf_S} {fo : Nat → Nat → Option Nat} {pl : va_W} : jf_AI E S fo pl 0 5 40 0 := ⟨33, rfl, fun _ => rfl⟩
theorem jf_a0_6 {E : jf_E} {S : jf_S} {fo : Nat → Nat → Option Nat} {pl : va_W} : jf_AI E S fo pl 0 6 40 0 := ⟨34, rfl, fun _ => rfl⟩
theorem jf_a0_7 {E : jf_E} {S : jf_S} {fo : Nat → Nat → Option Nat} {pl : va_W} : jf_AI E S fo pl 0 7 40 0 := ⟨35, rfl, fun _ => rfl⟩
theorem jf_a0_8 {E : jf_E} {S : jf_S} {fo : Nat → Nat → Option Nat} {pl : va_W} : jf_AI E S fo pl 0 8 6 0 := ⟨36, rfl, fun _ => rfl⟩
theorem jf_a0_9 {E : jf_E} {S : jf_S} {fo : Nat → Nat → Option Nat} {pl : va_W} : jf_AI E S fo pl 0 9 6 0 := ⟨37, rfl, fun _ => rfl⟩
theorem jf_a1_0 {E : jf_E} {S : jf_S} {fo : Nat → Nat → Option Nat} {pl : va_W} : jf_AI E S fo pl 1 0 400 1 := ⟨38, rfl, fun _ => rfl⟩
theorem jf_a1_1 {E : jf_E} {S : jf_S} {fo : Nat → Nat → Option Nat} {pl : va_W} : (jf_ws E S fo pl)[39]? = some (E.2.1 1 1, .inl (E.2.2.1 4, 10, .inr (.inr (.inr (.inr (fun j => some (E.2.2.2.1 j))))))) := rfl
theorem jf_a1_2 {E : jf_E} {S : jf_S} {fo : Nat → Nat → Option Nat} {pl : va_W} : jf_AQ E S fo pl 1 2 := ⟨40, rfl, fun _ _ => rfl⟩
theorem jf_a5_1 {E : jf_E} {S : jf_S} {fo : Nat → Nat → Option Nat} {pl : va_W} : jf_AI E S fo pl 5 1 16 0 := ⟨41, rfl, fun _ => rfl⟩
theorem jf_a5_2 {E : jf_E} {S : jf_S} {fo : Nat → Nat → Option Nat} {pl : va_W} : jf_AI E S fo pl 5 2 16 0 := ⟨42, rfl, fun _ => rfl⟩
theorem jf_a5_3 {E : jf_E} {S : jf_S} {fo : Nat → Nat → Option Nat} {pl : va_W} : jf_AI E S fo pl 5 3 8 0 := ⟨43, rfl, fun _ => rfl⟩
theorem jf_a5_4 {E : jf_E} {S : jf_S} {fo : Nat → Nat → Option Nat} {pl : va_W} : jf_AI E S fo pl 5 4 8 0 := ⟨44, rfl, fun _ => rfl⟩
theorem jf_a5_5 {E : jf_E} {S : jf_S} {fo : Nat → Nat → Option Nat} {pl : va_W} : jf_AI E S fo pl 5 5 8 0 := ⟨45, rfl, fun _ => rfl⟩
theorem jf_a5_6 {E : jf_E} {S : jf_S} {fo : Nat → Nat → Option Nat} {pl : va_W} : jf_AI E S fo pl 5 6 300 0 := ⟨46, rfl, fun _ => rfl⟩
theorem jf_a5_7 {E : jf_E} {S : jf_S} {fo : Nat → Nat → Option Nat} {pl : va_W} : jf_AI E S fo pl 5 7 300 0 := ⟨47, rfl, fun _ => rfl⟩
theorem jf_s0_10 {E : jf_E} {S : jf_S} {fo : Nat → Nat → Option Nat} {pl : va_W} (v : Int32) : (jf_ws E S fo pl).set 0 (E.1 0, .inr (1, (jf_xf E S).set 10 (.int v))) = jf_ws E (jf_setI S 0 10 v) fo pl := rfl
theorem jf_s0_11 {E : jf_E} {S : jf_S} {fo : Nat → Nat → Option Nat} {pl : va_W} (v : Int32) : (jf_ws E S fo pl).set 0 (E.1 0, .inr (1, (jf_xf E S).set 11 (.int v))) = jf_ws E (jf_setI S 0 11 v) fo pl := rfl
theorem jf_s0_12 {E : jf_E} {S : jf_S} {fo : Nat → Nat → Option Nat} {pl : va_W} (v : Int32) : (jf_ws E S fo pl).set 0 (E.1 0, .inr (1, (jf_xf E S).set 12 (.int v))) = jf_ws E (jf_setI S 0 12 v) fo pl := rfl
theorem jf_s0_13 {E : jf_E} {S : jf_S} {fo : Nat → Nat → Option Nat} {pl : va_W} (v : Int32) : (jf_ws E S fo pl).set 0 (E.1 0, .inr (1, (jf_xf E S).set 13 (.int v))) = jf_ws E (jf_setI S 0 13 v) fo pl := rfl
theorem jf_s0_14 {E : jf_E} {S : jf_S} {fo : Nat → Nat → Option Nat} {pl : va_W} (v : Int32) : (jf_ws E S fo pl).set 0 (E.1 0, .inr (1, (jf_xf E S).set 14 (.int v))) = jf_ws E (jf_setI S 0 14 v) fo pl := rfl
theorem jf_s0_15 {E : jf_E} {S : jf_S} {fo : Nat → Nat → Option Nat} {pl : va_W} (v : Int32) : (jf_ws E S fo pl).set 0 (E.1 0, .inr (1, (jf_xf E S).set 15 (.int v))) = jf_ws E (jf_setI S 0 15 v) fo pl := rfl
theorem jf_s1_4 {E : jf_E} {S : jf_S} {fo : Nat → Nat → Option Nat} {pl : va_W} (v : Int32) : (jf_ws E S fo pl).set 1 (E.1 1, .inr (2, (jf_rf E S).set 4 (.int v))) = jf_ws E (jf_setI S 1 4 v) fo pl := rfl
theorem jf_s1_5 {E : jf_E} {S : jf_S} {fo : Nat → Nat → Option Nat} {pl : va_W} (v : Int32) : (jf_ws E S fo pl).set 1 (E.1 1, .inr (2, (jf_rf E S).set 5 (.int v))) = jf_ws E (jf_setI S 1 5 v) fo pl := rfl
theorem jf_s1_6 {E : jf_E} {S : jf_S} {fo : Nat → Nat → Option Nat} {pl : va_W} (v : Int32) : (jf_ws E S fo pl).set 1 (E.1 1, .inr (2, (jf_rf E S).set 6 (.int v))) = jf_ws E (jf_setI S 1 6 v) fo pl := rfl
theorem jf_s1_7 {E : jf_E} {S : jf_S} {fo : Nat → Nat → Option Nat} {pl : va_W} (v : Int32) : (jf_ws E S fo pl).set 1 (E.1 1, .inr (2, (jf_rf E S).set 7 (.int v))) = jf_ws E (jf_setI S 1 7 v) fo pl := rfl
theorem jf_s2_5 {E : jf_E} {S : jf_S} {fo : Nat → Nat → Option Nat} {pl : va_W} (v : Int32) : (jf_ws E S fo pl).set 2 (E.1 2, .inr (16, (jf_wf E S).set 5 (.int v))) = jf_ws E (jf_setI S 2 5 v) fo pl := rfl
theorem jf_s2_6 {E : jf_E} {S : jf_S} {fo : Nat → Nat → Option Nat} {pl : va_W} (v : Int32) : (jf_ws E S fo pl).set 2 (E.1 2, .inr (16, (jf_wf E S).set 6 (.int v))) = jf_ws E (jf_setI S 2 6 v) fo pl := rfl
theorem jf_s5_8 {E : jf_E} {S : jf_S} {fo : Nat → Nat → Option Nat} {pl : va_W} (v : Int32) : (jf_ws E S fo pl).set 5 (E.1 5, .inr (4, (jf_mf E S).set 8 (.int v))) = jf_ws E (jf_setI S 5 8 v) fo pl := rfl
theorem jf_s5_9 {E : jf_E} {S : jf_S} {fo : Nat → Nat → Option Nat} {pl : va_W} (v : Int32) : (jf_ws E S fo pl).set 5 (E.1 5, .inr (4, (jf_mf E S).set 9 (.int v))) = jf_ws E (jf_setI S 5 9 v) fo pl := rfl
theorem jf_s5_10 {E : jf_E} {S : jf_S} {fo : Nat → Nat → Option Nat} {pl : va_W} (v : Int32) : (jf_ws E S fo pl).set 5 (E.1 5, .inr (4, (jf_mf E S).set 10 (.int v))) = jf_ws E (jf_setI S 5 10 v) fo pl := rfl
theorem jf_s5_11 {E : jf_E} {S : jf_S} {fo : Nat → Nat → Option Nat} {pl : va_W} (v : Int32) : (jf_ws E S fo pl).set 5 (E.1 5, .inr (4, (jf_mf E S).set 11 (.int v))) = jf_ws E (jf_setI S 5 11 v) fo pl := rfl
theorem jf_s5_12 {E : jf_E} {S : jf_S} {fo : Nat → Nat → Option Nat} {pl : va_W} (v : Int32) : (jf_ws E S fo pl).set 5 (E.1 5, .inr (4, (jf_mf E S).set 12 (.int v))) = jf_ws E (jf_setI S 5 12 v) fo pl := rfl
theorem jf_s5_13 {E : jf_E} {S : jf_S} {fo : Nat → Nat → Option Nat} {pl : va_W} (v : Int32) : (jf_ws E S fo pl).set 5 (E.1 5, .inr (4, (jf_mf E S).set 13 (.int v))) = jf_ws E (jf_setI S 5 13 v) fo pl := rfl
theorem jf_s5_14 {E : jf_E} {S : jf_S} {fo : Nat → Nat → Option Nat} {pl : va_W} (v : Int32) : (jf_ws E S fo pl).set 5 (E.1 5, .inr (4, (jf_mf E S).set 14 (.int v))) = jf_ws E (jf_setI S 5 14 v) fo pl := rfl
theorem jf_s5_15 {E : jf_E} {S : jf_S} {fo : Nat → Nat → Option Nat} {pl : va_W} (v : Int32) : (jf_ws E S fo pl).set 5 (E.1 5, .inr (4, (jf_mf E S).set 15 (.int v))) = jf_ws E (jf_setI S 5 15 v) fo pl := rfl
theorem jf_s5_16 {E : jf_E} {S : jf_S} {fo : Nat → Nat → Option Nat} {pl : va_W} (v : Int32) : (jf_ws E S fo pl).set 5 (E.1 5, .inr (4, (jf_mf E S).set 16 (.int v))) = jf_ws E (jf_setI S 5 16 v) fo pl := rfl
theorem jf_s5_17 {E : jf_E} {S : jf_S} {fo : Nat → Nat → Option Nat} {pl : va_W} (v : Int32) : (jf_ws E S fo pl).set 5 (E.1 5, .inr (4, (jf_mf E S).set 17 (.int v))) = jf_ws E (jf_setI S 5 17 v) fo pl := rfl
theorem jf_s5_18 {E : jf_E} {S : jf_S} {fo : Nat → Nat → Option Nat} {pl : va_W} (v : Int32) : (jf_ws E S fo pl).set 5 (E.1 5, .inr (4, (jf_mf E S).set 18 (.int v))) = jf_ws E (jf_setI S 5 18 v) fo pl := rfl
theorem jf_sP13 {E : jf_E} {S : jf_S} {fo : Nat → Nat → Option Nat} {pl : va_W} {o : Nat} (ho : o = 3 ∨ o = 4) (v : Int32) : (jf_ws E S fo pl).set o (E.1 o, .inr (3, (jf_pf E S o).set 13 (.int v))) = jf_ws E (jf_setI S o 13 v) fo pl := by rcases ho with rfl | rfl <;> rfl
theorem jf_sP14 {E : jf_E} {S : jf_S} {fo : Nat → Nat → Option Nat} {pl : va_W} {o : Nat} (ho : o = 3 ∨ o = 4) (v : Int32) : (jf_ws E S fo pl).set o (E.1 o, .inr (3, (jf_pf E S o).set 14 (.int v))) = jf_ws E (jf_setI S o 14 v) fo pl := by rcases ho with rfl | rfl <;> rfl
theorem jf_sP15 {E : jf_E} {S : jf_S} {fo : Nat → Nat → Option Nat} {pl : va_W} {o : Nat} (ho : o = 3 ∨ o = 4) (v : Int32) : (jf_ws E S fo pl).set o (E.1 o, .inr (3, (jf_pf E S o).set 15 (.int v))) = jf_ws E (jf_setI S o 15 v) fo pl := by rcases ho with rfl | rfl <;> rfl
theorem jf_sP16 {E : jf_E} {S : jf_S} {fo : Nat → Nat → Option Nat} {pl : va_W} {o : Nat} (ho : o = 3 ∨ o = 4) (v : Int32) : (jf_ws E S fo pl).set o (E.1 o, .inr (3, (jf_pf E S o).set 16 (.int v))) = jf_ws E (jf_setI S o 16 v) fo pl := by rcases ho with rfl | rfl <;> rfl
theorem jf_sP17 {E : jf_E} {S : jf_S} {fo : Nat → Nat → Option Nat} {pl : va_W} {o : Nat} (ho : o = 3 ∨ o = 4) (v : Int32) : (jf_ws E S fo pl).set o (E.1 o, .inr (3, (jf_pf E S o).set 17 (.int v))) = jf_ws E (jf_setI S o 17 v) fo pl := by rcases ho with rfl | rfl <;> rfl
theorem jf_sP18 {E : jf_E} {S : jf_S} {fo : Nat → Nat → Option Nat} {pl : va_W} {o : Nat} (ho : o = 3 ∨ o = 4) (v : Int64) : (jf_ws E S fo pl).set o (E.1 o, .inr (3, (jf_pf E S o).set 18 (.long v))) = jf_ws E (jf_setJ S o 18 v) fo pl := by rcases ho with rfl | rfl <;> rfl
/-! orders and atoms: immutable cells of the pool pl, as records of the twin's columns -/
def jo_ac (v : Int32) : Int32 := if nI 1000 ≤ v then v - nI 1000 else (-1 : Int32)
def jo_an (v : Int32) : Int32 := if nI 1000 ≤ v then nI 0 else v
def jo_atom (pl : va_W) (a : Nat) (v : Int32) : Prop := (a, .inr (5, [.int (jo_ac v), .int (jo_an v)])) ∈ pl
def jo_m0 (pl : va_W) (a : Nat) (r : jo_R) : Prop := ∃ (b : Nat) (w : Value), (a, .inr (6, [.int (r 1), .int (r 5), .int (r 8), .ref b, w])) ∈ pl ∧ jo_atom pl b (r 6) ∧ (¬ r 8 = 0 → ∃ d : Nat, w = .ref d ∧ jo_atom pl d (r 7))
def jo_m1 (pl : va_W) (a : Nat) (r : jo_R) : Prop := (a, .inr (7, [.int (r 1), .int (r 5), .int (r 4)])) ∈ pl
def jo_m2 (pl : va_W) (a : Nat) (r : jo_R) : Prop := (a, .inr (8, [.int (r 1), .int (r 4)])) ∈ pl
def jo_m3 (pl : va_W) (a : Nat) (r : jo_R) : Prop := ∃ b d : Nat, (a, .inr (9, [.int (r 1), .ref b, .ref d, .int (r 8), .int (r 4)])) ∈ pl ∧ jo_atom pl b (r 6) ∧ jo_atom pl d (r 7)
def jo_m4 (pl : va_W) (a : Nat) (r : jo_R) : Prop := (a, .inr (10, [.int (r 1), .int (r 5), .int (r 3)])) ∈ pl
def jo_m5 (pl : va_W) (a : Nat) (r : jo_R) : Prop := (a, .inr (11, [.int (r 1), .int (r 4)])) ∈ pl
def jo_m6 (pl : va_W) (a : Nat) (r : jo_R) : Prop := (a, .inr (12, [.int (r 1), .int (r 5), .int (r 3)])) ∈ pl
def jo_m7 (pl : va_W) (a : Nat) (r : jo_R) : Prop := (a, .inr (13, [.int (r 1)])) ∈ pl
def jo_m8 (pl : va_W) (a : Nat) (r : jo_R) : Prop := ∃ b : Nat, (a, .inr (14, [.int (r 1), .ref b])) ∈ pl ∧ jo_atom pl b (r 6)
def jo_m9 (pl : va_W) (a : Nat) (r : jo_R) : Prop := (a, .inr (15, [.int (r 1)])) ∈ pl
def jo_mT (pl : va_W) (a : Nat) (r : jo_R) : Prop := jo_m4 pl a r ∨ jo_m6 pl a r
def jo_Is (pl : va_W) (a : Nat) (r : jo_R) : Prop :=
  (r 0 = nI 0 ∧ jo_m0 pl a r) ∨ (r 0 = nI 1 ∧ jo_m1 pl a r) ∨ (r 0 = nI 2 ∧ jo_m2 pl a r) ∨ (r 0 = nI 3 ∧ jo_m3 pl a r) ∨ (r 0 = nI 4 ∧ jo_m4 pl a r) ∨ (r 0 = nI 5 ∧ jo_m5 pl a r) ∨ (r 0 = nI 6 ∧ jo_m6 pl a r) ∨ (r 0 = nI 7 ∧ jo_m7 pl a r) ∨ (r 0 = nI 8 ∧ jo_m8 pl a r) ∨ (r 0 = nI 9 ∧ jo_m9 pl a r)
def jf_O (S : jf_S) (fo : Nat → Nat → Option Nat) (pl : va_W) : Prop := (∀ (o i : Nat) (r : jo_R), S.2.2.2.2 o i = some r → ∃ a : Nat, fo o i = some a ∧ jo_Is pl a r) ∧ ∀ o i : Nat, S.2.2.2.2 o i = none → fo o i = none
theorem jf_pool {E : jf_E} {S : jf_S} {fo : Nat → Nat → Option Nat} {pl : va_W} {q : Nat × va_E} (h : q ∈ pl) : ∃ k : Nat, (jf_ws E S fo pl)[k]? = some q := by
  obtain ⟨i, hi⟩ := List.getElem?_of_mem h
  exact ⟨48 + i, by
    show ([_, _, _, _, _, _, _, _, _, _, _, _, _, _, _, _, _, _, _, _, _, _, _, _, _, _, _, _, _, _, _, _, _, _, _, _, _, _, _, _, _, _, _, _, _, _, _, _] ++ (pl ++ E.2.2.2.2.2))[48 + i]? = some q
    rw [List.getElem?_append_right (by show 48 ≤ 48 + i; omega)]
    have e : 48 + i - 48 = i := by omega
    show (pl ++ E.2.2.2.2.2)[48 + i - 48]? = some q
    rw [e, List.getElem?_append_left (List.getElem?_eq_some_iff.mp hi).1]
    exact hi⟩
def jf_P (D : va_G) (E : jf_E) (A : Nat → Prop) (S : jf_S) (fo : Nat → Nat → Option Nat) (pl : va_W) (H : Heap) : Prop := va_P D jx_cl (jf_ws E S fo pl) H ∧ va_D A (jf_ws E S fo pl) ∧ jf_O S fo pl
def jf_nf : List (String × Nat × String × String × String × String) := [("JumpFence", 121, "JumpFence$Wrong", "place", "I", "JumpFence"), ("JumpFence", 104, "JumpFence$Reader", "tape", "[B", "JumpFence"), ("JumpFence", 125, "JumpFence$Reader", "row", "[LJumpFence$Order;", "JumpFence"), ("JumpFence", 108, "JumpFence$Reader", "size", "I", "JumpFence"), ("JumpFence", 124, "JumpFence$Reader", "many", "I", "JumpFence"), ("JumpFence", 81, "JumpFence$Program", "orders", "[LJumpFence$Order;", "JumpFence"), ("JumpFence", 128, "JumpFence$Program", "grades", "[I", "JumpFence"), ("JumpFence", 151, "JumpFence$Program", "ticks", "[I", "JumpFence"), ("JumpFence", 230, "JumpFence$Program", "powers", "[I", "JumpFence"), ("JumpFence", 237, "JumpFence$Program", "harms", "[I", "JumpFence"), ("JumpFence", 180, "JumpFence$Program", "bendSteps", "[I", "JumpFence"), ("JumpFence", 183, "JumpFence$Program", "bendCell", "[I", "JumpFence"), ("JumpFence", 186, "JumpFence$Program", "bendTo", "[I", "JumpFence"), ("JumpFence", 233, "JumpFence$Program", "rows", "[Z", "JumpFence"), ("JumpFence", 168, "JumpFence$Program", "holds", "[J", "JumpFence"), ("JumpFence", 158, "JumpFence$Program", "kinds", "[J", "JumpFence"), ("JumpFence", 154, "JumpFence$Program", "flows", "[J", "JumpFence"), ("JumpFence", 70, "JumpFence$Program", "many", "I", "JumpFence"), ("JumpFence", 98, "JumpFence$Program", "powerMany", "I", "JumpFence"), ("JumpFence", 101, "JumpFence$Program", "harmMany", "I", "JumpFence"), ("JumpFence", 174, "JumpFence$Program", "bendMany", "I", "JumpFence"), ("JumpFence", 171, "JumpFence$Program", "odd", "I", "JumpFence"), ("JumpFence", 226, "JumpFence$Machine", "cells", "[I", "JumpFence"), ("JumpFence", 288, "JumpFence$Machine", "row", "[I", "JumpFence"), ("JumpFence", 301, "JumpFence$Machine", "second", "[I", "JumpFence"), ("JumpFence", 219, "JumpFence$Machine", "order", "[I", "JumpFence"), ("JumpFence", 222, "JumpFence$Machine", "words", "[I", "JumpFence"), ("JumpFence", 285, "JumpFence$Machine", "deep", "I", "JumpFence"), ("JumpFence", 204, "JumpFence$Machine", "at", "I", "JumpFence"), ("JumpFence", 199, "JumpFence$Machine", "steps", "I", "JumpFence"), ("JumpFence", 202, "JumpFence$Machine", "ticks", "I", "JumpFence"), ("JumpFence", 207, "JumpFence$Machine", "said", "I", "JumpFence"), ("JumpFence", 210, "JumpFence$Machine", "jumps", "I", "JumpFence"), ("JumpFence", 196, "JumpFence$Machine", "ends", "I", "JumpFence"), ("JumpFence", 213, "JumpFence$Machine", "lead", "I", "JumpFence"), ("JumpFence", 216, "JumpFence$Machine", "stopped", "I", "JumpFence"), ("JumpFence", 376, "JumpFence$Machine", "firstBad", "I", "JumpFence"), ("JumpFence", 293, "JumpFence$Machine", "guards", "Z", "JumpFence"), ("JumpFence", 272, "JumpFence$Atom", "cell", "I", "JumpFence"), ("JumpFence", 138, "JumpFence$Order", "entry", "I", "JumpFence"), ("JumpFence", 254, "JumpFence$IfOrder", "left", "LJumpFence$Atom;", "JumpFence"), ("JumpFence", 264, "JumpFence$IfOrder", "right", "LJumpFence$Atom;", "JumpFence"), ("JumpFence", 267, "JumpFence$IfOrder", "sign", "I", "JumpFence"), ("JumpFence", 253, "JumpFence$IfOrder", "place", "I", "JumpFence"), ("JumpFence", 309, "JumpFence$DoorOrder", "says", "LJumpFence$Atom;", "JumpFence"), ("JumpFence$IfOrder", 29, "JumpFence$Atom", "cell", "I", "JumpFence"), ("JumpFence$IfOrder", 34, "JumpFence$Atom", "number", "I", "JumpFence"), ("JumpFence$ThroughOrder", 31, "JumpFence$Program", "holds", "[J", "JumpFence"), ("JumpFence$ThroughOrder", 18, "JumpFence$Program", "flows", "[J", "JumpFence"), ("JumpFence$ThroughOrder", 28, "JumpFence$Program", "odd", "I", "JumpFence"), ("JumpFence$ThroughOrder", 34, "JumpFence$Machine", "cells", "[I", "JumpFence"), ("JumpFence$CallOrder", 19, "JumpFence$Machine", "deep", "I", "JumpFence"), ("JumpFence$ByOrder", 13, "JumpFence$Machine", "deep", "I", "JumpFence"), ("JumpFence$ByOrder", 27, "JumpFence$Machine", "ends", "I", "JumpFence"), ("JumpFence$BackOrder", 15, "JumpFence$Program", "behind", "J", "JumpFence"), ("JumpFence$BackOrder", 29, "JumpFence$Machine", "row", "[I", "JumpFence"), ("JumpFence$BackOrder", 19, "JumpFence$Machine", "deep", "I", "JumpFence"), ("JumpFence$BackOrder", 37, "JumpFence$Machine", "ends", "I", "JumpFence"), ("JumpFence$DoorOrder", 15, "JumpFence$Atom", "cell", "I", "JumpFence"), ("JumpFence$DoorOrder", 21, "JumpFence$Atom", "number", "I", "JumpFence"), ("JumpFence$StopOrder", 9, "JumpFence$Machine", "ends", "I", "JumpFence"), ("JumpFence$Reader", 54, "JumpFence$Wrong", "place", "I", "JumpFence"), ("JumpFence$Program", 133, "JumpFence$SetOrder", "to", "I", "JumpFence"), ("JumpFence$Program", 101, "JumpFence$Order", "entry", "I", "JumpFence"), ("JumpFence$Program", 125, "JumpFence$PointOrder", "to", "I", "JumpFence"), ("JumpFence$Program", 128, "JumpFence$PointOrder", "place", "I", "JumpFence"), ("JumpFence$Machine", 73, "JumpFence$Program", "orders", "[LJumpFence$Order;", "JumpFence"), ("JumpFence$Machine", 68, "JumpFence$Program", "grades", "[I", "JumpFence"), ("JumpFence$Machine", 101, "JumpFence$Program", "ticks", "[I", "JumpFence"), ("JumpFence$Machine", 106, "JumpFence$Program", "bendSteps", "[I", "JumpFence"), ("JumpFence$Machine", 109, "JumpFence$Program", "bendCell", "[I", "JumpFence"), ("JumpFence$Machine", 112, "JumpFence$Program", "bendTo", "[I", "JumpFence"), ("JumpFence$Machine", 83, "JumpFence$Program", "many", "I", "JumpFence"), ("JumpFence$Machine", 103, "JumpFence$Program", "bendMany", "I", "JumpFence"), ("JumpFence$Atom", 18, "JumpFence$Machine", "cells", "[I", "JumpFence"), ("JumpFence$SetOrder", 25, "JumpFence$Atom", "cell", "I", "JumpFence")]
def jf_nm : List (String × Nat × MethodName × String) := [("JumpFence", 11, ⟨"JumpFence$Reader", "<init>", "()V"⟩, "JumpFence"), ("JumpFence", 18, ⟨"JumpFence$Program", "<init>", "()V"⟩, "JumpFence"), ("JumpFence$JumpOrder", 15, ⟨"JumpFence", "bit", "(I)J"⟩, "JumpFence"), ("JumpFence$IfOrder", 25, ⟨"JumpFence", "bit", "(I)J"⟩, "JumpFence"), ("JumpFence$CallOrder", 15, ⟨"JumpFence", "bit", "(I)J"⟩, "JumpFence"), ("JumpFence$ByOrder", 9, ⟨"JumpFence", "bit", "(I)J"⟩, "JumpFence"), ("JumpFence$Program", 89, ⟨"JumpFence", "bit", "(I)J"⟩, "JumpFence"), ("JumpFence$Order", 15, ⟨"JumpFence", "bit", "(I)J"⟩, "JumpFence")]
def jf_nc : List (String × String) := [("JumpFence$PointOrder", "JumpFence$Order"), ("JumpFence$JumpOrder", "JumpFence$Order"), ("JumpFence$IfOrder", "JumpFence$Order"), ("JumpFence$ThroughOrder", "JumpFence$Order"), ("JumpFence$CallOrder", "JumpFence$Order"), ("JumpFence$ByOrder", "JumpFence$Order"), ("JumpFence$BackOrder", "JumpFence$Order"), ("JumpFence$DoorOrder", "JumpFence$Order"), ("JumpFence$StopOrder", "JumpFence$Order"), ("JumpFence$SetOrder", "JumpFence$Order")]
def jf_nd : List MethodName := [⟨"JumpFence$Order", "does", "(LJumpFence$Machine;I)I"⟩, ⟨"JumpFence$Order", "word", "()I"⟩, ⟨"java/lang/Throwable", "<init>", "()V"⟩, ⟨"java/lang/Exception", "<init>", "()V"⟩, ⟨"java/lang/RuntimeException", "<init>", "()V"⟩]
theorem jf_nf_tbl : ∀ t ∈ jf_nf, Cond.fieldLinkNest t.1 t.2.1 t.2.2.1 t.2.2.2.1 t.2.2.2.2.1 t.2.2.2.2.2 ∈ lw_tbl := List.forall_mem_cons.mpr ⟨q223, List.forall_mem_cons.mpr ⟨q241, List.forall_mem_cons.mpr ⟨q244, List.forall_mem_cons.mpr ⟨q246, List.forall_mem_cons.mpr ⟨q250, List.forall_mem_cons.mpr ⟨q277, List.forall_mem_cons.mpr ⟨q280, List.forall_mem_cons.mpr ⟨q283, List.forall_mem_cons.mpr ⟨q285, List.forall_mem_cons.mpr ⟨q287, List.forall_mem_cons.mpr ⟨q290, List.forall_mem_cons.mpr ⟨q293, List.forall_mem_cons.mpr ⟨q296, List.forall_mem_cons.mpr ⟨q298, List.forall_mem_cons.mpr ⟨q301, List.forall_mem_cons.mpr ⟨q303, List.forall_mem_cons.mpr ⟨q306, List.forall_mem_cons.mpr ⟨q310, List.forall_mem_cons.mpr ⟨q312, List.forall_mem_cons.mpr ⟨q314, List.forall_mem_cons.mpr ⟨q317, List.forall_mem_cons.mpr ⟨q320, List.forall_mem_cons.mpr ⟨q375, List.forall_mem_cons.mpr ⟨q379, List.forall_mem_cons.mpr ⟨q381, List.forall_mem_cons.mpr ⟨q384, List.forall_mem_cons.mpr ⟨q386, List.forall_mem_cons.mpr ⟨q391, List.forall_mem_cons.mpr ⟨q393, List.forall_mem_cons.mpr ⟨q395, List.forall_mem_cons.mpr ⟨q397, List.forall_mem_cons.mpr ⟨q399, List.forall_mem_cons.mpr ⟨q401, List.forall_mem_cons.mpr ⟨q406, List.forall_mem_cons.mpr ⟨q408, List.forall_mem_cons.mpr ⟨q410, List.forall_mem_cons.mpr ⟨q412, List.forall_mem_cons.mpr ⟨q414, List.forall_mem_cons.mpr ⟨q1048, List.forall_mem_cons.mpr ⟨q1073, List.forall_mem_cons.mpr ⟨q1128, List.forall_mem_cons.mpr ⟨q1130, List.forall_mem_cons.mpr ⟨q1132, List.forall_mem_cons.mpr ⟨q1134, List.forall_mem_cons.mpr ⟨q1199, List.forall_mem_cons.mpr ⟨q1047, List.forall_mem_cons.mpr ⟨q1051, List.forall_mem_cons.mpr ⟨q300, List.forall_mem_cons.mpr ⟨q305, List.forall_mem_cons.mpr ⟨q319, List.forall_mem_cons.mpr ⟨q374, List.forall_mem_cons.mpr ⟨q390, List.forall_mem_cons.mpr ⟨q388, List.forall_mem_cons.mpr ⟨q404, List.forall_mem_cons.mpr ⟨q322, List.forall_mem_cons.mpr ⟨q378, List.forall_mem_cons.mpr ⟨q389, List.forall_mem_cons.mpr ⟨q405, List.forall_mem_cons.mpr ⟨q1045, List.forall_mem_cons.mpr ⟨q1050, List.forall_mem_cons.mpr ⟨q403, List.forall_mem_cons.mpr ⟨q222, List.forall_mem_cons.mpr ⟨q1067, List.forall_mem_cons.mpr ⟨q1072, List.forall_mem_cons.mpr ⟨q1097, List.forall_mem_cons.mpr ⟨q1099, List.forall_mem_cons.mpr ⟨q276, List.forall_mem_cons.mpr ⟨q279, List.forall_mem_cons.mpr ⟨q282, List.forall_mem_cons.mpr ⟨q289, List.forall_mem_cons.mpr ⟨q292, List.forall_mem_cons.mpr ⟨q295, List.forall_mem_cons.mpr ⟨q309, List.forall_mem_cons.mpr ⟨q316, List.forall_mem_cons.mpr ⟨q373, List.forall_mem_cons.mpr ⟨q1046, fun _ h => absurd h List.not_mem_nil⟩⟩⟩⟩⟩⟩⟩⟩⟩⟩⟩⟩⟩⟩⟩⟩⟩⟩⟩⟩⟩⟩⟩⟩⟩⟩⟩⟩⟩⟩⟩⟩⟩⟩⟩⟩⟩⟩⟩⟩⟩⟩⟩⟩⟩⟩⟩⟩⟩⟩⟩⟩⟩⟩⟩⟩⟩⟩⟩⟩⟩⟩⟩⟩⟩⟩⟩⟩⟩⟩⟩⟩⟩⟩⟩⟩
theorem jf_nm_tbl : ∀ t ∈ jf_nm, Cond.methodLinkNest t.1 t.2.1 t.2.2.1 t.2.2.2 ∈ lw_tbl := List.forall_mem_cons.mpr ⟨q147, List.forall_mem_cons.mpr ⟨q270, List.forall_mem_cons.mpr ⟨q814, List.forall_mem_cons.mpr ⟨q810, List.forall_mem_cons.mpr ⟨q900, List.forall_mem_cons.mpr ⟨q804, List.forall_mem_cons.mpr ⟨q750, List.forall_mem_cons.mpr ⟨q824, fun _ h => absurd h List.not_mem_nil⟩⟩⟩⟩⟩⟩⟩⟩
theorem jf_nc_tbl : ∀ t ∈ jf_nc, Cond.castable t.1 t.2 ∈ lw_tbl := List.forall_mem_cons.mpr ⟨q2142, List.forall_mem_cons.mpr ⟨q2143, List.forall_mem_cons.mpr ⟨q2144, List.forall_mem_cons.mpr ⟨q2145, List.forall_mem_cons.mpr ⟨q2146, List.forall_mem_cons.mpr ⟨q2147, List.forall_mem_cons.mpr ⟨q2148, List.forall_mem_cons.mpr ⟨q2149, List.forall_mem_cons.mpr ⟨q2150, List.forall_mem_cons.mpr ⟨q2141, fun _ h => absurd h List.not_mem_nil⟩⟩⟩⟩⟩⟩⟩⟩⟩⟩
theorem jf_nd_tbl : ∀ t ∈ jf_nd, Cond.declares t ∈ lw_tbl := List.forall_mem_cons.mpr ⟨q551, List.forall_mem_cons.mpr ⟨q566, List.forall_mem_cons.mpr ⟨q172, List.forall_mem_cons.mpr ⟨q170, List.forall_mem_cons.mpr ⟨q168, fun _ h => absurd h List.not_mem_nil⟩⟩⟩⟩⟩
def jf_N (U : State) : Prop := (∀ t ∈ jf_nf, va_Nw (.fieldLinkNest t.1 t.2.1 t.2.2.1 t.2.2.2.1 t.2.2.2.2.1 t.2.2.2.2.2) U) ∧ (∀ t ∈ jf_nm, va_Nw (.methodLinkNest t.1 t.2.1 t.2.2.1 t.2.2.2) U) ∧ (∀ t ∈ jf_nc, va_Nw (.castable t.1 t.2) U) ∧ (∀ x ∈ jf_nd, va_Nw (.declares x) U)
theorem jf_N.warm {s U : State} (hW : s.WarmedH U.vm) (h : jf_N s) : jf_N U := ⟨fun t ht => (h.1 t ht).warmF hW, fun t ht => (h.2.1 t ht).warmM hW, fun t ht => (h.2.2.1 t ht).warmC hW, fun t ht => (h.2.2.2 t ht).warmD hW⟩
theorem jf_N.same {u U : State} (hv : u.vm = U.vm) (h : jf_N u) : jf_N U := ⟨fun t ht => (h.1 t ht).same rfl hv, fun t ht => (h.2.1 t ht).same rfl hv, fun t ht => (h.2.2.1 t ht).same rfl hv, fun t ht => (h.2.2.2 t ht).same rfl hv⟩
theorem jf_N.of {args : Array Value} {s : State} (h : ∀ w ∈ lw_tbl, w.before args s = true) : jf_N s := ⟨fun t ht => va_Nw.of rfl (h _ (jf_nf_tbl t ht)), fun t ht => va_Nw.of rfl (h _ (jf_nm_tbl t ht)), fun t ht => va_Nw.of rfl (h _ (jf_nc_tbl t ht)), fun t ht => va_Nw.of rfl (h _ (jf_nd_tbl t ht))⟩
/-- the constant pool places of the strings in JumpFence$Reader -/
def jf_sx (i : Nat) : Nat := [17, 19, 21, 23, 25, 27, 29, 31, 33, 35, 104, 83, 113, 155].getD i 0

def jx_LS (C n d : String) (A : Nat → Prop) (U : State) : Prop := (Cond.laysStatic C n d).before #[] U = true ∧ ∀ (c : ClassId) (k : Class) (i : Nat) (f : Field) (a : Nat), U.fieldFound? C n d = some (c, k, i, f) → k.statics = some a → ¬ A a ∧ a < U.heap.size
theorem jx_LS.moved {C n d : String} {A : Nat → Prop} {s U : State} (hW : s.WarmedH U.vm) (hq : ∀ a : Nat, a < s.heap.size → ¬ A a → U.heap[a]? = s.heap[a]?) (h : jx_LS C n d A s) : jx_LS C n d A U := by
  obtain ⟨h1, h2⟩ := h
  obtain ⟨c, k, i, f, a, cell, g1, g2, g3, g4, g5, g6, g7, g8, g9⟩ := Cond.laysStatic_spec h1
  obtain ⟨k', hi', he⟩ := State.fieldFound?_setVm hW.alike g2
  obtain ⟨na, la⟩ := h2 _ _ _ _ _ g2 g4
  have hc' : U.heap[a]? = some cell := by rw [hq a la na]; exact g5
  refine ⟨Cond.laysStatic_of (c := c) (k := k') (i := i) (f := f) (a := a) (cell := cell) (by rw [hW.alike.findClass]; exact g1) hi' g3 (by rw [he]; exact g4) hc' g6 g7 g8 (by rw [he]; exact g9), fun c2 k2 i2 f2 a2 e1 e2 => ?_⟩
  cases hi'.symm.trans e1
  rw [he] at e2
  cases g4.symm.trans e2
  exact ⟨na, (Array.getElem?_eq_some_iff.mp hc').1⟩
theorem jx_LS.of {C n d : String} {A : Nat → Prop} {args : Array Value} {s : State} (h : (Cond.laysStatic C n d).before args s = true) (hA : ∀ a : Nat, a < s.heap.size → ¬ A a) : jx_LS C n d A s := by
  obtain ⟨c, k, i, f, a, cell, g1, g2, g3, g4, g5, g6, g7, g8, g9⟩ := Cond.laysStatic_spec h
  have hlt := (Array.getElem?_eq_some_iff.mp g5).1
  refine ⟨Cond.laysStatic_of g1 g2 g3 g4 g5 g6 g7 g8 g9, fun c2 k2 i2 f2 a2 e1 e2 => ?_⟩
  cases g2.symm.trans e1
  cases g4.symm.trans e2
  exact ⟨hA a hlt, hlt⟩
def jf_Z (E : jf_E) (A : Nat → Prop) (U : State) : Prop := (∀ i, i < 14 → vk_R "JumpFence$Reader" (jf_sx i) (jx_st.getD i "") (E.2.2.2.1 i) U ∧ jx_sAt A i (E.2.2.2.1 i) U U.heap) ∧ jx_sSt A U U.heap ∧ va_Zq "java/lang/Throwable" "UNASSIGNED_STACK" "[Ljava/lang/StackTraceElement;" A U U.heap ∧ va_Zq "java/lang/Throwable" "SUPPRESSED_SENTINEL" "Ljava/util/List;" A U U.heap ∧ jx_LS "java/lang/Throwable" "UNASSIGNED_STACK" "[Ljava/lang/StackTraceElement;" A U ∧ jx_LS "java/lang/Throwable" "SUPPRESSED_SENTINEL" "Ljava/util/List;" A U
theorem jf_Z.moved {E : jf_E} {A : Nat → Prop} {s U : State} (hW : s.WarmedH U.vm) (hq : ∀ a : Nat, a < s.heap.size → ¬ A a → U.heap[a]? = s.heap[a]?) (h : jf_Z E A s) : jf_Z E A U :=
  ⟨fun i hi => ⟨(h.1 i hi).1.warm hW, ((h.1 i hi).2.moved hW.alike).kept hq⟩, h.2.1.moved hW hq, va_Zq.kept (va_Zq.moved hW.alike h.2.2.1) hq, va_Zq.kept (va_Zq.moved hW.alike h.2.2.2.1) hq, h.2.2.2.2.1.moved hW hq, h.2.2.2.2.2.moved hW hq⟩
/-- what all component methods lean on, beside the cells -/
def jf_V (D : va_G) (E : jf_E) (A : Nat → Prop) (U : State) : Prop := va_K D jx_cl (jf_ty E) U ∧ jf_Z E A U ∧ jf_N U ∧ ∀ q : Nat, U.heap.size ≤ q → A q
theorem jf_V.moved {D : va_G} {E : jf_E} {A : Nat → Prop} {s U : State} (hW : s.WarmedH U.vm) (hz : s.heap.size ≤ U.heap.size) (hq : ∀ a : Nat, a < s.heap.size → ¬ A a → U.heap[a]? = s.heap[a]?) (h : jf_V D E A s) : jf_V D E A U :=
  ⟨va_K.moved hW.alike h.1, h.2.1.moved hW hq, h.2.2.1.warm hW, fun q hqs => h.2.2.2 q (Nat.le_trans hz hqs)⟩
def jf_U (D : va_G) (E : jf_E) (A : Nat → Prop) (S : jf_S) (fo : Nat → Nat → Option Nat) (pl : va_W) (U : State) : Prop := jf_P D E A S fo pl U.heap ∧ jf_V D E A U
theorem jf_U.blind {D : va_G} {E : jf_E} {A : Nat → Prop} {S : jf_S} {fo : Nat → Nat → Option Nat} {pl : va_W} {av : List Value} : FrameBlind (va_Pc av (jf_U D E A S fo pl)) := by
  intro a U g mk h
  obtain ⟨h0, hP, hV⟩ := h
  exact ⟨h0, hP, hV.moved (State.WarmedH.refl U) (Nat.le_refl _) (fun _ _ _ => rfl)⟩
def jf_Mi (l : Launch) (D : va_G) (E : jf_E) (A : Nat → Prop) (fo : Nat → Nat → Option Nat) (pl : va_W) (y : MethodName) (cc : ByteArray) (nL : Nat) (rt : Option FieldType) (lv : Nat) (As : List Value) (S : jf_S) (out : Int32 × jf_S) : Prop :=
  Met l y (ws_ y cc nL rt) (jx_rm lv) (va_Pc As (jf_U D E A S fo pl)) (va_Qi (fun r u => (r, u) = out) (fun u => jf_U D E A u fo pl) A) 0 0 A
def jf_Ml (l : Launch) (D : va_G) (E : jf_E) (A : Nat → Prop) (fo : Nat → Nat → Option Nat) (pl : va_W) (y : MethodName) (cc : ByteArray) (nL : Nat) (rt : Option FieldType) (lv : Nat) (As : List Value) (S : jf_S) (out : Int64 × jf_S) : Prop :=
  Met l y (ws_ y cc nL rt) (jx_rm lv) (va_Pc As (jf_U D E A S fo pl)) (va_Ql (fun r u => (r, u) = out) (fun u => jf_U D E A u fo pl) A) 0 0 A
def jf_Mv (l : Launch) (D : va_G) (E : jf_E) (A : Nat → Prop) (fo : Nat → Nat → Option Nat) (pl : va_W) (y : MethodName) (cc : ByteArray) (nL : Nat) (rt : Option FieldType) (lv : Nat) (As : List Value) (S : jf_S) (out : jf_S) : Prop :=
  Met l y (ws_ y cc nL rt) (jx_rm lv) (va_Pc As (jf_U D E A S fo pl)) (va_Qv (fun u => u = out) (fun u => jf_U D E A u fo pl) A) 0 0 A
def jf_Qi (below : List Frame) (args : Array Value) (s : State) (A : Nat → Prop) (D : va_G) (E : jf_E) (fo : Nat → Nat → Option Nat) (pl : va_W) (out : Int32 × jf_S) : State → Prop := MQ below (va_Qi (fun r u => (r, u) = out) (fun u => jf_U D E A u fo pl) A) args s 0 0 A
def jf_Ql (below : List Frame) (args : Array Value) (s : State) (A : Nat → Prop) (D : va_G) (E : jf_E) (fo : Nat → Nat → Option Nat) (pl : va_W) (out : Int64 × jf_S) : State → Prop := MQ below (va_Ql (fun r u => (r, u) = out) (fun u => jf_U D E A u fo pl) A) args s 0 0 A
def jf_Qv (below : List Frame) (args : Array Value) (s : State) (A : Nat → Prop) (D : va_G) (E : jf_E) (fo : Nat → Nat → Option Nat) (pl : va_W) (out : jf_S) : State → Prop := MQ below (va_Qv (fun u => u = out) (fun u => jf_U D E A u fo pl) A) args s 0 0 A
def jf_J (p : Program) (l : Launch) (e : Env) (R : Room) (s : State) (m : MethodId) (args : Array Value) (below : List Frame) (meth : Method) (c : Code) (A : Nat → Prop) (D : va_G) (E : jf_E) (fo : Nat → Nat → Option Nat) (pl : va_W) (nL : Nat) (Q : State → Prop) (pc : Nat) (lv : List (Nat × Value)) (stk : List Value) (S : jf_S) : Prop :=
  ∀ (H : Heap) (locs : List Loc) (ls : Array Slot), jf_P D E A S fo pl H → va_S A s.heap H locs → lv_has ls nL lv → W p l e R s m args below meth c H locs 0 0 Q (F0 m pc ls stk)
/-- room for a method at a level -/
def jx_hr (R : Room) (lv : Nat) : Prop := lv ≤ R.frames ∧ 40 * lv ≤ R.locals
def jf_Ok (own : String) (p : Program) (R : Room) (s : State) (m : MethodId) (args : Array Value) (meth : Method) (c : Code) (A : Nat → Prop) (D : va_G) (E : jf_E) (cc : ByteArray) (nL : Nat) (rt : Option FieldType) (lv : Nat) : Prop :=
  p.tables.exec = Jvm.exec ∧ c.code = cc ∧ c.maxLocals = nL ∧ s.vm.findClass own = some m.cls ∧ (∀ w ∈ lw_all, w.before args s = true) ∧ meth.locks = false ∧ meth.sig.returnType = rt ∧ jx_hr R lv ∧ jf_V D E A s ∧ c.exceptionTable.isEmpty = true
theorem jf_same4 {s : State} (k : Nat) : ∀ x, s.fieldFound? (TX4 k).1 (TX4 k).2.1 (TX4 k).2.2.1 = some x → s.fieldFound? RX4 (TX4 k).2.1 (TX4 k).2.2.1 = some x := by
  have h : (TX4 k).1 = RX4 := by unfold TX4; split <;> rfl
  rw [h]
  exact fun _ h => h
section
variable {p : Program} {l : Launch} {e : Env} {R : Room} {s : State} {m : MethodId} {args : Array Value} {below : List Frame} {meth : Method} {c : Code} {H : Heap} {locs : List Loc} {Q : State → Prop} {pc : Nat} {ls : Array Slot} {rest : List Value} {A : Nat → Prop} {D : va_G} {E : jf_E} {fo : Nat → Nat → Option Nat} {pl : va_W} {cc : ByteArray} {S S1 : jf_S} {own ref C host : String} {T : u_T} {N ci cells slots : Nat}
theorem jf_get (hx : p.tables.exec = Jvm.exec) (hb : c.code = cc) (hts : ∀ w ∈ lw_all, w.before args s = true) (hin : ∀ w ∈ u_ws C T N, w ∈ lw_all) (hown : s.vm.findClass own = some m.cls) (hV : jf_V D E A s) (hP : jf_P D E A S fo pl H) {q0 k ix a : Nat} {v : Value} {fs : List Value} (he : (jf_ws E S fo pl)[q0]? = some (a, .inr (ci, fs))) (hc : jx_cl[ci]? = some (C, T, N)) (hk : k < N) (hl : (Cond.fieldLink own ix ref (T k).2.1 (T k).2.2.1).before args s = true) (hs : (T k).1 = ref) (hv : fs[k]? = some v) (hdg : decode cc pc = .ok (.getfield ix, 3))
    (kk : W p l e R s m args below meth c H locs cells slots Q (F0 m (pc + 3) ls (v :: rest))) : W p l e R s m args below meth c H locs cells slots Q (F0 m pc ls (.ref a :: rest)) :=
  va_get (D := D) (ci := ci) (C := C) (T := T) (N := N) hx hb hts hin hown hV.1 hP.1 q0 he hc k hk hl (fun _ h => hs ▸ h) hv hdg kk
theorem jf_getN (hx : p.tables.exec = Jvm.exec) (hb : c.code = cc) (hts : ∀ w ∈ lw_all, w.before args s = true) (hin : ∀ w ∈ u_ws C T N, w ∈ lw_all) (hown : s.vm.findClass own = some m.cls) (hV : jf_V D E A s) (hP : jf_P D E A S fo pl H) {q0 k ix a : Nat} {v : Value} {fs : List Value} (he : (jf_ws E S fo pl)[q0]? = some (a, .inr (ci, fs))) (hc : jx_cl[ci]? = some (C, T, N)) (hk : k < N) (hl : (Cond.fieldLinkNest own ix ref (T k).2.1 (T k).2.2.1 host).before args s = true) (hs : (T k).1 = ref) (hv : fs[k]? = some v) (hdg : decode cc pc = .ok (.getfield ix, 3))
    (kk : W p l e R s m args below meth c H locs cells slots Q (F0 m (pc + 3) ls (v :: rest))) : W p l e R s m args below meth c H locs cells slots Q (F0 m pc ls (.ref a :: rest)) :=
  va_getN (D := D) (ci := ci) (C := C) (T := T) (N := N) hx hb hts hin hown hV.1 hP.1 q0 he hc k hk hl (fun _ h => hs ▸ h) hv hdg kk
theorem jf_put (hx : p.tables.exec = Jvm.exec) (hb : c.code = cc) (hts : ∀ w ∈ lw_all, w.before args s = true) (hin : ∀ w ∈ u_ws C T N, w ∈ lw_all) {ty0 : Nat → FieldType} (hty : ∀ k, k < N → parseFieldDescriptor (T k).2.2.1 = some (ty0 k)) (hnm : ∀ a, a < N → ∀ b, b < N → a ≠ b → (T a).2.1 ≠ (T b).2.1) (hown : s.vm.findClass own = some m.cls) (hV : jf_V D E A s) (hP : jf_P D E A S fo pl H) (hS : va_S A s.heap H locs) {q0 k ix a : Nat} {v : Value} {fs : List Value} (hO : S1.2.2.2.2 = S.2.2.2.2) (he : (jf_ws E S fo pl)[q0]? = some (a, .inr (ci, fs))) (hset : (jf_ws E S fo pl).set q0 (a, .inr (ci, fs.set k v)) = jf_ws E S1 fo pl) (hc : jx_cl[ci]? = some (C, T, N)) (hk : k < N) (hl : (Cond.fieldLink own ix ref (T k).2.1 (T k).2.2.1).before args s = true) (hs : (T k).1 = ref) (hfin : (T k).2.2.2 = false) {ty : FieldType} (hd : parseFieldDescriptor (T k).2.2.1 = some ty) (hn : narrow ty v = v ∧ fits ty v = true) (hlen : k < fs.length) (hdg : decode cc pc = .ok (.putfield ix, 3))
    (kk : ∀ (H : Heap) (locs : List Loc), jf_P D E A S1 fo pl H → va_S A s.heap H locs → W p l e R s m args below meth c H locs cells slots Q (F0 m (pc + 3) ls rest)) : W p l e R s m args below meth c H locs cells slots Q (F0 m pc ls (v :: .ref a :: rest)) := by
  refine va_put (D := D) (ci := ci) (C := C) (T := T) (N := N) hx hb hts hin ty0 hty hnm hown hV.1 hP.1 hP.2.1 hS q0 he hc k hk hl (fun _ h => hs ▸ h) hfin hd hn.1 hn.2 hlen hdg (fun H1 l1 hP1 hD1 hS1 => ?_)
  rw [hset] at hP1 hD1
  exact kk H1 l1 ⟨hP1, hD1, ⟨fun o i r h => hP.2.2.1 o i r (by rw [← hO]; exact h), fun o i h => hP.2.2.2 o i (by rw [← hO]; exact h)⟩⟩ hS1
theorem jf_putN (hx : p.tables.exec = Jvm.exec) (hb : c.code = cc) (hts : ∀ w ∈ lw_all, w.before args s = true) (hin : ∀ w ∈ u_ws C T N, w ∈ lw_all) {ty0 : Nat → FieldType} (hty : ∀ k, k < N → parseFieldDescriptor (T k).2.2.1 = some (ty0 k)) (hnm : ∀ a, a < N → ∀ b, b < N → a ≠ b → (T a).2.1 ≠ (T b).2.1) (hown : s.vm.findClass own = some m.cls) (hV : jf_V D E A s) (hP : jf_P D E A S fo pl H) (hS : va_S A s.heap H locs) {q0 k ix a : Nat} {v : Value} {fs : List Value} (hO : S1.2.2.2.2 = S.2.2.2.2) (he : (jf_ws E S fo pl)[q0]? = some (a, .inr (ci, fs))) (hset : (jf_ws E S fo pl).set q0 (a, .inr (ci, fs.set k v)) = jf_ws E S1 fo pl) (hc : jx_cl[ci]? = some (C, T, N)) (hk : k < N) (hl : (Cond.fieldLinkNest own ix ref (T k).2.1 (T k).2.2.1 host).before args s = true) (hs : (T k).1 = ref) (hfin : (T k).2.2.2 = false) {ty : FieldType} (hd : parseFieldDescriptor (T k).2.2.1 = some ty) (hn : narrow ty v = v ∧ fits ty v = true) (hlen : k < fs.length) (hdg : decode cc pc = .ok (.putfield ix, 3))
    (kk : ∀ (H : Heap) (locs : List Loc), jf_P D E A S1 fo pl H → va_S A s.heap H locs → W p l e R s m args below meth c H locs cells slots Q (F0 m (pc + 3) ls rest)) : W p l e R s m args below meth c H locs cells slots Q (F0 m pc ls (v :: .ref a :: rest)) := by
  refine va_putN (D := D) (ci := ci) (C := C) (T := T) (N := N) hx hb hts hin ty0 hty hnm hown hV.1 hP.1 hP.2.1 hS q0 he hc k hk hl (fun _ h => hs ▸ h) hfin hd hn.1 hn.2 hlen hdg (fun H1 l1 hP1 hD1 hS1 => ?_)
  rw [hset] at hP1 hD1
  exact kk H1 l1 ⟨hP1, hD1, ⟨fun o i r h => hP.2.2.1 o i r (by rw [← hO]; exact h), fun o i h => hP.2.2.2 o i (by rw [← hO]; exact h)⟩⟩ hS1
theorem jf_iald (hx : p.tables.exec = Jvm.exec) (hb : c.code = cc) (hV : jf_V D E A s) (hP : jf_P D E A S fo pl H) {o k n j : Nat} {i : Int32} (ha : jf_AI E S fo pl o k n 0) (ej : j = i.toNatClampNeg) (hin : vp_in i n) (hdg : decode cc pc = .ok (.iaload, 1))
    (kk : W p l e R s m args below meth c H locs cells slots Q (F0 m (pc + 1) ls (.int (S.2.2.1 o k j) :: rest))) : W p l e R s m args below meth c H locs cells slots Q (F0 m pc ls (.int i :: .ref (E.2.1 o k) :: rest)) := by
  subst ej
  obtain ⟨q, hq, -⟩ := ha
  exact va_iald hx hb hV.1 hP.1 q 0 hq rfl hin hdg kk
theorem jf_iast (hx : p.tables.exec = Jvm.exec) (hb : c.code = cc) (hV : jf_V D E A s) (hP : jf_P D E A S fo pl H) (hS : va_S A s.heap H locs) {o k n j : Nat} {i x : Int32} (ha : jf_AI E S fo pl o k n 0) (ej : j = i.toNatClampNeg) (hin : vp_in i n) (hS1 : S1 = jf_setA S o k (upd (S.2.2.1 o k) j x)) (hdg : decode cc pc = .ok (.iastore, 1))
    (kk : ∀ (H : Heap) (locs : List Loc), jf_P D E A S1 fo pl H → va_S A s.heap H locs → W p l e R s m args below meth c H locs cells slots Q (F0 m (pc + 1) ls rest)) : W p l e R s m args below meth c H locs cells slots Q (F0 m pc ls (.int x :: .int i :: .ref (E.2.1 o k) :: rest)) := by
  subst ej
  subst hS1
  obtain ⟨q, hq, hu⟩ := ha
  refine va_iast hx hb hV.1 hP.1 hP.2.1 hS q 0 hq rfl hin hdg (fun H1 l1 hP1 hD1 hS1 => ?_)
  rw [hu] at hP1 hD1
  exact kk H1 l1 ⟨hP1, hD1, hP.2.2⟩ hS1
theorem jf_bald (hx : p.tables.exec = Jvm.exec) (hb : c.code = cc) (hV : jf_V D E A s) (hP : jf_P D E A S fo pl H) {o k n j : Nat} {i : Int32} (ha : jf_AI E S fo pl o k n 1) (ej : j = i.toNatClampNeg) (hin : vp_in i n) (hdg : decode cc pc = .ok (.baload, 1))
    (kk : W p l e R s m args below meth c H locs cells slots Q (F0 m (pc + 1) ls (.int (S.2.2.1 o k j) :: rest))) : W p l e R s m args below meth c H locs cells slots Q (F0 m pc ls (.int i :: .ref (E.2.1 o k) :: rest)) := by
  subst ej
  obtain ⟨q, hq, -⟩ := ha
  exact va_bald hx hb hV.1 hP.1 q 1 hq rfl hin hdg kk
theorem jf_bast (hx : p.tables.exec = Jvm.exec) (hb : c.code = cc) (hV : jf_V D E A s) (hP : jf_P D E A S fo pl H) (hS : va_S A s.heap H locs) {o k n j : Nat} {i x : Int32} (ha : jf_AI E S fo pl o k n 1) (ej : j = i.toNatClampNeg) (hin : vp_in i n) (hS1 : S1 = jf_setA S o k (upd (S.2.2.1 o k) j (vp_nar .byte x))) (hdg : decode cc pc = .ok (.bastore, 1))
    (kk : ∀ (H : Heap) (locs : List Loc), jf_P D E A S1 fo pl H → va_S A s.heap H locs → W p l e R s m args below meth c H locs cells slots Q (F0 m (pc + 1) ls rest)) : W p l e R s m args below meth c H locs cells slots Q (F0 m pc ls (.int x :: .int i :: .ref (E.2.1 o k) :: rest)) := by
  subst ej
  subst hS1
  obtain ⟨q, hq, hu⟩ := ha
  refine va_bast hx hb hV.1 hP.1 hP.2.1 hS q 1 hq rfl hin hdg (fun H1 l1 hP1 hD1 hS1 => ?_)
  rw [hu] at hP1 hD1
  exact kk H1 l1 ⟨hP1, hD1, hP.2.2⟩ hS1
theorem jf_zald (hx : p.tables.exec = Jvm.exec) (hb : c.code = cc) (hV : jf_V D E A s) (hP : jf_P D E A S fo pl H) {o k n j : Nat} {i : Int32} (ha : jf_AI E S fo pl o k n 2) (ej : j = i.toNatClampNeg) (hin : vp_in i n) (hdg : decode cc pc = .ok (.baload, 1))
    (kk : W p l e R s m args below meth c H locs cells slots Q (F0 m (pc + 1) ls (.int (S.2.2.1 o k j) :: rest))) : W p l e R s m args below meth c H locs cells slots Q (F0 m pc ls (.int i :: .ref (E.2.1 o k) :: rest)) := by
  subst ej
  obtain ⟨q, hq, -⟩ := ha
  exact va_zald hx hb hV.1 hP.1 q 2 hq rfl hin hdg kk
theorem jf_zast (hx : p.tables.exec = Jvm.exec) (hb : c.code = cc) (hV : jf_V D E A s) (hP : jf_P D E A S fo pl H) (hS : va_S A s.heap H locs) {o k n j : Nat} {i x : Int32} (ha : jf_AI E S fo pl o k n 2) (ej : j = i.toNatClampNeg) (hin : vp_in i n) (hS1 : S1 = jf_setA S o k (upd (S.2.2.1 o k) j (vp_nar .boolean x))) (hdg : decode cc pc = .ok (.bastore, 1))
    (kk : ∀ (H : Heap) (locs : List Loc), jf_P D E A S1 fo pl H → va_S A s.heap H locs → W p l e R s m args below meth c H locs cells slots Q (F0 m (pc + 1) ls rest)) : W p l e R s m args below meth c H locs cells slots Q (F0 m pc ls (.int x :: .int i :: .ref (E.2.1 o k) :: rest)) := by
  subst ej
  subst hS1
  obtain ⟨q, hq, hu⟩ := ha
  refine va_zast hx hb hV.1 hP.1 hP.2.1 hS q 2 hq rfl hin hdg (fun H1 l1 hP1 hD1 hS1 => ?_)
  rw [hu] at hP1 hD1
  exact kk H1 l1 ⟨hP1, hD1, hP.2.2⟩ hS1
theorem jf_lald (hx : p.tables.exec = Jvm.exec) (hb : c.code = cc) (hV : jf_V D E A s) (hP : jf_P D E A S fo pl H) {o k n j : Nat} {i : Int32} (ha : jf_AL E S fo pl o k n) (ej : j = i.toNatClampNeg) (hin : vp_in i n) (hdg : decode cc pc = .ok (.laload, 1))
    (kk : W p l e R s m args below meth c H locs cells slots Q (F0 m (pc + 1) ls (.long (S.2.2.2.1 o k j) :: rest))) : W p l e R s m args below meth c H locs cells slots Q (F0 m pc ls (.int i :: .ref (E.2.1 o k) :: rest)) := by
  subst ej
  obtain ⟨q, hq, -⟩ := ha
  exact va_lald hx hb hV.1 hP.1 q 3 hq rfl hin hdg kk
theorem jf_last (hx : p.tables.exec = Jvm.exec) (hb : c.code = cc) (hV : jf_V D E A s) (hP : jf_P D E A S fo pl H) (hS : va_S A s.heap H locs) {o k n j : Nat} {i : Int32} {x : Int64} (ha : jf_AL E S fo pl o k n) (ej : j = i.toNatClampNeg) (hin : vp_in i n) (hS1 : S1 = jf_setL S o k (vp_updL (S.2.2.2.1 o k) j x)) (hdg : decode cc pc = .ok (.lastore, 1))
    (kk : ∀ (H : Heap) (locs : List Loc), jf_P D E A S1 fo pl H → va_S A s.heap H locs → W p l e R s m args below meth c H locs cells slots Q (F0 m (pc + 1) ls rest)) : W p l e R s m args below meth c H locs cells slots Q (F0 m pc ls (.long x :: .int i :: .ref (E.2.1 o k) :: rest)) := by
  subst ej
  subst hS1
  obtain ⟨q, hq, hu⟩ := ha
  refine va_last hx hb hV.1 hP.1 hP.2.1 hS q 3 hq rfl hin hdg (fun H1 l1 hP1 hD1 hS1 => ?_)
  rw [hu] at hP1 hD1
  exact kk H1 l1 ⟨hP1, hD1, hP.2.2⟩ hS1
/-- an order out of an array of orders -/
theorem jf_qald (hx : p.tables.exec = Jvm.exec) (hb : c.code = cc) (hV : jf_V D E A s) (hP : jf_P D E A S fo pl H) {o k j : Nat} {i : Int32} {r : jo_R} (ha : jf_AQ E S fo pl o k) (ej : j = i.toNatClampNeg) (hin : vp_in i 40) (hr : S.2.2.2.2 o j = some r) (hdg : decode cc pc = .ok (.aaload, 1))
    (kk : ∀ a : Nat, jo_Is pl a r → W p l e R s m args below meth c H locs cells slots Q (F0 m (pc + 1) ls (.ref a :: rest))) : W p l e R s m args below meth c H locs cells slots Q (F0 m pc ls (.int i :: .ref (E.2.1 o k) :: rest)) := by
  subst ej
  obtain ⟨q, hq, -⟩ := ha
  obtain ⟨a, h1, h2⟩ := hP.2.2.1 o _ r hr
  refine va_aldq hx hb hV.1 hP.1 q 5 hq rfl hin hdg ?_
  rw [h1]
  exact kk a h2
theorem jf_iret {v : Int32} {out : Int32 × jf_S} (hx : p.tables.exec = Jvm.exec) (hb : c.code = cc) (hr : meth.sig.returnType = some .int) (hlk : meth.locks = false) (hV : jf_V D E A s) (hP : jf_P D E A S fo pl H) (hS : va_S A s.heap H locs) (h : some (v, S) = some out) (hdg : decode cc pc = .ok (.ireturn, 1)) : W p l e R s m args below meth c H locs 0 0 (jf_Qi below args s A D E fo pl out) (F0 m pc ls [.int v]) := by
  unfold jf_Qi
  exact W.iret (v := v) hx hb hr (fun t ht hW => ⟨⟨v, S, rfl, Option.some.inj h, by rw [ht]; exact hP, hV.moved hW (by rw [ht]; exact hS.1) (fun a h1 h2 => by rw [ht]; exact hS.2.1 a h1 h2)⟩, hS.F ht⟩) hS.2.2 hdg hlk
theorem jf_lret {v : Int64} {out : Int64 × jf_S} (hx : p.tables.exec = Jvm.exec) (hb : c.code = cc) (hr : meth.sig.returnType = some .long) (hlk : meth.locks = false) (hV : jf_V D E A s) (hP : jf_P D E A S fo pl H) (hS : va_S A s.heap H locs) (h : some (v, S) = some out) (hdg : decode cc pc = .ok (.lreturn, 1)) : W p l e R s m args below meth c H locs 0 0 (jf_Ql below args s A D E fo pl out) (F0 m pc ls [.long v]) := by
  unfold jf_Ql
  exact W.lret (v := v) hx hb hr (fun t ht hW => ⟨⟨v, S, rfl, Option.some.inj h, by rw [ht]; exact hP, hV.moved hW (by rw [ht]; exact hS.1) (fun a h1 h2 => by rw [ht]; exact hS.2.1 a h1 h2)⟩, hS.F ht⟩) hS.2.2 hdg hlk
theorem jf_zret {v : Int32} {out : Int32 × jf_S} (hx : p.tables.exec = Jvm.exec) (hb : c.code = cc) (hr : meth.sig.returnType = some .boolean) (hlk : meth.locks = false) (hV : jf_V D E A s) (hP : jf_P D E A S fo pl H) (hS : va_S A s.heap H locs) (hn : narrow .boolean (.int v) = .int v ∧ fits .boolean (.int v) = true) (h : some (v, S) = some out) (hdg : decode cc pc = .ok (.ireturn, 1)) : W p l e R s m args below meth c H locs 0 0 (jf_Qi below args s A D E fo pl out) (F0 m pc ls [.int v]) := by
  unfold jf_Qi
  exact W.zret (v := v) hx hb hr hn.1 (fun t ht hW => ⟨⟨v, S, rfl, Option.some.inj h, by rw [ht]; exact hP, hV.moved hW (by rw [ht]; exact hS.1) (fun a h1 h2 => by rw [ht]; exact hS.2.1 a h1 h2)⟩, hS.F ht⟩) hS.2.2 hdg hlk
theorem jf_vret {out : jf_S} (hx : p.tables.exec = Jvm.exec) (hb : c.code = cc) (hr : meth.sig.returnType = none) (hlk : meth.locks = false) (hV : jf_V D E A s) (hP : jf_P D E A S fo pl H) (hS : va_S A s.heap H locs) (h : some S = some out) (hdg : decode cc pc = .ok (.return_, 1)) : W p l e R s m args below meth c H locs 0 0 (jf_Qv below args s A D E fo pl out) (F0 m pc ls []) := by
  unfold jf_Qv
  exact W.vret hx hb hr (fun t ht hW => ⟨⟨S, rfl, Option.some.inj h, by rw [ht]; exact hP, hV.moved hW (by rw [ht]; exact hS.1) (fun a h1 h2 => by rw [ht]; exact hS.2.1 a h1 h2)⟩, hS.F ht⟩) hS.2.2 hdg hlk
theorem jf_callI {out : Int32 × jf_S} {y : MethodName} {bytes : ByteArray} {maxL nL lv lv' ix n q0 b : Nat} {rt : Option FieldType} {stk fs : List Value} (hx : p.tables.exec = Jvm.exec) (hb : c.code = cc) (hml : c.maxLocals = nL) (hown : s.vm.findClass own = some m.cls) (hts : ∀ w ∈ lw_all, w.before args s = true) (hlv : jx_hr R lv) (hV : jf_V D E A s) {As : List Value} (hM : jf_Mi l D E A fo pl y bytes maxL rt lv' (.ref b :: As) S out) (hg : GoodIn lw_all (wsV own ix C y (ws_ y bytes maxL rt))) (hd : y.cls = C ∧ y.cls ≠ "java/lang/invoke/MethodHandle" ∧ y.cls ≠ "java/lang/invoke/VarHandle" ∧ (parseMethodDescriptor y.desc).map (fun d => d.parameters.length) = some n) (h1 : lv' + 1 ≤ lv) (h2 : maxL ≤ 21) (hP : jf_P D E A S fo pl H) (hS : va_S A s.heap H locs) (he : (jf_ws E S fo pl)[q0]? = some (b, .inr (ci, fs))) (hc : jx_cl[ci]? = some (C, T, N)) (hls : ls.size = nL) (hn : As.length = n) (hst : stk = As.reverse ++ .ref b :: rest) (hW : 2 * (F0 m pc ls stk).monitorRoom + (rest.map fun v => v.category).sum ≤ 8) (hdg : decode cc pc = .ok (.invokevirtual ix, 3))
    (kk : ∀ (H : Heap) (locs : List Loc), jf_P D E A out.2 fo pl H → va_S A s.heap H locs → W p l e R s m args below meth c H locs 0 0 Q (F0 m (pc + 3) ls (.int out.1 :: rest))) : W p l e R s m args below meth c H locs 0 0 Q (F0 m pc ls stk) := by
  unfold jf_Mi at hM
  refine va_calli (va_runV (As := As) (rest := rest) (C := C) (own := own) (index := ix) ⟨hx, hb, hml, hown, hts⟩ hM (cwV n hts hg rfl rfl rfl hd ⟨Nat.le_trans h1 hlv.1, by have := hlv.2; show 8 + (maxL + 11) + 40 * lv' ≤ R.locals; omega⟩) ⟨jf_U.blind, va_recv hV.1 hP.1 (ci := ci) (q0 := q0) hc he, fun U hU hW => ⟨rfl, by rw [hU]; exact hP, hV.moved hW (by rw [hU]; exact hS.1) (fun a h1 h2 => by rw [hU]; exact hS.2.1 a h1 h2)⟩⟩ rfl hn hls hst hW hdg ⟨Nat.zero_le _, Nat.zero_le _⟩) hS (fun _ _ h => h) (fun _ h => h) (fun r u t H1 l1 ht hvm hp hB hz hk hS1 => ?_)
  subst hp
  obtain ⟨hP1, -⟩ := hB
  rw [ht] at hP1
  exact kk H1 l1 hP1 hS1
theorem jf_callL {out : Int64 × jf_S} {y : MethodName} {bytes : ByteArray} {maxL nL lv lv' ix n q0 b : Nat} {rt : Option FieldType} {stk fs : List Value} (hx : p.tables.exec = Jvm.exec) (hb : c.code = cc) (hml : c.maxLocals = nL) (hown : s.vm.findClass own = some m.cls) (hts : ∀ w ∈ lw_all, w.before args s = true) (hlv : jx_hr R lv) (hV : jf_V D E A s) {As : List Value} (hM : jf_Ml l D E A fo pl y bytes maxL rt lv' (.ref b :: As) S out) (hg : GoodIn lw_all (wsV own ix C y (ws_ y bytes maxL rt))) (hd : y.cls = C ∧ y.cls ≠ "java/lang/invoke/MethodHandle" ∧ y.cls ≠ "java/lang/invoke/VarHandle" ∧ (parseMethodDescriptor y.desc).map (fun d => d.parameters.length) = some n) (h1 : lv' + 1 ≤ lv) (h2 : maxL ≤ 21) (hP : jf_P D E A S fo pl H) (hS : va_S A s.heap H locs) (he : (jf_ws E S fo pl)[q0]? = some (b, .inr (ci, fs))) (hc : jx_cl[ci]? = some (C, T, N)) (hls : ls.size = nL) (hn : As.length = n) (hst : stk = As.reverse ++ .ref b :: rest) (hW : 2 * (F0 m pc ls stk).monitorRoom + (rest.map fun v => v.category).sum ≤ 8) (hdg : decode cc pc = .ok (.invokevirtual ix, 3))
    (kk : ∀ (H : Heap) (locs : List Loc), jf_P D E A out.2 fo pl H → va_S A s.heap H locs → W p l e R s m args below meth c H locs 0 0 Q (F0 m (pc + 3) ls (.long out.1 :: rest))) : W p l e R s m args below meth c H locs 0 0 Q (F0 m pc ls stk) := by
  unfold jf_Ml at hM
  refine va_calll (va_runV (As := As) (rest := rest) (C := C) (own := own) (index := ix) ⟨hx, hb, hml, hown, hts⟩ hM (cwV n hts hg rfl rfl rfl hd ⟨Nat.le_trans h1 hlv.1, by have := hlv.2; show 8 + (maxL + 11) + 40 * lv' ≤ R.locals; omega⟩) ⟨jf_U.blind, va_recv hV.1 hP.1 (ci := ci) (q0 := q0) hc he, fun U hU hW => ⟨rfl, by rw [hU]; exact hP, hV.moved hW (by rw [hU]; exact hS.1) (fun a h1 h2 => by rw [hU]; exact hS.2.1 a h1 h2)⟩⟩ rfl hn hls hst hW hdg ⟨Nat.zero_le _, Nat.zero_le _⟩) hS (fun _ _ h => h) (fun _ h => h) (fun r u t H1 l1 ht hvm hp hB hz hk hS1 => ?_)
  subst hp
  obtain ⟨hP1, -⟩ := hB
  rw [ht] at hP1
  exact kk H1 l1 hP1 hS1
theorem jf_callV {out : jf_S} {y : MethodName} {bytes : ByteArray} {maxL nL lv lv' ix n q0 b : Nat} {rt : Option FieldType} {stk fs : List Value} (hx : p.tables.exec = Jvm.exec) (hb : c.code = cc) (hml : c.maxLocals = nL) (hown : s.vm.findClass own = some m.cls) (hts : ∀ w ∈ lw_all, w.before args s = true) (hlv : jx_hr R lv) (hV : jf_V D E A s) {As : List Value} (hM : jf_Mv l D E A fo pl y bytes maxL rt lv' (.ref b :: As) S out) (hg : GoodIn lw_all (wsV own ix C y (ws_ y bytes maxL rt))) (hd : y.cls = C ∧ y.cls ≠ "java/lang/invoke/MethodHandle" ∧ y.cls ≠ "java/lang/invoke/VarHandle" ∧ (parseMethodDescriptor y.desc).map (fun d => d.parameters.length) = some n) (h1 : lv' + 1 ≤ lv) (h2 : maxL ≤ 21) (hP : jf_P D E A S fo pl H) (hS : va_S A s.heap H locs) (he : (jf_ws E S fo pl)[q0]? = some (b, .inr (ci, fs))) (hc : jx_cl[ci]? = some (C, T, N)) (hls : ls.size = nL) (hn : As.length = n) (hst : stk = As.reverse ++ .ref b :: rest) (hW : 2 * (F0 m pc ls stk).monitorRoom + (rest.map fun v => v.category).sum ≤ 8) (hdg : decode cc pc = .ok (.invokevirtual ix, 3))
    (kk : ∀ (H : Heap) (locs : List Loc), jf_P D E A out fo pl H → va_S A s.heap H locs → W p l e R s m args below meth c H locs 0 0 Q (F0 m (pc + 3) ls (rest))) : W p l e R s m args below meth c H locs 0 0 Q (F0 m pc ls stk) := by
  unfold jf_Mv at hM
  refine va_callv (va_runV (As := As) (rest := rest) (C := C) (own := own) (index := ix) ⟨hx, hb, hml, hown, hts⟩ hM (cwV n hts hg rfl rfl rfl hd ⟨Nat.le_trans h1 hlv.1, by have := hlv.2; show 8 + (maxL + 11) + 40 * lv' ≤ R.locals; omega⟩) ⟨jf_U.blind, va_recv hV.1 hP.1 (ci := ci) (q0 := q0) hc he, fun U hU hW => ⟨rfl, by rw [hU]; exact hP, hV.moved hW (by rw [hU]; exact hS.1) (fun a h1 h2 => by rw [hU]; exact hS.2.1 a h1 h2)⟩⟩ rfl hn hls hst hW hdg ⟨Nat.zero_le _, Nat.zero_le _⟩) hS (fun _ _ h => h) (fun _ h => h) (fun u t H1 l1 ht hvm hp hB hz hk hS1 => ?_)
  subst hp
  obtain ⟨hP1, -⟩ := hB
  rw [ht] at hP1
  exact kk H1 l1 hP1 hS1
theorem jf_Mi_of {out : Int32 × jf_S} {y : MethodName} {nL lv : Nat} {rt : Option FieldType} {As : List Value} (hy : plainName y.cls = true ∧ y.cls = own ∧ (lg_sl As).length ≤ nL)
    (body : ∀ {p : Program} {e : Env} {s : State} {m : MethodId} {args : Array Value} {below : List Frame} {meth : Method} {c : Code}, jf_Ok own p (jx_rm lv) s m args meth c A D E cc nL rt lv → jf_J p l e (jx_rm lv) s m args below meth c A D E fo pl nL (jf_Qi below args s A D E fo pl out) 0 (lv_args 0 As) [] S) : jf_Mi l D E A fo pl y cc nL rt lv As S out := by
  unfold jf_Mi
  refine Met.ofW (cc := cc) (maxL := nL) (ret := rt) hy.1 rfl ?_
  intro p e s m args below meth c s₁ B hml hv
  obtain ⟨rfl, hP, hV⟩ := hv
  have hts0 := atoms_spec (ws := ws_ y cc nL rt) B.pre
  have hts : ∀ w ∈ lw_all, w.before _ s = true := fun w h => hts0 w (List.mem_cons_of_mem _ h)
  have hown : s.vm.findClass own = some m.cls := by
    have h := findClass_of_methodNamed B.named
    rw [hy.2.1] at h
    exact h
  have hl := lv_entry As (n := nL) hy.2.2
  rw [lg_entry_eq]
  have hJ := body (p := p) (e := e) (s := s) (m := m) (below := below) (meth := meth) (c := c) ⟨B.exec, B.bytes, hml, hown, hts, B.notSynchronized, B.returns, ⟨Nat.le_refl _, Nat.le_refl _⟩, hV, B.noHandlers (hts0 _ List.mem_cons_self)⟩
  unfold jf_Qi at hJ
  exact hJ _ _ _ hP va_S.rf hl
theorem jf_Ml_of {out : Int64 × jf_S} {y : MethodName} {nL lv : Nat} {rt : Option FieldType} {As : List Value} (hy : plainName y.cls = true ∧ y.cls = own ∧ (lg_sl As).length ≤ nL)
    (body : ∀ {p : Program} {e : Env} {s : State} {m : MethodId} {args : Array Value} {below : List Frame} {meth : Method} {c : Code}, jf_Ok own p (jx_rm lv) s m args meth c A D E cc nL rt lv → jf_J p l e (jx_rm lv) s m args below meth c A D E fo pl nL (jf_Ql below args s A D E fo pl out) 0 (lv_args 0 As) [] S) : jf_Ml l D E A fo pl y cc nL rt lv As S out := by
  unfold jf_Ml
  refine Met.ofW (cc := cc) (maxL := nL) (ret := rt) hy.1 rfl ?_
  intro p e s m args below meth c s₁ B hml hv
  obtain ⟨rfl, hP, hV⟩ := hv
  have hts0 := atoms_spec (ws := ws_ y cc nL rt) B.pre
  have hts : ∀ w ∈ lw_all, w.before _ s = true := fun w h => hts0 w (List.mem_cons_of_mem _ h)
  have hown : s.vm.findClass own = some m.cls := by
    have h := findClass_of_methodNamed B.named
    rw [hy.2.1] at h
    exact h
  have hl := lv_entry As (n := nL) hy.2.2
  rw [lg_entry_eq]
  have hJ := body (p := p) (e := e) (s := s) (m := m) (below := below) (meth := meth) (c := c) ⟨B.exec, B.bytes, hml, hown, hts, B.notSynchronized, B.returns, ⟨Nat.le_refl _, Nat.le_refl _⟩, hV, B.noHandlers (hts0 _ List.mem_cons_self)⟩
  unfold jf_Ql at hJ
  exact hJ _ _ _ hP va_S.rf hl
theorem jf_Mv_of {out : jf_S} {y : MethodName} {nL lv : Nat} {rt : Option FieldType} {As : List Value} (hy : plainName y.cls = true ∧ y.cls = own ∧ (lg_sl As).length ≤ nL)
    (body : ∀ {p : Program} {e : Env} {s : State} {m : MethodId} {args : Array Value} {below : List Frame} {meth : Method} {c : Code}, jf_Ok own p (jx_rm lv) s m args meth c A D E cc nL rt lv → jf_J p l e (jx_rm lv) s m args below meth c A D E fo pl nL (jf_Qv below args s A D E fo pl out) 0 (lv_args 0 As) [] S) : jf_Mv l D E A fo pl y cc nL rt lv As S out := by
  unfold jf_Mv
  refine Met.ofW (cc := cc) (maxL := nL) (ret := rt) hy.1 rfl ?_
  intro p e s m args below meth c s₁ B hml hv
  obtain ⟨rfl, hP, hV⟩ := hv
  have hts0 := atoms_spec (ws := ws_ y cc nL rt) B.pre
  have hts : ∀ w ∈ lw_all, w.before _ s = true := fun w h => hts0 w (List.mem_cons_of_mem _ h)
  have hown : s.vm.findClass own = some m.cls := by
    have h := findClass_of_methodNamed B.named
    rw [hy.2.1] at h
    exact h
  have hl := lv_entry As (n := nL) hy.2.2
  rw [lg_entry_eq]
  have hJ := body (p := p) (e := e) (s := s) (m := m) (below := below) (meth := meth) (c := c) ⟨B.exec, B.bytes, hml, hown, hts, B.notSynchronized, B.returns, ⟨Nat.le_refl _, Nat.le_refl _⟩, hV, B.noHandlers (hts0 _ List.mem_cons_self)⟩
  unfold jf_Qv at hJ
  exact hJ _ _ _ hP va_S.rf hl
end
theorem jf_l_X1_121 {s : State} {args : Array Value} (h : jf_N s) : (Cond.fieldLinkNest RX1 121 "JumpFence$Wrong" "place" "I" "JumpFence").before args s = true := va_Nw.use rfl (h.1 ("JumpFence", 121, "JumpFence$Wrong", "place", "I", "JumpFence") (by decide))
theorem jf_l_X1_104 {s : State} {args : Array Value} (h : jf_N s) : (Cond.fieldLinkNest RX1 104 "JumpFence$Reader" "tape" "[B" "JumpFence").before args s = true := va_Nw.use rfl (h.1 ("JumpFence", 104, "JumpFence$Reader", "tape", "[B", "JumpFence") (by decide))
theorem jf_l_X1_125 {s : State} {args : Array Value} (h : jf_N s) : (Cond.fieldLinkNest RX1 125 "JumpFence$Reader" "row" "[LJumpFence$Order;" "JumpFence").before args s = true := va_Nw.use rfl (h.1 ("JumpFence", 125, "JumpFence$Reader", "row", "[LJumpFence$Order;", "JumpFence") (by decide))
theorem jf_l_X1_108 {s : State} {args : Array Value} (h : jf_N s) : (Cond.fieldLinkNest RX1 108 "JumpFence$Reader" "size" "I" "JumpFence").before args s = true := va_Nw.use rfl (h.1 ("JumpFence", 108, "JumpFence$Reader", "size", "I", "JumpFence") (by decide))
theorem jf_l_X1_124 {s : State} {args : Array Value} (h : jf_N s) : (Cond.fieldLinkNest RX1 124 "JumpFence$Reader" "many" "I" "JumpFence").before args s = true := va_Nw.use rfl (h.1 ("JumpFence", 124, "JumpFence$Reader", "many", "I", "JumpFence") (by decide))
theorem jf_l_X1_81 {s : State} {args : Array Value} (h : jf_N s) : (Cond.fieldLinkNest RX1 81 "JumpFence$Program" "orders" "[LJumpFence$Order;" "JumpFence").before args s = true := va_Nw.use rfl (h.1 ("JumpFence", 81, "JumpFence$Program", "orders", "[LJumpFence$Order;", "JumpFence") (by decide))
theorem jf_l_X1_128 {s : State} {args : Array Value} (h : jf_N s) : (Cond.fieldLinkNest RX1 128 "JumpFence$Program" "grades" "[I" "JumpFence").before args s = true := va_Nw.use rfl (h.1 ("JumpFence", 128, "JumpFence$Program", "grades", "[I", "JumpFence") (by decide))
theorem jf_l_X1_151 {s : State} {args : Array Value} (h : jf_N s) : (Cond.fieldLinkNest RX1 151 "JumpFence$Program" "ticks" "[I" "JumpFence").before args s = true := va_Nw.use rfl (h.1 ("JumpFence", 151, "JumpFence$Program", "ticks", "[I", "JumpFence") (by decide))
theorem jf_l_X1_230 {s : State} {args : Array Value} (h : jf_N s) : (Cond.fieldLinkNest RX1 230 "JumpFence$Program" "powers" "[I" "JumpFence").before args s = true := va_Nw.use rfl (h.1 ("JumpFence", 230, "JumpFence$Program", "powers", "[I", "JumpFence") (by decide))
theorem jf_l_X1_237 {s : State} {args : Array Value} (h : jf_N s) : (Cond.fieldLinkNest RX1 237 "JumpFence$Program" "harms" "[I" "JumpFence").before args s = true := va_Nw.use rfl (h.1 ("JumpFence", 237, "JumpFence$Program", "harms", "[I", "JumpFence") (by decide))
theorem jf_l_X1_180 {s : State} {args : Array Value} (h : jf_N s) : (Cond.fieldLinkNest RX1 180 "JumpFence$Program" "bendSteps" "[I" "JumpFence").before args s = true := va_Nw.use rfl (h.1 ("JumpFence", 180, "JumpFence$Program", "bendSteps", "[I", "JumpFence") (by decide))
theorem jf_l_X1_183 {s : State} {args : Array Value} (h : jf_N s) : (Cond.fieldLinkNest RX1 183 "JumpFence$Program" "bendCell" "[I" "JumpFence").before args s = true := va_Nw.use rfl (h.1 ("JumpFence", 183, "JumpFence$Program", "bendCell", "[I", "JumpFence") (by decide))
theorem jf_l_X1_186 {s : State} {args : Array Value} (h : jf_N s) : (Cond.fieldLinkNest RX1 186 "JumpFence$Program" "bendTo" "[I" "JumpFence").before args s = true := va_Nw.use rfl (h.1 ("JumpFence", 186, "JumpFence$Program", "bendTo", "[I", "JumpFence") (by decide))
theorem jf_l_X1_233 {s : State} {args : Array Value} (h : jf_N s) : (Cond.fieldLinkNest RX1 233 "JumpFence$Program" "rows" "[Z" "JumpFence").before args s = true := va_Nw.use rfl (h.1 ("JumpFence", 233, "JumpFence$Program", "rows", "[Z", "JumpFence") (by decide))
theorem jf_l_X1_168 {s : State} {args : Array Value} (h : jf_N s) : (Cond.fieldLinkNest RX1 168 "JumpFence$Program" "holds" "[J" "JumpFence").before args s = true := va_Nw.use rfl (h.1 ("JumpFence", 168, "JumpFence$Program", "holds", "[J", "JumpFence") (by decide))
theorem jf_l_X1_158 {s : State} {args : Array Value} (h : jf_N s) : (Cond.fieldLinkNest RX1 158 "JumpFence$Program" "kinds" "[J" "JumpFence").before args s = true := va_Nw.use rfl (h.1 ("JumpFence", 158, "JumpFence$Program", "kinds", "[J", "JumpFence") (by decide))
theorem jf_l_X1_154 {s : State} {args : Array Value} (h : jf_N s) : (Cond.fieldLinkNest RX1 154 "JumpFence$Program" "flows" "[J" "JumpFence").before args s = true := va_Nw.use rfl (h.1 ("JumpFence", 154, "JumpFence$Program", "flows", "[J", "JumpFence") (by decide))
theorem jf_l_X1_70 {s : State} {args : Array Value} (h : jf_N s) : (Cond.fieldLinkNest RX1 70 "JumpFence$Program" "many" "I" "JumpFence").before args s = true := va_Nw.use rfl (h.1 ("JumpFence", 70, "JumpFence$Program", "many", "I", "JumpFence") (by decide))
theorem jf_l_X1_98 {s : State} {args : Array Value} (h : jf_N s) : (Cond.fieldLinkNest RX1 98 "JumpFence$Program" "powerMany" "I" "JumpFence").before args s = true := va_Nw.use rfl (h.1 ("JumpFence", 98, "JumpFence$Program", "powerMany", "I", "JumpFence") (by decide))
theorem jf_l_X1_101 {s : State} {args : Array Value} (h : jf_N s) : (Cond.fieldLinkNest RX1 101 "JumpFence$Program" "harmMany" "I" "JumpFence").before args s = true := va_Nw.use rfl (h.1 ("JumpFence", 101, "JumpFence$Program", "harmMany", "I", "JumpFence") (by decide))
theorem jf_l_X1_174 {s : State} {args : Array Value} (h : jf_N s) : (Cond.fieldLinkNest RX1 174 "JumpFence$Program" "bendMany" "I" "JumpFence").before args s = true := va_Nw.use rfl (h.1 ("JumpFence", 174, "JumpFence$Program", "bendMany", "I", "JumpFence") (by decide))
theorem jf_l_X1_171 {s : State} {args : Array Value} (h : jf_N s) : (Cond.fieldLinkNest RX1 171 "JumpFence$Program" "odd" "I" "JumpFence").before args s = true := va_Nw.use rfl (h.1 ("JumpFence", 171, "JumpFence$Program", "odd", "I", "JumpFence") (by decide))
theorem jf_l_X1_226 {s : State} {args : Array Value} (h : jf_N s) : (Cond.fieldLinkNest RX1 226 "JumpFence$Machine" "cells" "[I" "JumpFence").before args s = true := va_Nw.use rfl (h.1 ("JumpFence", 226, "JumpFence$Machine", "cells", "[I", "JumpFence") (by decide))
theorem jf_l_X1_288 {s : State} {args : Array Value} (h : jf_N s) : (Cond.fieldLinkNest RX1 288 "JumpFence$Machine" "row" "[I" "JumpFence").before args s = true := va_Nw.use rfl (h.1 ("JumpFence", 288, "JumpFence$Machine", "row", "[I", "JumpFence") (by decide))
theorem jf_l_X1_301 {s : State} {args : Array Value} (h : jf_N s) : (Cond.fieldLinkNest RX1 301 "JumpFence$Machine" "second" "[I" "JumpFence").before args s = true := va_Nw.use rfl (h.1 ("JumpFence", 301, "JumpFence$Machine", "second", "[I", "JumpFence") (by decide))
theorem jf_l_X1_219 {s : State} {args : Array Value} (h : jf_N s) : (Cond.fieldLinkNest RX1 219 "JumpFence$Machine" "order" "[I" "JumpFence").before args s = true := va_Nw.use rfl (h.1 ("JumpFence", 219, "JumpFence$Machine", "order", "[I", "JumpFence") (by decide))
theorem jf_l_X1_222 {s : State} {args : Array Value} (h : jf_N s) : (Cond.fieldLinkNest RX1 222 "JumpFence$Machine" "words" "[I" "JumpFence").before args s = true := va_Nw.use rfl (h.1 ("JumpFence", 222, "JumpFence$Machine", "words", "[I", "JumpFence") (by decide))
theorem jf_l_X1_285 {s : State} {args : Array Value} (h : jf_N s) : (Cond.fieldLinkNest RX1 285 "JumpFence$Machine" "deep" "I" "JumpFence").before args s = true := va_Nw.use rfl (h.1 ("JumpFence", 285, "JumpFence$Machine", "deep", "I", "JumpFence") (by decide))
theorem jf_l_X1_204 {s : State} {args : Array Value} (h : jf_N s) : (Cond.fieldLinkNest RX1 204 "JumpFence$Machine" "at" "I" "JumpFence").before args s = true := va_Nw.use rfl (h.1 ("JumpFence", 204, "JumpFence$Machine", "at", "I", "JumpFence") (by decide))
theorem jf_l_X1_199 {s : State} {args : Array Value} (h : jf_N s) : (Cond.fieldLinkNest RX1 199 "JumpFence$Machine" "steps" "I" "JumpFence").before args s = true := va_Nw.use rfl (h.1 ("JumpFence", 199, "JumpFence$Machine", "steps", "I", "JumpFence") (by decide))
theorem jf_l_X1_202 {s : State} {args : Array Value} (h : jf_N s) : (Cond.fieldLinkNest RX1 202 "JumpFence$Machine" "ticks" "I" "JumpFence").before args s = true := va_Nw.use rfl (h.1 ("JumpFence", 202, "JumpFence$Machine", "ticks", "I", "JumpFence") (by decide))
theorem jf_l_X1_207 {s : State} {args : Array Value} (h : jf_N s) : (Cond.fieldLinkNest RX1 207 "JumpFence$Machine" "said" "I" "JumpFence").before args s = true := va_Nw.use rfl (h.1 ("JumpFence", 207, "JumpFence$Machine", "said", "I", "JumpFence") (by decide))
theorem jf_l_X1_210 {s : State} {args : Array Value} (h : jf_N s) : (Cond.fieldLinkNest RX1 210 "JumpFence$Machine" "jumps" "I" "JumpFence").before args s = true := va_Nw.use rfl (h.1 ("JumpFence", 210, "JumpFence$Machine", "jumps", "I", "JumpFence") (by decide))
theorem jf_l_X1_196 {s : State} {args : Array Value} (h : jf_N s) : (Cond.fieldLinkNest RX1 196 "JumpFence$Machine" "ends" "I" "JumpFence").before args s = true := va_Nw.use rfl (h.1 ("JumpFence", 196, "JumpFence$Machine", "ends", "I", "JumpFence") (by decide))
theorem jf_l_X1_213 {s : State} {args : Array Value} (h : jf_N s) : (Cond.fieldLinkNest RX1 213 "JumpFence$Machine" "lead" "I" "JumpFence").before args s = true := va_Nw.use rfl (h.1 ("JumpFence", 213, "JumpFence$Machine", "lead", "I", "JumpFence") (by decide))
theorem jf_l_X1_216 {s : State} {args : Array Value} (h : jf_N s) : (Cond.fieldLinkNest RX1 216 "JumpFence$Machine" "stopped" "I" "JumpFence").before args s = true := va_Nw.use rfl (h.1 ("JumpFence", 216, "JumpFence$Machine", "stopped", "I", "JumpFence") (by decide))
theorem jf_l_X1_376 {s : State} {args : Array Value} (h : jf_N s) : (Cond.fieldLinkNest RX1 376 "JumpFence$Machine" "firstBad" "I" "JumpFence").before args s = true := va_Nw.use rfl (h.1 ("JumpFence", 376, "JumpFence$Machine", "firstBad", "I", "JumpFence") (by decide))
theorem jf_l_X1_293 {s : State} {args : Array Value} (h : jf_N s) : (Cond.fieldLinkNest RX1 293 "JumpFence$Machine" "guards" "Z" "JumpFence").before args s = true := va_Nw.use rfl (h.1 ("JumpFence", 293, "JumpFence$Machine", "guards", "Z", "JumpFence") (by decide))
theorem jf_l_X1_272 {s : State} {args : Array Value} (h : jf_N s) : (Cond.fieldLinkNest RX1 272 "JumpFence$Atom" "cell" "I" "JumpFence").before args s = true := va_Nw.use rfl (h.1 ("JumpFence", 272, "JumpFence$Atom", "cell", "I", "JumpFence") (by decide))
theorem jf_l_X1_138 {s : State} {args : Array Value} (h : jf_N s) : (Cond.fieldLinkNest RX1 138 "JumpFence$Order" "entry" "I" "JumpFence").before args s = true := va_Nw.use rfl (h.1 ("JumpFence", 138, "JumpFence$Order", "entry", "I", "JumpFence") (by decide))
theorem jf_l_X1_254 {s : State} {args : Array Value} (h : jf_N s) : (Cond.fieldLinkNest RX1 254 "JumpFence$IfOrder" "left" "LJumpFence$Atom;" "JumpFence").before args s = true := va_Nw.use rfl (h.1 ("JumpFence", 254, "JumpFence$IfOrder", "left", "LJumpFence$Atom;", "JumpFence") (by decide))
theorem jf_l_X1_264 {s : State} {args : Array Value} (h : jf_N s) : (Cond.fieldLinkNest RX1 264 "JumpFence$IfOrder" "right" "LJumpFence$Atom;" "JumpFence").before args s = true := va_Nw.use rfl (h.1 ("JumpFence", 264, "JumpFence$IfOrder", "right", "LJumpFence$Atom;", "JumpFence") (by decide))
theorem jf_l_X1_267 {s : State} {args : Array Value} (h : jf_N s) : (Cond.fieldLinkNest RX1 267 "JumpFence$IfOrder" "sign" "I" "JumpFence").before args s = true := va_Nw.use rfl (h.1 ("JumpFence", 267, "JumpFence$IfOrder", "sign", "I", "JumpFence") (by decide))
theorem jf_l_X1_253 {s : State} {args : Array Value} (h : jf_N s) : (Cond.fieldLinkNest RX1 253 "JumpFence$IfOrder" "place" "I" "JumpFence").before args s = true := va_Nw.use rfl (h.1 ("JumpFence", 253, "JumpFence$IfOrder", "place", "I", "JumpFence") (by decide))
theorem jf_l_X1_309 {s : State} {args : Array Value} (h : jf_N s) : (Cond.fieldLinkNest RX1 309 "JumpFence$DoorOrder" "says" "LJumpFence$Atom;" "JumpFence").before args s = true := va_Nw.use rfl (h.1 ("JumpFence", 309, "JumpFence$DoorOrder", "says", "LJumpFence$Atom;", "JumpFence") (by decide))
theorem jf_l_X12_29 {s : State} {args : Array Value} (h : jf_N s) : (Cond.fieldLinkNest RX12 29 "JumpFence$Atom" "cell" "I" "JumpFence").before args s = true := va_Nw.use rfl (h.1 ("JumpFence$IfOrder", 29, "JumpFence$Atom", "cell", "I", "JumpFence") (by decide))
theorem jf_l_X12_34 {s : State} {args : Array Value} (h : jf_N s) : (Cond.fieldLinkNest RX12 34 "JumpFence$Atom" "number" "I" "JumpFence").before args s = true := va_Nw.use rfl (h.1 ("JumpFence$IfOrder", 34, "JumpFence$Atom", "number", "I", "JumpFence") (by decide))
theorem jf_l_X13_31 {s : State} {args : Array Value} (h : jf_N s) : (Cond.fieldLinkNest RX13 31 "JumpFence$Program" "holds" "[J" "JumpFence").before args s = true := va_Nw.use rfl (h.1 ("JumpFence$ThroughOrder", 31, "JumpFence$Program", "holds", "[J", "JumpFence") (by decide))
theorem jf_l_X13_18 {s : State} {args : Array Value} (h : jf_N s) : (Cond.fieldLinkNest RX13 18 "JumpFence$Program" "flows" "[J" "JumpFence").before args s = true := va_Nw.use rfl (h.1 ("JumpFence$ThroughOrder", 18, "JumpFence$Program", "flows", "[J", "JumpFence") (by decide))
theorem jf_l_X13_28 {s : State} {args : Array Value} (h : jf_N s) : (Cond.fieldLinkNest RX13 28 "JumpFence$Program" "odd" "I" "JumpFence").before args s = true := va_Nw.use rfl (h.1 ("JumpFence$ThroughOrder", 28, "JumpFence$Program", "odd", "I", "JumpFence") (by decide))
theorem jf_l_X13_34 {s : State} {args : Array Value} (h : jf_N s) : (Cond.fieldLinkNest RX13 34 "JumpFence$Machine" "cells" "[I" "JumpFence").before args s = true := va_Nw.use rfl (h.1 ("JumpFence$ThroughOrder", 34, "JumpFence$Machine", "cells", "[I", "JumpFence") (by decide))
theorem jf_l_X14_19 {s : State} {args : Array Value} (h : jf_N s) : (Cond.fieldLinkNest RX14 19 "JumpFence$Machine" "deep" "I" "JumpFence").before args s = true := va_Nw.use rfl (h.1 ("JumpFence$CallOrder", 19, "JumpFence$Machine", "deep", "I", "JumpFence") (by decide))
theorem jf_l_X15_13 {s : State} {args : Array Value} (h : jf_N s) : (Cond.fieldLinkNest RX15 13 "JumpFence$Machine" "deep" "I" "JumpFence").before args s = true := va_Nw.use rfl (h.1 ("JumpFence$ByOrder", 13, "JumpFence$Machine", "deep", "I", "JumpFence") (by decide))
theorem jf_l_X15_27 {s : State} {args : Array Value} (h : jf_N s) : (Cond.fieldLinkNest RX15 27 "JumpFence$Machine" "ends" "I" "JumpFence").before args s = true := va_Nw.use rfl (h.1 ("JumpFence$ByOrder", 27, "JumpFence$Machine", "ends", "I", "JumpFence") (by decide))
theorem jf_l_X16_15 {s : State} {args : Array Value} (h : jf_N s) : (Cond.fieldLinkNest RX16 15 "JumpFence$Program" "behind" "J" "JumpFence").before args s = true := va_Nw.use rfl (h.1 ("JumpFence$BackOrder", 15, "JumpFence$Program", "behind", "J", "JumpFence") (by decide))
theorem jf_l_X16_29 {s : State} {args : Array Value} (h : jf_N s) : (Cond.fieldLinkNest RX16 29 "JumpFence$Machine" "row" "[I" "JumpFence").before args s = true := va_Nw.use rfl (h.1 ("JumpFence$BackOrder", 29, "JumpFence$Machine", "row", "[I", "JumpFence") (by decide))
theorem jf_l_X16_19 {s : State} {args : Array Value} (h : jf_N s) : (Cond.fieldLinkNest RX16 19 "JumpFence$Machine" "deep" "I" "JumpFence").before args s = true := va_Nw.use rfl (h.1 ("JumpFence$BackOrder", 19, "JumpFence$Machine", "deep", "I", "JumpFence") (by decide))
theorem jf_l_X16_37 {s : State} {args : Array Value} (h : jf_N s) : (Cond.fieldLinkNest RX16 37 "JumpFence$Machine" "ends" "I" "JumpFence").before args s = true := va_Nw.use rfl (h.1 ("JumpFence$BackOrder", 37, "JumpFence$Machine", "ends", "I", "JumpFence") (by decide))
theorem jf_l_X17_15 {s : State} {args : Array Value} (h : jf_N s) : (Cond.fieldLinkNest RX17 15 "JumpFence$Atom" "cell" "I" "JumpFence").before args s = true := va_Nw.use rfl (h.1 ("JumpFence$DoorOrder", 15, "JumpFence$Atom", "cell", "I", "JumpFence") (by decide))
theorem jf_l_X17_21 {s : State} {args : Array Value} (h : jf_N s) : (Cond.fieldLinkNest RX17 21 "JumpFence$Atom" "number" "I" "JumpFence").before args s = true := va_Nw.use rfl (h.1 ("JumpFence$DoorOrder", 21, "JumpFence$Atom", "number", "I", "JumpFence") (by decide))
theorem jf_l_X18_9 {s : State} {args : Array Value} (h : jf_N s) : (Cond.fieldLinkNest RX18 9 "JumpFence$Machine" "ends" "I" "JumpFence").before args s = true := va_Nw.use rfl (h.1 ("JumpFence$StopOrder", 9, "JumpFence$Machine", "ends", "I", "JumpFence") (by decide))
theorem jf_l_X2_54 {s : State} {args : Array Value} (h : jf_N s) : (Cond.fieldLinkNest RX2 54 "JumpFence$Wrong" "place" "I" "JumpFence").before args s = true := va_Nw.use rfl (h.1 ("JumpFence$Reader", 54, "JumpFence$Wrong", "place", "I", "JumpFence") (by decide))
theorem jf_l_X4_133 {s : State} {args : Array Value} (h : jf_N s) : (Cond.fieldLinkNest RX4 133 "JumpFence$SetOrder" "to" "I" "JumpFence").before args s = true := va_Nw.use rfl (h.1 ("JumpFence$Program", 133, "JumpFence$SetOrder", "to", "I", "JumpFence") (by decide))
theorem jf_l_X4_101 {s : State} {args : Array Value} (h : jf_N s) : (Cond.fieldLinkNest RX4 101 "JumpFence$Order" "entry" "I" "JumpFence").before args s = true := va_Nw.use rfl (h.1 ("JumpFence$Program", 101, "JumpFence$Order", "entry", "I", "JumpFence") (by decide))
theorem jf_l_X4_125 {s : State} {args : Array Value} (h : jf_N s) : (Cond.fieldLinkNest RX4 125 "JumpFence$PointOrder" "to" "I" "JumpFence").before args s = true := va_Nw.use rfl (h.1 ("JumpFence$Program", 125, "JumpFence$PointOrder", "to", "I", "JumpFence") (by decide))
theorem jf_l_X4_128 {s : State} {args : Array Value} (h : jf_N s) : (Cond.fieldLinkNest RX4 128 "JumpFence$PointOrder" "place" "I" "JumpFence").before args s = true := va_Nw.use rfl (h.1 ("JumpFence$Program", 128, "JumpFence$PointOrder", "place", "I", "JumpFence") (by decide))
theorem jf_l_X5_73 {s : State} {args : Array Value} (h : jf_N s) : (Cond.fieldLinkNest RX5 73 "JumpFence$Program" "orders" "[LJumpFence$Order;" "JumpFence").before args s = true := va_Nw.use rfl (h.1 ("JumpFence$Machine", 73, "JumpFence$Program", "orders", "[LJumpFence$Order;", "JumpFence") (by decide))
theorem jf_l_X5_68 {s : State} {args : Array Value} (h : jf_N s) : (Cond.fieldLinkNest RX5 68 "JumpFence$Program" "grades" "[I" "JumpFence").before args s = true := va_Nw.use rfl (h.1 ("JumpFence$Machine", 68, "JumpFence$Program", "grades", "[I", "JumpFence") (by decide))
theorem jf_l_X5_101 {s : State} {args : Array Value} (h : jf_N s) : (Cond.fieldLinkNest RX5 101 "JumpFence$Program" "ticks" "[I" "JumpFence").before args s = true := va_Nw.use rfl (h.1 ("JumpFence$Machine", 101, "JumpFence$Program", "ticks", "[I", "JumpFence") (by decide))
theorem jf_l_X5_106 {s : State} {args : Array Value} (h : jf_N s) : (Cond.fieldLinkNest RX5 106 "JumpFence$Program" "bendSteps" "[I" "JumpFence").before args s = true := va_Nw.use rfl (h.1 ("JumpFence$Machine", 106, "JumpFence$Program", "bendSteps", "[I", "JumpFence") (by decide))
theorem jf_l_X5_109 {s : State} {args : Array Value} (h : jf_N s) : (Cond.fieldLinkNest RX5 109 "JumpFence$Program" "bendCell" "[I" "JumpFence").before args s = true := va_Nw.use rfl (h.1 ("JumpFence$Machine", 109, "JumpFence$Program", "bendCell", "[I", "JumpFence") (by decide))
theorem jf_l_X5_112 {s : State} {args : Array Value} (h : jf_N s) : (Cond.fieldLinkNest RX5 112 "JumpFence$Program" "bendTo" "[I" "JumpFence").before args s = true := va_Nw.use rfl (h.1 ("JumpFence$Machine", 112, "JumpFence$Program", "bendTo", "[I", "JumpFence") (by decide))
theorem jf_l_X5_83 {s : State} {args : Array Value} (h : jf_N s) : (Cond.fieldLinkNest RX5 83 "JumpFence$Program" "many" "I" "JumpFence").before args s = true := va_Nw.use rfl (h.1 ("JumpFence$Machine", 83, "JumpFence$Program", "many", "I", "JumpFence") (by decide))
theorem jf_l_X5_103 {s : State} {args : Array Value} (h : jf_N s) : (Cond.fieldLinkNest RX5 103 "JumpFence$Program" "bendMany" "I" "JumpFence").before args s = true := va_Nw.use rfl (h.1 ("JumpFence$Machine", 103, "JumpFence$Program", "bendMany", "I", "JumpFence") (by decide))
theorem jf_l_X7_18 {s : State} {args : Array Value} (h : jf_N s) : (Cond.fieldLinkNest RX7 18 "JumpFence$Machine" "cells" "[I" "JumpFence").before args s = true := va_Nw.use rfl (h.1 ("JumpFence$Atom", 18, "JumpFence$Machine", "cells", "[I", "JumpFence") (by decide))
theorem jf_l_X9_25 {s : State} {args : Array Value} (h : jf_N s) : (Cond.fieldLinkNest RX9 25 "JumpFence$Atom" "cell" "I" "JumpFence").before args s = true := va_Nw.use rfl (h.1 ("JumpFence$SetOrder", 25, "JumpFence$Atom", "cell", "I", "JumpFence") (by decide))

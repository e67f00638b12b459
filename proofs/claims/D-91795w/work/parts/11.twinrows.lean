set_option maxRecDepth 100000
/-! the classes of the claim, by number -/
abbrev jx_cl : List vw_C := [(RX6, TX6, 50), (RX1, TX1, 16), (RX2, TX2, 8), (RX4, TX4, 19), (RX5, TX5, 19), (RX7, TX7, 2), (RX9, TX9, 5), (RX10, TX10, 3), (RX11, TX11, 2), (RX12, TX12, 5), (RX13, TX13, 3), (RX14, TX14, 2), (RX15, TX15, 3), (RX16, TX16, 1), (RX17, TX17, 2), (RX18, TX18, 1), (RX3, TX3, 7), (RJ7, TJ7, 6), (RJ8, TJ8, 6), (RJ10, TJ10, 6), (RJ11, TJ11, 6), (RJ12, TJ12, 6)]
/-! the state of a JumpFenceModel: scalar fields, arrays of ints (bytes, booleans), arrays of longs, by the field numbers of TX6 -/
abbrev jm_S : Type := (Nat → Int32) × (Nat → Nat → Int32) × (Nat → Nat → Int64)
def jm_setI (S : jm_S) (k : Nat) (v : Int32) : jm_S := (fun j => if j = k then v else S.1 j, S.2)
def jm_setA (S : jm_S) (k : Nat) (f : Nat → Int32) : jm_S := (S.1, fun j => if j = k then f else S.2.1 j, S.2.2)
def jm_setL (S : jm_S) (k : Nat) (f : Nat → Int64) : jm_S := (S.1, S.2.1, fun j => if j = k then f else S.2.2 j)
def jm_fs (ad : Nat → Nat) (S : jm_S) : List Value := [.int (S.1 0), .ref (ad 1), .ref (ad 2), .int (S.1 3), .ref (ad 4), .int (S.1 5), .int (S.1 6), .int (S.1 7), .int (S.1 8), .int (S.1 9), .ref (ad 10), .ref (ad 11), .ref (ad 12), .ref (ad 13), .ref (ad 14), .ref (ad 15), .ref (ad 16), .ref (ad 17), .ref (ad 18), .ref (ad 19), .ref (ad 20), .int (S.1 21), .ref (ad 22), .ref (ad 23), .int (S.1 24), .int (S.1 25), .int (S.1 26), .int (S.1 27), .int (S.1 28), .int (S.1 29), .int (S.1 30), .int (S.1 31), .int (S.1 32), .ref (ad 33), .ref (ad 34), .ref (ad 35), .ref (ad 36), .ref (ad 37), .int (S.1 38), .ref (ad 39), .ref (ad 40), .ref (ad 41), .int (S.1 42), .int (S.1 43), .ref (ad 44), .int (S.1 45), .ref (ad 46), .ref (ad 47), .ref (ad 48), .int (S.1 49)]
def jm_ws (ad : Nat → Nat) (ck : Nat → ClassId) (S : jm_S) : va_W := [(ad 0, .inr (0, jm_fs ad S)), (ad 1, .inl (ck 0, 412, .inl (S.2.1 1))), (ad 2, .inl (ck 0, 412, .inl (S.2.1 2))), (ad 4, .inl (ck 1, 400, .inl (S.2.1 4))), (ad 10, .inl (ck 0, 5, .inl (S.2.1 10))), (ad 11, .inl (ck 0, 360, .inl (S.2.1 11))), (ad 12, .inl (ck 3, 16, .inr (.inl (S.2.2 12)))), (ad 13, .inl (ck 2, 16, .inl (S.2.1 13))), (ad 14, .inl (ck 3, 40, .inr (.inl (S.2.2 14)))), (ad 15, .inl (ck 3, 40, .inr (.inl (S.2.2 15)))), (ad 16, .inl (ck 0, 16, .inl (S.2.1 16))), (ad 17, .inl (ck 0, 16, .inl (S.2.1 17))), (ad 18, .inl (ck 0, 8, .inl (S.2.1 18))), (ad 19, .inl (ck 0, 8, .inl (S.2.1 19))), (ad 20, .inl (ck 0, 8, .inl (S.2.1 20))), (ad 22, .inl (ck 0, 300, .inl (S.2.1 22))), (ad 23, .inl (ck 0, 300, .inl (S.2.1 23))), (ad 33, .inl (ck 3, 40, .inr (.inl (S.2.2 33)))), (ad 34, .inl (ck 0, 40, .inl (S.2.1 34))), (ad 35, .inl (ck 3, 40, .inr (.inl (S.2.2 35)))), (ad 36, .inl (ck 0, 40, .inl (S.2.1 36))), (ad 37, .inl (ck 0, 40, .inl (S.2.1 37))), (ad 39, .inl (ck 0, 6, .inl (S.2.1 39))), (ad 40, .inl (ck 0, 6, .inl (S.2.1 40))), (ad 41, .inl (ck 0, 6, .inl (S.2.1 41))), (ad 44, .inl (ck 3, 40, .inr (.inl (S.2.2 44)))), (ad 46, .inl (ck 0, 40, .inl (S.2.1 46))), (ad 47, .inl (ck 3, 6, .inr (.inl (S.2.2 47)))), (ad 48, .inl (ck 0, 6, .inl (S.2.1 48)))]
def jm_ty (ck : Nat → ClassId) : List (ClassId × FieldType) := [(ck 0, .int), (ck 1, .byte), (ck 2, .boolean), (ck 3, .long)]
theorem jm_f0 : Cond.fieldLink RX6 3 RX6 (TX6 0).2.1 (TX6 0).2.2.1 ∈ lw_all := q1537
theorem jm_g0 {ad : Nat → Nat} {S : jm_S} : (jm_fs ad S)[0]? = some (.int (S.1 0)) := rfl
theorem jm_p0 {ad : Nat → Nat} {ck : Nat → ClassId} {S : jm_S} (v : Int32) : (jm_ws ad ck S).set 0 (ad 0, .inr (0, (jm_fs ad S).set 0 (.int v))) = jm_ws ad ck (jm_setI S 0 v) := rfl
theorem jm_n0 : (TX6 0).2.2.2 = false := rfl
theorem jm_d0 : parseFieldDescriptor (TX6 0).2.2.1 = some .int := by decide +kernel
theorem jm_f1 : Cond.fieldLink RX6 13 RX6 (TX6 1).2.1 (TX6 1).2.2.1 ∈ lw_all := q1538
theorem jm_g1 {ad : Nat → Nat} {S : jm_S} : (jm_fs ad S)[1]? = some (.ref (ad 1)) := rfl
theorem jm_a1 {ad : Nat → Nat} {ck : Nat → ClassId} {S : jm_S} : (jm_ws ad ck S)[1]? = some (ad 1, .inl (ck 0, 412, .inl (S.2.1 1))) := rfl
theorem jm_u1 {ad : Nat → Nat} {ck : Nat → ClassId} {S : jm_S} (f : Nat → Int32) : (jm_ws ad ck S).set 1 (ad 1, .inl (ck 0, 412, .inl f)) = jm_ws ad ck (jm_setA S 1 f) := rfl
theorem jm_f2 : Cond.fieldLink RX6 17 RX6 (TX6 2).2.1 (TX6 2).2.2.1 ∈ lw_all := q1539
theorem jm_g2 {ad : Nat → Nat} {S : jm_S} : (jm_fs ad S)[2]? = some (.ref (ad 2)) := rfl
theorem jm_a2 {ad : Nat → Nat} {ck : Nat → ClassId} {S : jm_S} : (jm_ws ad ck S)[2]? = some (ad 2, .inl (ck 0, 412, .inl (S.2.1 2))) := rfl
theorem jm_u2 {ad : Nat → Nat} {ck : Nat → ClassId} {S : jm_S} (f : Nat → Int32) : (jm_ws ad ck S).set 2 (ad 2, .inl (ck 0, 412, .inl f)) = jm_ws ad ck (jm_setA S 2 f) := rfl
theorem jm_f3 : Cond.fieldLink RX6 104 RX6 (TX6 3).2.1 (TX6 3).2.2.1 ∈ lw_all := q1540
theorem jm_g3 {ad : Nat → Nat} {S : jm_S} : (jm_fs ad S)[3]? = some (.int (S.1 3)) := rfl
theorem jm_p3 {ad : Nat → Nat} {ck : Nat → ClassId} {S : jm_S} (v : Int32) : (jm_ws ad ck S).set 0 (ad 0, .inr (0, (jm_fs ad S).set 3 (.int v))) = jm_ws ad ck (jm_setI S 3 v) := rfl
theorem jm_n3 : (TX6 3).2.2.2 = false := rfl
theorem jm_d3 : parseFieldDescriptor (TX6 3).2.2.1 = some .boolean := by decide +kernel
theorem jm_f4 : Cond.fieldLink RX6 20 RX6 (TX6 4).2.1 (TX6 4).2.2.1 ∈ lw_all := q1541
theorem jm_g4 {ad : Nat → Nat} {S : jm_S} : (jm_fs ad S)[4]? = some (.ref (ad 4)) := rfl
theorem jm_a4 {ad : Nat → Nat} {ck : Nat → ClassId} {S : jm_S} : (jm_ws ad ck S)[3]? = some (ad 4, .inl (ck 1, 400, .inl (S.2.1 4))) := rfl
theorem jm_u4 {ad : Nat → Nat} {ck : Nat → ClassId} {S : jm_S} (f : Nat → Int32) : (jm_ws ad ck S).set 3 (ad 4, .inl (ck 1, 400, .inl f)) = jm_ws ad ck (jm_setA S 4 f) := rfl
theorem jm_f5 : Cond.fieldLink RX6 124 RX6 (TX6 5).2.1 (TX6 5).2.2.1 ∈ lw_all := q1542
theorem jm_g5 {ad : Nat → Nat} {S : jm_S} : (jm_fs ad S)[5]? = some (.int (S.1 5)) := rfl
theorem jm_p5 {ad : Nat → Nat} {ck : Nat → ClassId} {S : jm_S} (v : Int32) : (jm_ws ad ck S).set 0 (ad 0, .inr (0, (jm_fs ad S).set 5 (.int v))) = jm_ws ad ck (jm_setI S 5 v) := rfl
theorem jm_n5 : (TX6 5).2.2.2 = false := rfl
theorem jm_d5 : parseFieldDescriptor (TX6 5).2.2.1 = some .int := by decide +kernel
theorem jm_f6 : Cond.fieldLink RX6 130 RX6 (TX6 6).2.1 (TX6 6).2.2.1 ∈ lw_all := q1543
theorem jm_g6 {ad : Nat → Nat} {S : jm_S} : (jm_fs ad S)[6]? = some (.int (S.1 6)) := rfl
theorem jm_p6 {ad : Nat → Nat} {ck : Nat → ClassId} {S : jm_S} (v : Int32) : (jm_ws ad ck S).set 0 (ad 0, .inr (0, (jm_fs ad S).set 6 (.int v))) = jm_ws ad ck (jm_setI S 6 v) := rfl
theorem jm_n6 : (TX6 6).2.2.2 = false := rfl
theorem jm_d6 : parseFieldDescriptor (TX6 6).2.2.1 = some .int := by decide +kernel
theorem jm_f7 : Cond.fieldLink RX6 127 RX6 (TX6 7).2.1 (TX6 7).2.2.1 ∈ lw_all := q1544
theorem jm_g7 {ad : Nat → Nat} {S : jm_S} : (jm_fs ad S)[7]? = some (.int (S.1 7)) := rfl
theorem jm_p7 {ad : Nat → Nat} {ck : Nat → ClassId} {S : jm_S} (v : Int32) : (jm_ws ad ck S).set 0 (ad 0, .inr (0, (jm_fs ad S).set 7 (.int v))) = jm_ws ad ck (jm_setI S 7 v) := rfl
theorem jm_n7 : (TX6 7).2.2.2 = false := rfl
theorem jm_d7 : parseFieldDescriptor (TX6 7).2.2.1 = some .int := by decide +kernel
theorem jm_f8 : Cond.fieldLink RX6 137 RX6 (TX6 8).2.1 (TX6 8).2.2.1 ∈ lw_all := q1545
theorem jm_g8 {ad : Nat → Nat} {S : jm_S} : (jm_fs ad S)[8]? = some (.int (S.1 8)) := rfl
theorem jm_p8 {ad : Nat → Nat} {ck : Nat → ClassId} {S : jm_S} (v : Int32) : (jm_ws ad ck S).set 0 (ad 0, .inr (0, (jm_fs ad S).set 8 (.int v))) = jm_ws ad ck (jm_setI S 8 v) := rfl
theorem jm_n8 : (TX6 8).2.2.2 = false := rfl
theorem jm_d8 : parseFieldDescriptor (TX6 8).2.2.1 = some .int := by decide +kernel
theorem jm_f9 : Cond.fieldLink RX6 24 RX6 (TX6 9).2.1 (TX6 9).2.2.1 ∈ lw_all := q1546
theorem jm_g9 {ad : Nat → Nat} {S : jm_S} : (jm_fs ad S)[9]? = some (.int (S.1 9)) := rfl
theorem jm_p9 {ad : Nat → Nat} {ck : Nat → ClassId} {S : jm_S} (v : Int32) : (jm_ws ad ck S).set 0 (ad 0, .inr (0, (jm_fs ad S).set 9 (.int v))) = jm_ws ad ck (jm_setI S 9 v) := rfl
theorem jm_n9 : (TX6 9).2.2.2 = false := rfl
theorem jm_d9 : parseFieldDescriptor (TX6 9).2.2.1 = some .int := by decide +kernel
theorem jm_f10 : Cond.fieldLink RX6 27 RX6 (TX6 10).2.1 (TX6 10).2.2.1 ∈ lw_all := q1547
theorem jm_g10 {ad : Nat → Nat} {S : jm_S} : (jm_fs ad S)[10]? = some (.ref (ad 10)) := rfl
theorem jm_a10 {ad : Nat → Nat} {ck : Nat → ClassId} {S : jm_S} : (jm_ws ad ck S)[4]? = some (ad 10, .inl (ck 0, 5, .inl (S.2.1 10))) := rfl
theorem jm_u10 {ad : Nat → Nat} {ck : Nat → ClassId} {S : jm_S} (f : Nat → Int32) : (jm_ws ad ck S).set 4 (ad 10, .inl (ck 0, 5, .inl f)) = jm_ws ad ck (jm_setA S 10 f) := rfl
theorem jm_f11 : Cond.fieldLink RX6 30 RX6 (TX6 11).2.1 (TX6 11).2.2.1 ∈ lw_all := q1548
theorem jm_g11 {ad : Nat → Nat} {S : jm_S} : (jm_fs ad S)[11]? = some (.ref (ad 11)) := rfl
theorem jm_a11 {ad : Nat → Nat} {ck : Nat → ClassId} {S : jm_S} : (jm_ws ad ck S)[5]? = some (ad 11, .inl (ck 0, 360, .inl (S.2.1 11))) := rfl
theorem jm_u11 {ad : Nat → Nat} {ck : Nat → ClassId} {S : jm_S} (f : Nat → Int32) : (jm_ws ad ck S).set 5 (ad 11, .inl (ck 0, 360, .inl f)) = jm_ws ad ck (jm_setA S 11 f) := rfl
theorem jm_f12 : Cond.fieldLink RX6 33 RX6 (TX6 12).2.1 (TX6 12).2.2.1 ∈ lw_all := q1549
theorem jm_g12 {ad : Nat → Nat} {S : jm_S} : (jm_fs ad S)[12]? = some (.ref (ad 12)) := rfl
theorem jm_a12 {ad : Nat → Nat} {ck : Nat → ClassId} {S : jm_S} : (jm_ws ad ck S)[6]? = some (ad 12, .inl (ck 3, 16, .inr (.inl (S.2.2 12)))) := rfl
theorem jm_u12 {ad : Nat → Nat} {ck : Nat → ClassId} {S : jm_S} (f : Nat → Int64) : (jm_ws ad ck S).set 6 (ad 12, .inl (ck 3, 16, .inr (.inl f))) = jm_ws ad ck (jm_setL S 12 f) := rfl
theorem jm_f13 : Cond.fieldLink RX6 37 RX6 (TX6 13).2.1 (TX6 13).2.2.1 ∈ lw_all := q1550
theorem jm_g13 {ad : Nat → Nat} {S : jm_S} : (jm_fs ad S)[13]? = some (.ref (ad 13)) := rfl
theorem jm_a13 {ad : Nat → Nat} {ck : Nat → ClassId} {S : jm_S} : (jm_ws ad ck S)[7]? = some (ad 13, .inl (ck 2, 16, .inl (S.2.1 13))) := rfl
theorem jm_u13 {ad : Nat → Nat} {ck : Nat → ClassId} {S : jm_S} (f : Nat → Int32) : (jm_ws ad ck S).set 7 (ad 13, .inl (ck 2, 16, .inl f)) = jm_ws ad ck (jm_setA S 13 f) := rfl
theorem jm_f14 : Cond.fieldLink RX6 41 RX6 (TX6 14).2.1 (TX6 14).2.2.1 ∈ lw_all := q1551
theorem jm_g14 {ad : Nat → Nat} {S : jm_S} : (jm_fs ad S)[14]? = some (.ref (ad 14)) := rfl
theorem jm_a14 {ad : Nat → Nat} {ck : Nat → ClassId} {S : jm_S} : (jm_ws ad ck S)[8]? = some (ad 14, .inl (ck 3, 40, .inr (.inl (S.2.2 14)))) := rfl
theorem jm_u14 {ad : Nat → Nat} {ck : Nat → ClassId} {S : jm_S} (f : Nat → Int64) : (jm_ws ad ck S).set 8 (ad 14, .inl (ck 3, 40, .inr (.inl f))) = jm_ws ad ck (jm_setL S 14 f) := rfl
theorem jm_f15 : Cond.fieldLink RX6 44 RX6 (TX6 15).2.1 (TX6 15).2.2.1 ∈ lw_all := q1552
theorem jm_g15 {ad : Nat → Nat} {S : jm_S} : (jm_fs ad S)[15]? = some (.ref (ad 15)) := rfl
theorem jm_a15 {ad : Nat → Nat} {ck : Nat → ClassId} {S : jm_S} : (jm_ws ad ck S)[9]? = some (ad 15, .inl (ck 3, 40, .inr (.inl (S.2.2 15)))) := rfl
theorem jm_u15 {ad : Nat → Nat} {ck : Nat → ClassId} {S : jm_S} (f : Nat → Int64) : (jm_ws ad ck S).set 9 (ad 15, .inl (ck 3, 40, .inr (.inl f))) = jm_ws ad ck (jm_setL S 15 f) := rfl
theorem jm_f16 : Cond.fieldLink RX6 47 RX6 (TX6 16).2.1 (TX6 16).2.2.1 ∈ lw_all := q1553
theorem jm_g16 {ad : Nat → Nat} {S : jm_S} : (jm_fs ad S)[16]? = some (.ref (ad 16)) := rfl
theorem jm_a16 {ad : Nat → Nat} {ck : Nat → ClassId} {S : jm_S} : (jm_ws ad ck S)[10]? = some (ad 16, .inl (ck 0, 16, .inl (S.2.1 16))) := rfl
theorem jm_u16 {ad : Nat → Nat} {ck : Nat → ClassId} {S : jm_S} (f : Nat → Int32) : (jm_ws ad ck S).set 10 (ad 16, .inl (ck 0, 16, .inl f)) = jm_ws ad ck (jm_setA S 16 f) := rfl
theorem jm_f17 : Cond.fieldLink RX6 50 RX6 (TX6 17).2.1 (TX6 17).2.2.1 ∈ lw_all := q1554
theorem jm_g17 {ad : Nat → Nat} {S : jm_S} : (jm_fs ad S)[17]? = some (.ref (ad 17)) := rfl
theorem jm_a17 {ad : Nat → Nat} {ck : Nat → ClassId} {S : jm_S} : (jm_ws ad ck S)[11]? = some (ad 17, .inl (ck 0, 16, .inl (S.2.1 17))) := rfl
theorem jm_u17 {ad : Nat → Nat} {ck : Nat → ClassId} {S : jm_S} (f : Nat → Int32) : (jm_ws ad ck S).set 11 (ad 17, .inl (ck 0, 16, .inl f)) = jm_ws ad ck (jm_setA S 17 f) := rfl
theorem jm_f18 : Cond.fieldLink RX6 53 RX6 (TX6 18).2.1 (TX6 18).2.2.1 ∈ lw_all := q1555
theorem jm_g18 {ad : Nat → Nat} {S : jm_S} : (jm_fs ad S)[18]? = some (.ref (ad 18)) := rfl
theorem jm_a18 {ad : Nat → Nat} {ck : Nat → ClassId} {S : jm_S} : (jm_ws ad ck S)[12]? = some (ad 18, .inl (ck 0, 8, .inl (S.2.1 18))) := rfl
theorem jm_u18 {ad : Nat → Nat} {ck : Nat → ClassId} {S : jm_S} (f : Nat → Int32) : (jm_ws ad ck S).set 12 (ad 18, .inl (ck 0, 8, .inl f)) = jm_ws ad ck (jm_setA S 18 f) := rfl
theorem jm_f19 : Cond.fieldLink RX6 56 RX6 (TX6 19).2.1 (TX6 19).2.2.1 ∈ lw_all := q1556
theorem jm_g19 {ad : Nat → Nat} {S : jm_S} : (jm_fs ad S)[19]? = some (.ref (ad 19)) := rfl
theorem jm_a19 {ad : Nat → Nat} {ck : Nat → ClassId} {S : jm_S} : (jm_ws ad ck S)[13]? = some (ad 19, .inl (ck 0, 8, .inl (S.2.1 19))) := rfl
theorem jm_u19 {ad : Nat → Nat} {ck : Nat → ClassId} {S : jm_S} (f : Nat → Int32) : (jm_ws ad ck S).set 13 (ad 19, .inl (ck 0, 8, .inl f)) = jm_ws ad ck (jm_setA S 19 f) := rfl
theorem jm_f20 : Cond.fieldLink RX6 59 RX6 (TX6 20).2.1 (TX6 20).2.2.1 ∈ lw_all := q1557
theorem jm_g20 {ad : Nat → Nat} {S : jm_S} : (jm_fs ad S)[20]? = some (.ref (ad 20)) := rfl
theorem jm_a20 {ad : Nat → Nat} {ck : Nat → ClassId} {S : jm_S} : (jm_ws ad ck S)[14]? = some (ad 20, .inl (ck 0, 8, .inl (S.2.1 20))) := rfl
theorem jm_u20 {ad : Nat → Nat} {ck : Nat → ClassId} {S : jm_S} (f : Nat → Int32) : (jm_ws ad ck S).set 14 (ad 20, .inl (ck 0, 8, .inl f)) = jm_ws ad ck (jm_setA S 20 f) := rfl
theorem jm_f21 : Cond.fieldLink RX6 289 RX6 (TX6 21).2.1 (TX6 21).2.2.1 ∈ lw_all := q1558
theorem jm_g21 {ad : Nat → Nat} {S : jm_S} : (jm_fs ad S)[21]? = some (.int (S.1 21)) := rfl
theorem jm_p21 {ad : Nat → Nat} {ck : Nat → ClassId} {S : jm_S} (v : Int32) : (jm_ws ad ck S).set 0 (ad 0, .inr (0, (jm_fs ad S).set 21 (.int v))) = jm_ws ad ck (jm_setI S 21 v) := rfl
theorem jm_n21 : (TX6 21).2.2.2 = false := rfl
theorem jm_d21 : parseFieldDescriptor (TX6 21).2.2.1 = some .int := by decide +kernel
theorem jm_f22 : Cond.fieldLink RX6 62 RX6 (TX6 22).2.1 (TX6 22).2.2.1 ∈ lw_all := q1559
theorem jm_g22 {ad : Nat → Nat} {S : jm_S} : (jm_fs ad S)[22]? = some (.ref (ad 22)) := rfl
theorem jm_a22 {ad : Nat → Nat} {ck : Nat → ClassId} {S : jm_S} : (jm_ws ad ck S)[15]? = some (ad 22, .inl (ck 0, 300, .inl (S.2.1 22))) := rfl
theorem jm_u22 {ad : Nat → Nat} {ck : Nat → ClassId} {S : jm_S} (f : Nat → Int32) : (jm_ws ad ck S).set 15 (ad 22, .inl (ck 0, 300, .inl f)) = jm_ws ad ck (jm_setA S 22 f) := rfl
theorem jm_f23 : Cond.fieldLink RX6 65 RX6 (TX6 23).2.1 (TX6 23).2.2.1 ∈ lw_all := q1560
theorem jm_g23 {ad : Nat → Nat} {S : jm_S} : (jm_fs ad S)[23]? = some (.ref (ad 23)) := rfl
theorem jm_a23 {ad : Nat → Nat} {ck : Nat → ClassId} {S : jm_S} : (jm_ws ad ck S)[16]? = some (ad 23, .inl (ck 0, 300, .inl (S.2.1 23))) := rfl
theorem jm_u23 {ad : Nat → Nat} {ck : Nat → ClassId} {S : jm_S} (f : Nat → Int32) : (jm_ws ad ck S).set 16 (ad 23, .inl (ck 0, 300, .inl f)) = jm_ws ad ck (jm_setA S 23 f) := rfl
theorem jm_f24 : Cond.fieldLink RX6 313 RX6 (TX6 24).2.1 (TX6 24).2.2.1 ∈ lw_all := q1561
theorem jm_g24 {ad : Nat → Nat} {S : jm_S} : (jm_fs ad S)[24]? = some (.int (S.1 24)) := rfl
theorem jm_p24 {ad : Nat → Nat} {ck : Nat → ClassId} {S : jm_S} (v : Int32) : (jm_ws ad ck S).set 0 (ad 0, .inr (0, (jm_fs ad S).set 24 (.int v))) = jm_ws ad ck (jm_setI S 24 v) := rfl
theorem jm_n24 : (TX6 24).2.2.2 = false := rfl
theorem jm_d24 : parseFieldDescriptor (TX6 24).2.2.1 = some .int := by decide +kernel
theorem jm_f25 : Cond.fieldLink RX6 310 RX6 (TX6 25).2.1 (TX6 25).2.2.1 ∈ lw_all := q1562
theorem jm_g25 {ad : Nat → Nat} {S : jm_S} : (jm_fs ad S)[25]? = some (.int (S.1 25)) := rfl
theorem jm_p25 {ad : Nat → Nat} {ck : Nat → ClassId} {S : jm_S} (v : Int32) : (jm_ws ad ck S).set 0 (ad 0, .inr (0, (jm_fs ad S).set 25 (.int v))) = jm_ws ad ck (jm_setI S 25 v) := rfl
theorem jm_n25 : (TX6 25).2.2.2 = false := rfl
theorem jm_d25 : parseFieldDescriptor (TX6 25).2.2.1 = some .int := by decide +kernel
theorem jm_f26 : Cond.fieldLink RX6 340 RX6 (TX6 26).2.1 (TX6 26).2.2.1 ∈ lw_all := q1563
theorem jm_g26 {ad : Nat → Nat} {S : jm_S} : (jm_fs ad S)[26]? = some (.int (S.1 26)) := rfl
theorem jm_p26 {ad : Nat → Nat} {ck : Nat → ClassId} {S : jm_S} (v : Int32) : (jm_ws ad ck S).set 0 (ad 0, .inr (0, (jm_fs ad S).set 26 (.int v))) = jm_ws ad ck (jm_setI S 26 v) := rfl
theorem jm_n26 : (TX6 26).2.2.2 = false := rfl
theorem jm_d26 : parseFieldDescriptor (TX6 26).2.2.1 = some .int := by decide +kernel
theorem jm_f27 : Cond.fieldLink RX6 316 RX6 (TX6 27).2.1 (TX6 27).2.2.1 ∈ lw_all := q1564
theorem jm_g27 {ad : Nat → Nat} {S : jm_S} : (jm_fs ad S)[27]? = some (.int (S.1 27)) := rfl
theorem jm_p27 {ad : Nat → Nat} {ck : Nat → ClassId} {S : jm_S} (v : Int32) : (jm_ws ad ck S).set 0 (ad 0, .inr (0, (jm_fs ad S).set 27 (.int v))) = jm_ws ad ck (jm_setI S 27 v) := rfl
theorem jm_n27 : (TX6 27).2.2.2 = false := rfl
theorem jm_d27 : parseFieldDescriptor (TX6 27).2.2.1 = some .int := by decide +kernel
theorem jm_f28 : Cond.fieldLink RX6 319 RX6 (TX6 28).2.1 (TX6 28).2.2.1 ∈ lw_all := q1565
theorem jm_g28 {ad : Nat → Nat} {S : jm_S} : (jm_fs ad S)[28]? = some (.int (S.1 28)) := rfl
theorem jm_p28 {ad : Nat → Nat} {ck : Nat → ClassId} {S : jm_S} (v : Int32) : (jm_ws ad ck S).set 0 (ad 0, .inr (0, (jm_fs ad S).set 28 (.int v))) = jm_ws ad ck (jm_setI S 28 v) := rfl
theorem jm_n28 : (TX6 28).2.2.2 = false := rfl
theorem jm_d28 : parseFieldDescriptor (TX6 28).2.2.1 = some .int := by decide +kernel
theorem jm_f29 : Cond.fieldLink RX6 322 RX6 (TX6 29).2.1 (TX6 29).2.2.1 ∈ lw_all := q1566
theorem jm_g29 {ad : Nat → Nat} {S : jm_S} : (jm_fs ad S)[29]? = some (.int (S.1 29)) := rfl
theorem jm_p29 {ad : Nat → Nat} {ck : Nat → ClassId} {S : jm_S} (v : Int32) : (jm_ws ad ck S).set 0 (ad 0, .inr (0, (jm_fs ad S).set 29 (.int v))) = jm_ws ad ck (jm_setI S 29 v) := rfl
theorem jm_n29 : (TX6 29).2.2.2 = false := rfl
theorem jm_d29 : parseFieldDescriptor (TX6 29).2.2.1 = some .int := by decide +kernel
theorem jm_f30 : Cond.fieldLink RX6 325 RX6 (TX6 30).2.1 (TX6 30).2.2.1 ∈ lw_all := q1567
theorem jm_g30 {ad : Nat → Nat} {S : jm_S} : (jm_fs ad S)[30]? = some (.int (S.1 30)) := rfl
theorem jm_p30 {ad : Nat → Nat} {ck : Nat → ClassId} {S : jm_S} (v : Int32) : (jm_ws ad ck S).set 0 (ad 0, .inr (0, (jm_fs ad S).set 30 (.int v))) = jm_ws ad ck (jm_setI S 30 v) := rfl
theorem jm_n30 : (TX6 30).2.2.2 = false := rfl
theorem jm_d30 : parseFieldDescriptor (TX6 30).2.2.1 = some .int := by decide +kernel
theorem jm_f31 : Cond.fieldLink RX6 328 RX6 (TX6 31).2.1 (TX6 31).2.2.1 ∈ lw_all := q1568
theorem jm_g31 {ad : Nat → Nat} {S : jm_S} : (jm_fs ad S)[31]? = some (.int (S.1 31)) := rfl
theorem jm_p31 {ad : Nat → Nat} {ck : Nat → ClassId} {S : jm_S} (v : Int32) : (jm_ws ad ck S).set 0 (ad 0, .inr (0, (jm_fs ad S).set 31 (.int v))) = jm_ws ad ck (jm_setI S 31 v) := rfl
theorem jm_n31 : (TX6 31).2.2.2 = false := rfl
theorem jm_d31 : parseFieldDescriptor (TX6 31).2.2.1 = some .int := by decide +kernel
theorem jm_f32 : Cond.fieldLink RX6 331 RX6 (TX6 32).2.1 (TX6 32).2.2.1 ∈ lw_all := q1569
theorem jm_g32 {ad : Nat → Nat} {S : jm_S} : (jm_fs ad S)[32]? = some (.int (S.1 32)) := rfl
theorem jm_p32 {ad : Nat → Nat} {ck : Nat → ClassId} {S : jm_S} (v : Int32) : (jm_ws ad ck S).set 0 (ad 0, .inr (0, (jm_fs ad S).set 32 (.int v))) = jm_ws ad ck (jm_setI S 32 v) := rfl
theorem jm_n32 : (TX6 32).2.2.2 = false := rfl
theorem jm_d32 : parseFieldDescriptor (TX6 32).2.2.1 = some .int := by decide +kernel
theorem jm_f33 : Cond.fieldLink RX6 68 RX6 (TX6 33).2.1 (TX6 33).2.2.1 ∈ lw_all := q1570
theorem jm_g33 {ad : Nat → Nat} {S : jm_S} : (jm_fs ad S)[33]? = some (.ref (ad 33)) := rfl
theorem jm_a33 {ad : Nat → Nat} {ck : Nat → ClassId} {S : jm_S} : (jm_ws ad ck S)[17]? = some (ad 33, .inl (ck 3, 40, .inr (.inl (S.2.2 33)))) := rfl
theorem jm_u33 {ad : Nat → Nat} {ck : Nat → ClassId} {S : jm_S} (f : Nat → Int64) : (jm_ws ad ck S).set 17 (ad 33, .inl (ck 3, 40, .inr (.inl f))) = jm_ws ad ck (jm_setL S 33 f) := rfl
theorem jm_f34 : Cond.fieldLink RX6 71 RX6 (TX6 34).2.1 (TX6 34).2.2.1 ∈ lw_all := q1571
theorem jm_g34 {ad : Nat → Nat} {S : jm_S} : (jm_fs ad S)[34]? = some (.ref (ad 34)) := rfl
theorem jm_a34 {ad : Nat → Nat} {ck : Nat → ClassId} {S : jm_S} : (jm_ws ad ck S)[18]? = some (ad 34, .inl (ck 0, 40, .inl (S.2.1 34))) := rfl
theorem jm_u34 {ad : Nat → Nat} {ck : Nat → ClassId} {S : jm_S} (f : Nat → Int32) : (jm_ws ad ck S).set 18 (ad 34, .inl (ck 0, 40, .inl f)) = jm_ws ad ck (jm_setA S 34 f) := rfl
theorem jm_f35 : Cond.fieldLink RX6 74 RX6 (TX6 35).2.1 (TX6 35).2.2.1 ∈ lw_all := q1572
theorem jm_g35 {ad : Nat → Nat} {S : jm_S} : (jm_fs ad S)[35]? = some (.ref (ad 35)) := rfl
theorem jm_a35 {ad : Nat → Nat} {ck : Nat → ClassId} {S : jm_S} : (jm_ws ad ck S)[19]? = some (ad 35, .inl (ck 3, 40, .inr (.inl (S.2.2 35)))) := rfl
theorem jm_u35 {ad : Nat → Nat} {ck : Nat → ClassId} {S : jm_S} (f : Nat → Int64) : (jm_ws ad ck S).set 19 (ad 35, .inl (ck 3, 40, .inr (.inl f))) = jm_ws ad ck (jm_setL S 35 f) := rfl
theorem jm_f36 : Cond.fieldLink RX6 77 RX6 (TX6 36).2.1 (TX6 36).2.2.1 ∈ lw_all := q1573
theorem jm_g36 {ad : Nat → Nat} {S : jm_S} : (jm_fs ad S)[36]? = some (.ref (ad 36)) := rfl
theorem jm_a36 {ad : Nat → Nat} {ck : Nat → ClassId} {S : jm_S} : (jm_ws ad ck S)[20]? = some (ad 36, .inl (ck 0, 40, .inl (S.2.1 36))) := rfl
theorem jm_u36 {ad : Nat → Nat} {ck : Nat → ClassId} {S : jm_S} (f : Nat → Int32) : (jm_ws ad ck S).set 20 (ad 36, .inl (ck 0, 40, .inl f)) = jm_ws ad ck (jm_setA S 36 f) := rfl
theorem jm_f37 : Cond.fieldLink RX6 80 RX6 (TX6 37).2.1 (TX6 37).2.2.1 ∈ lw_all := q1574
theorem jm_g37 {ad : Nat → Nat} {S : jm_S} : (jm_fs ad S)[37]? = some (.ref (ad 37)) := rfl
theorem jm_a37 {ad : Nat → Nat} {ck : Nat → ClassId} {S : jm_S} : (jm_ws ad ck S)[21]? = some (ad 37, .inl (ck 0, 40, .inl (S.2.1 37))) := rfl
theorem jm_u37 {ad : Nat → Nat} {ck : Nat → ClassId} {S : jm_S} (f : Nat → Int32) : (jm_ws ad ck S).set 21 (ad 37, .inl (ck 0, 40, .inl f)) = jm_ws ad ck (jm_setA S 37 f) := rfl
theorem jm_f38 : Cond.fieldLink RX6 382 RX6 (TX6 38).2.1 (TX6 38).2.2.1 ∈ lw_all := q1575
theorem jm_g38 {ad : Nat → Nat} {S : jm_S} : (jm_fs ad S)[38]? = some (.int (S.1 38)) := rfl
theorem jm_p38 {ad : Nat → Nat} {ck : Nat → ClassId} {S : jm_S} (v : Int32) : (jm_ws ad ck S).set 0 (ad 0, .inr (0, (jm_fs ad S).set 38 (.int v))) = jm_ws ad ck (jm_setI S 38 v) := rfl
theorem jm_n38 : (TX6 38).2.2.2 = false := rfl
theorem jm_d38 : parseFieldDescriptor (TX6 38).2.2.1 = some .int := by decide +kernel
theorem jm_f39 : Cond.fieldLink RX6 83 RX6 (TX6 39).2.1 (TX6 39).2.2.1 ∈ lw_all := q1576
theorem jm_g39 {ad : Nat → Nat} {S : jm_S} : (jm_fs ad S)[39]? = some (.ref (ad 39)) := rfl
theorem jm_a39 {ad : Nat → Nat} {ck : Nat → ClassId} {S : jm_S} : (jm_ws ad ck S)[22]? = some (ad 39, .inl (ck 0, 6, .inl (S.2.1 39))) := rfl
theorem jm_u39 {ad : Nat → Nat} {ck : Nat → ClassId} {S : jm_S} (f : Nat → Int32) : (jm_ws ad ck S).set 22 (ad 39, .inl (ck 0, 6, .inl f)) = jm_ws ad ck (jm_setA S 39 f) := rfl
theorem jm_f40 : Cond.fieldLink RX6 86 RX6 (TX6 40).2.1 (TX6 40).2.2.1 ∈ lw_all := q1577
theorem jm_g40 {ad : Nat → Nat} {S : jm_S} : (jm_fs ad S)[40]? = some (.ref (ad 40)) := rfl
theorem jm_a40 {ad : Nat → Nat} {ck : Nat → ClassId} {S : jm_S} : (jm_ws ad ck S)[23]? = some (ad 40, .inl (ck 0, 6, .inl (S.2.1 40))) := rfl
theorem jm_u40 {ad : Nat → Nat} {ck : Nat → ClassId} {S : jm_S} (f : Nat → Int32) : (jm_ws ad ck S).set 23 (ad 40, .inl (ck 0, 6, .inl f)) = jm_ws ad ck (jm_setA S 40 f) := rfl
theorem jm_f41 : Cond.fieldLink RX6 89 RX6 (TX6 41).2.1 (TX6 41).2.2.1 ∈ lw_all := q1578
theorem jm_g41 {ad : Nat → Nat} {S : jm_S} : (jm_fs ad S)[41]? = some (.ref (ad 41)) := rfl
theorem jm_a41 {ad : Nat → Nat} {ck : Nat → ClassId} {S : jm_S} : (jm_ws ad ck S)[24]? = some (ad 41, .inl (ck 0, 6, .inl (S.2.1 41))) := rfl
theorem jm_u41 {ad : Nat → Nat} {ck : Nat → ClassId} {S : jm_S} (f : Nat → Int32) : (jm_ws ad ck S).set 24 (ad 41, .inl (ck 0, 6, .inl f)) = jm_ws ad ck (jm_setA S 41 f) := rfl
theorem jm_f42 : Cond.fieldLink RX6 411 RX6 (TX6 42).2.1 (TX6 42).2.2.1 ∈ lw_all := q1579
theorem jm_g42 {ad : Nat → Nat} {S : jm_S} : (jm_fs ad S)[42]? = some (.int (S.1 42)) := rfl
theorem jm_p42 {ad : Nat → Nat} {ck : Nat → ClassId} {S : jm_S} (v : Int32) : (jm_ws ad ck S).set 0 (ad 0, .inr (0, (jm_fs ad S).set 42 (.int v))) = jm_ws ad ck (jm_setI S 42 v) := rfl
theorem jm_n42 : (TX6 42).2.2.2 = false := rfl
theorem jm_d42 : parseFieldDescriptor (TX6 42).2.2.1 = some .int := by decide +kernel
theorem jm_f43 : Cond.fieldLink RX6 408 RX6 (TX6 43).2.1 (TX6 43).2.2.1 ∈ lw_all := q1580
theorem jm_g43 {ad : Nat → Nat} {S : jm_S} : (jm_fs ad S)[43]? = some (.int (S.1 43)) := rfl
theorem jm_p43 {ad : Nat → Nat} {ck : Nat → ClassId} {S : jm_S} (v : Int32) : (jm_ws ad ck S).set 0 (ad 0, .inr (0, (jm_fs ad S).set 43 (.int v))) = jm_ws ad ck (jm_setI S 43 v) := rfl
theorem jm_n43 : (TX6 43).2.2.2 = false := rfl
theorem jm_d43 : parseFieldDescriptor (TX6 43).2.2.1 = some .int := by decide +kernel
theorem jm_f44 : Cond.fieldLink RX6 92 RX6 (TX6 44).2.1 (TX6 44).2.2.1 ∈ lw_all := q1581
theorem jm_g44 {ad : Nat → Nat} {S : jm_S} : (jm_fs ad S)[44]? = some (.ref (ad 44)) := rfl
theorem jm_a44 {ad : Nat → Nat} {ck : Nat → ClassId} {S : jm_S} : (jm_ws ad ck S)[25]? = some (ad 44, .inl (ck 3, 40, .inr (.inl (S.2.2 44)))) := rfl
theorem jm_u44 {ad : Nat → Nat} {ck : Nat → ClassId} {S : jm_S} (f : Nat → Int64) : (jm_ws ad ck S).set 25 (ad 44, .inl (ck 3, 40, .inr (.inl f))) = jm_ws ad ck (jm_setL S 44 f) := rfl
theorem jm_f45 : Cond.fieldLink RX6 421 RX6 (TX6 45).2.1 (TX6 45).2.2.1 ∈ lw_all := q1582
theorem jm_g45 {ad : Nat → Nat} {S : jm_S} : (jm_fs ad S)[45]? = some (.int (S.1 45)) := rfl
theorem jm_p45 {ad : Nat → Nat} {ck : Nat → ClassId} {S : jm_S} (v : Int32) : (jm_ws ad ck S).set 0 (ad 0, .inr (0, (jm_fs ad S).set 45 (.int v))) = jm_ws ad ck (jm_setI S 45 v) := rfl
theorem jm_n45 : (TX6 45).2.2.2 = false := rfl
theorem jm_d45 : parseFieldDescriptor (TX6 45).2.2.1 = some .int := by decide +kernel
theorem jm_f46 : Cond.fieldLink RX6 95 RX6 (TX6 46).2.1 (TX6 46).2.2.1 ∈ lw_all := q1583
theorem jm_g46 {ad : Nat → Nat} {S : jm_S} : (jm_fs ad S)[46]? = some (.ref (ad 46)) := rfl
theorem jm_a46 {ad : Nat → Nat} {ck : Nat → ClassId} {S : jm_S} : (jm_ws ad ck S)[26]? = some (ad 46, .inl (ck 0, 40, .inl (S.2.1 46))) := rfl
theorem jm_u46 {ad : Nat → Nat} {ck : Nat → ClassId} {S : jm_S} (f : Nat → Int32) : (jm_ws ad ck S).set 26 (ad 46, .inl (ck 0, 40, .inl f)) = jm_ws ad ck (jm_setA S 46 f) := rfl
theorem jm_f47 : Cond.fieldLink RX6 98 RX6 (TX6 47).2.1 (TX6 47).2.2.1 ∈ lw_all := q1584
theorem jm_g47 {ad : Nat → Nat} {S : jm_S} : (jm_fs ad S)[47]? = some (.ref (ad 47)) := rfl
theorem jm_a47 {ad : Nat → Nat} {ck : Nat → ClassId} {S : jm_S} : (jm_ws ad ck S)[27]? = some (ad 47, .inl (ck 3, 6, .inr (.inl (S.2.2 47)))) := rfl
theorem jm_u47 {ad : Nat → Nat} {ck : Nat → ClassId} {S : jm_S} (f : Nat → Int64) : (jm_ws ad ck S).set 27 (ad 47, .inl (ck 3, 6, .inr (.inl f))) = jm_ws ad ck (jm_setL S 47 f) := rfl
theorem jm_f48 : Cond.fieldLink RX6 101 RX6 (TX6 48).2.1 (TX6 48).2.2.1 ∈ lw_all := q1585
theorem jm_g48 {ad : Nat → Nat} {S : jm_S} : (jm_fs ad S)[48]? = some (.ref (ad 48)) := rfl
theorem jm_a48 {ad : Nat → Nat} {ck : Nat → ClassId} {S : jm_S} : (jm_ws ad ck S)[28]? = some (ad 48, .inl (ck 0, 6, .inl (S.2.1 48))) := rfl
theorem jm_u48 {ad : Nat → Nat} {ck : Nat → ClassId} {S : jm_S} (f : Nat → Int32) : (jm_ws ad ck S).set 28 (ad 48, .inl (ck 0, 6, .inl f)) = jm_ws ad ck (jm_setA S 48 f) := rfl
theorem jm_f49 : Cond.fieldLink RX6 438 RX6 (TX6 49).2.1 (TX6 49).2.2.1 ∈ lw_all := q1586
theorem jm_g49 {ad : Nat → Nat} {S : jm_S} : (jm_fs ad S)[49]? = some (.int (S.1 49)) := rfl
theorem jm_p49 {ad : Nat → Nat} {ck : Nat → ClassId} {S : jm_S} (v : Int32) : (jm_ws ad ck S).set 0 (ad 0, .inr (0, (jm_fs ad S).set 49 (.int v))) = jm_ws ad ck (jm_setI S 49 v) := rfl
theorem jm_n49 : (TX6 49).2.2.2 = false := rfl
theorem jm_d49 : parseFieldDescriptor (TX6 49).2.2.1 = some .int := by decide +kernel
/-- the constant pool places of the strings in JumpFenceModel -/
def jm_sx (i : Nat) : Nat := [183, 185, 181, 186, 188, 190, 192, 194, 196, 198, 200, 159, 214, 216].getD i 0

/-- a string constant with its bytes, outside of what may be written -/
def jx_sAt (A : Nat → Prop) (i a : Nat) (U : State) (H : Heap) : Prop := ∃ v : Nat, va_O "java/lang/String" a A U H ∧ va_OF "java/lang/String" "coder" "B" (.int 0) a A U H ∧ va_OF "java/lang/String" "value" "[B" (.ref v) a A U H ∧ va_T .byte v (jx_sl i) (fun j => .int (nI ((jx_tx i).getD j 0))) A U H
theorem jx_sAt.moved {A : Nat → Prop} {i a : Nat} {u U : State} {H : Heap} (hvm : u.vm.Alike U.vm) (h : jx_sAt A i a u H) : jx_sAt A i a U H := by
  obtain ⟨v, h1, h2, h3, h4⟩ := h
  exact ⟨v, va_O.moved hvm h1, va_OF.moved hvm h2, va_OF.moved hvm h3, va_T.moved hvm h4⟩
theorem jx_sAt.kept {A : Nat → Prop} {i a : Nat} {U : State} {H H1 : Heap} (h : jx_sAt A i a U H) (hq : ∀ a : Nat, a < H.size → ¬ A a → H1[a]? = H[a]?) : jx_sAt A i a U H1 := by
  obtain ⟨v, h1, h2, h3, h4⟩ := h
  exact ⟨v, h1.kept hq, h2.kept hq, h3.kept hq, h4.kept hq⟩
/-- the statics that the String's methods read -/
def jx_sSt (A : Nat → Prop) (U : State) (H : Heap) : Prop := va_Z "java/lang/String" "COMPACT_STRINGS" "Z" (.int 1) A U H ∧ va_Zq "jdk/internal/util/Preconditions" "SIOOBE_FORMATTER" "Ljava/util/function/BiFunction;" A U H
def jm_Z (sa : Nat → Nat) (A : Nat → Prop) (U : State) : Prop := (∀ i, i < 14 → vk_R "JumpFenceModel" (jm_sx i) (jx_st.getD i "") (sa i) U ∧ jx_sAt A i (sa i) U U.heap) ∧ jx_sSt A U U.heap
theorem jm_Z.moved {sa : Nat → Nat} {A : Nat → Prop} {s U : State} (hW : s.WarmedH U.vm) (hq : ∀ a : Nat, a < s.heap.size → ¬ A a → U.heap[a]? = s.heap[a]?) (h : jm_Z sa A s) : jm_Z sa A U :=
  ⟨fun i hi => ⟨(h.1 i hi).1.warm hW, ((h.1 i hi).2.moved hW.alike).kept hq⟩, ⟨va_Z.kept (va_Z.moved hW.alike h.2.1) hq, va_Zq.kept (va_Zq.moved hW.alike h.2.2) hq⟩⟩
/-- the world of a JumpFenceModel in a state -/
def jm_U (D : va_G) (ck : Nat → ClassId) (ad sa : Nat → Nat) (A : Nat → Prop) (S : jm_S) (U : State) : Prop := va_P D jx_cl (jm_ws ad ck S) U.heap ∧ va_K D jx_cl (jm_ty ck) U ∧ va_D A (jm_ws ad ck S) ∧ jm_Z sa A U
theorem jm_U.blind {D : va_G} {ck : Nat → ClassId} {ad sa : Nat → Nat} {A : Nat → Prop} {S : jm_S} {av : List Value} : FrameBlind (va_Pc av (jm_U D ck ad sa A S)) := by
  intro a U g mk h
  obtain ⟨h0, hP, hK, hD, hZ⟩ := h
  exact ⟨h0, hP, va_K.moved (u := U) (U := U.calling g mk a) (Vm.Alike.refl U.vm) hK, hD, hZ.moved (State.WarmedH.refl U) (fun _ _ _ => rfl)⟩
def jm_Mi (l : Launch) (D : va_G) (ck : Nat → ClassId) (ad sa : Nat → Nat) (A : Nat → Prop) (y : MethodName) (cc : ByteArray) (nL : Nat) (rt : Option FieldType) (lv : Nat) (As : List Value) (S : jm_S) (out : Int32 × jm_S) : Prop :=
  Met l y (ws_ y cc nL rt) (jx_rm lv) (va_Pc (.ref (ad 0) :: As) (jm_U D ck ad sa A S)) (va_Qi (fun r u => (r, u) = out) (jm_U D ck ad sa A) A) 0 0 A
def jm_Ml (l : Launch) (D : va_G) (ck : Nat → ClassId) (ad sa : Nat → Nat) (A : Nat → Prop) (y : MethodName) (cc : ByteArray) (nL : Nat) (rt : Option FieldType) (lv : Nat) (As : List Value) (S : jm_S) (out : Int64 × jm_S) : Prop :=
  Met l y (ws_ y cc nL rt) (jx_rm lv) (va_Pc (.ref (ad 0) :: As) (jm_U D ck ad sa A S)) (va_Ql (fun r u => (r, u) = out) (jm_U D ck ad sa A) A) 0 0 A
def jm_Mv (l : Launch) (D : va_G) (ck : Nat → ClassId) (ad sa : Nat → Nat) (A : Nat → Prop) (y : MethodName) (cc : ByteArray) (nL : Nat) (rt : Option FieldType) (lv : Nat) (As : List Value) (S : jm_S) (out : jm_S) : Prop :=
  Met l y (ws_ y cc nL rt) (jx_rm lv) (va_Pc (.ref (ad 0) :: As) (jm_U D ck ad sa A S)) (va_Qv (fun u => u = out) (jm_U D ck ad sa A) A) 0 0 A
def jm_Qi (below : List Frame) (args : Array Value) (s : State) (A : Nat → Prop) (D : va_G) (ck : Nat → ClassId) (ad sa : Nat → Nat) (out : Int32 × jm_S) : State → Prop := MQ below (va_Qi (fun r u => (r, u) = out) (jm_U D ck ad sa A) A) args s 0 0 A
def jm_Ql (below : List Frame) (args : Array Value) (s : State) (A : Nat → Prop) (D : va_G) (ck : Nat → ClassId) (ad sa : Nat → Nat) (out : Int64 × jm_S) : State → Prop := MQ below (va_Ql (fun r u => (r, u) = out) (jm_U D ck ad sa A) A) args s 0 0 A
def jm_Qv (below : List Frame) (args : Array Value) (s : State) (A : Nat → Prop) (D : va_G) (ck : Nat → ClassId) (ad sa : Nat → Nat) (out : jm_S) : State → Prop := MQ below (va_Qv (fun u => u = out) (jm_U D ck ad sa A) A) args s 0 0 A
def jm_J (p : Program) (l : Launch) (e : Env) (R : Room) (s : State) (m : MethodId) (args : Array Value) (below : List Frame) (meth : Method) (c : Code) (A : Nat → Prop) (D : va_G) (ck : Nat → ClassId) (ad : Nat → Nat) (nL : Nat) (Q : State → Prop) (pc : Nat) (lv : List (Nat × Value)) (stk : List Value) (S : jm_S) : Prop :=
  ∀ (H : Heap) (locs : List Loc) (ls : Array Slot), va_P D jx_cl (jm_ws ad ck S) H → va_D A (jm_ws ad ck S) → va_S A s.heap H locs → lv_has ls nL lv → W p l e R s m args below meth c H locs 0 0 Q (F0 m pc ls stk)
def jm_Ok (p : Program) (R : Room) (s : State) (m : MethodId) (args : Array Value) (meth : Method) (c : Code) (A : Nat → Prop) (D : va_G) (ck : Nat → ClassId) (ad sa : Nat → Nat) (cc : ByteArray) (nL : Nat) (rt : Option FieldType) (lv : Nat) : Prop :=
  p.tables.exec = Jvm.exec ∧ c.code = cc ∧ c.maxLocals = nL ∧ s.vm.findClass RX6 = some m.cls ∧ (∀ w ∈ lw_all, w.before args s = true) ∧ meth.locks = false ∧ meth.sig.returnType = rt ∧ R = jx_rm lv ∧ va_K D jx_cl (jm_ty ck) s ∧ jm_Z sa A s
theorem jm_same {s : State} (k : Nat) : ∀ x, s.fieldFound? (TX6 k).1 (TX6 k).2.1 (TX6 k).2.2.1 = some x → s.fieldFound? RX6 (TX6 k).2.1 (TX6 k).2.2.1 = some x := by
  have h : (TX6 k).1 = RX6 := by unfold TX6; split <;> rfl
  rw [h]
  exact fun _ h => h
section
variable {p : Program} {l : Launch} {e : Env} {R : Room} {s : State} {m : MethodId} {args : Array Value} {below : List Frame} {meth : Method} {c : Code} {H : Heap} {locs : List Loc} {Q : State → Prop} {pc : Nat} {ls : Array Slot} {rest : List Value} {A : Nat → Prop} {D : va_G} {ck : Nat → ClassId} {ad sa : Nat → Nat} {cc : ByteArray} {S S1 : jm_S}
theorem jm_get (hx : p.tables.exec = Jvm.exec) (hb : c.code = cc) (hts : ∀ w ∈ lw_all, w.before args s = true) (hown : s.vm.findClass RX6 = some m.cls) (hK : va_K D jx_cl (jm_ty ck) s) (hP : va_P D jx_cl (jm_ws ad ck S) H) {k ix : Nat} {v : Value} (hf : Cond.fieldLink RX6 ix RX6 (TX6 k).2.1 (TX6 k).2.2.1 ∈ lw_all) (hk : k < 50) (hv : (jm_fs ad S)[k]? = some v) (hdg : decode cc pc = .ok (.getfield ix, 3))
    (kk : W p l e R s m args below meth c H locs 0 0 Q (F0 m (pc + 3) ls (v :: rest))) : W p l e R s m args below meth c H locs 0 0 Q (F0 m pc ls (.ref (ad 0) :: rest)) :=
  va_get (D := D) (ci := 0) (C := RX6) (T := TX6) (N := 50) hx hb hts in_X6 hown hK hP 0 rfl rfl k hk (hts _ hf) (jm_same k) hv hdg kk
theorem jm_put (hx : p.tables.exec = Jvm.exec) (hb : c.code = cc) (hts : ∀ w ∈ lw_all, w.before args s = true) (hown : s.vm.findClass RX6 = some m.cls) (hK : va_K D jx_cl (jm_ty ck) s) (hP : va_P D jx_cl (jm_ws ad ck S) H) (hD : va_D A (jm_ws ad ck S)) (hS : va_S A s.heap H locs) {k ix : Nat} {v : Int32} (hS1 : S1 = jm_setI S k v) (hf : Cond.fieldLink RX6 ix RX6 (TX6 k).2.1 (TX6 k).2.2.1 ∈ lw_all) (hk : k < 50) (hn : (TX6 k).2.2.2 = false) (hd : parseFieldDescriptor (TX6 k).2.2.1 = some .int) (hs : ∀ v : Int32, (jm_ws ad ck S).set 0 (ad 0, .inr (0, (jm_fs ad S).set k (.int v))) = jm_ws ad ck (jm_setI S k v)) (hdg : decode cc pc = .ok (.putfield ix, 3))
    (kk : ∀ (H : Heap) (locs : List Loc), va_P D jx_cl (jm_ws ad ck S1) H → va_D A (jm_ws ad ck S1) → va_S A s.heap H locs → W p l e R s m args below meth c H locs 0 0 Q (F0 m (pc + 3) ls rest)) : W p l e R s m args below meth c H locs 0 0 Q (F0 m pc ls (.int v :: .ref (ad 0) :: rest)) := by
  subst hS1
  refine va_put (D := D) (ci := 0) (C := RX6) (T := TX6) (N := 50) hx hb hts in_X6 tyX6 tyX6_ok nmX6 hown hK hP hD hS 0 rfl rfl k hk (hts _ hf) (jm_same k) hn hd rfl rfl hk hdg (fun H1 l1 hP1 hD1 hS1 => ?_)
  rw [hs] at hP1 hD1
  exact kk H1 l1 hP1 hD1 hS1
theorem jm_putZ (hx : p.tables.exec = Jvm.exec) (hb : c.code = cc) (hts : ∀ w ∈ lw_all, w.before args s = true) (hown : s.vm.findClass RX6 = some m.cls) (hK : va_K D jx_cl (jm_ty ck) s) (hP : va_P D jx_cl (jm_ws ad ck S) H) (hD : va_D A (jm_ws ad ck S)) (hS : va_S A s.heap H locs) {k ix : Nat} {v : Int32} (hS1 : S1 = jm_setI S k v) (hz : narrow .boolean (.int v) = .int v ∧ fits .boolean (.int v) = true) (hf : Cond.fieldLink RX6 ix RX6 (TX6 k).2.1 (TX6 k).2.2.1 ∈ lw_all) (hk : k < 50) (hn : (TX6 k).2.2.2 = false) (hd : parseFieldDescriptor (TX6 k).2.2.1 = some .boolean) (hs : ∀ v : Int32, (jm_ws ad ck S).set 0 (ad 0, .inr (0, (jm_fs ad S).set k (.int v))) = jm_ws ad ck (jm_setI S k v)) (hdg : decode cc pc = .ok (.putfield ix, 3))
    (kk : ∀ (H : Heap) (locs : List Loc), va_P D jx_cl (jm_ws ad ck S1) H → va_D A (jm_ws ad ck S1) → va_S A s.heap H locs → W p l e R s m args below meth c H locs 0 0 Q (F0 m (pc + 3) ls rest)) : W p l e R s m args below meth c H locs 0 0 Q (F0 m pc ls (.int v :: .ref (ad 0) :: rest)) := by
  subst hS1
  refine va_put (D := D) (ci := 0) (C := RX6) (T := TX6) (N := 50) hx hb hts in_X6 tyX6 tyX6_ok nmX6 hown hK hP hD hS 0 rfl rfl k hk (hts _ hf) (jm_same k) hn hd hz.1 hz.2 hk hdg (fun H1 l1 hP1 hD1 hS1 => ?_)
  rw [hs] at hP1 hD1
  exact kk H1 l1 hP1 hD1 hS1

theorem jm_iald (hx : p.tables.exec = Jvm.exec) (hb : c.code = cc) (hK : va_K D jx_cl (jm_ty ck) s) (hP : va_P D jx_cl (jm_ws ad ck S) H) {k q n j : Nat} {i : Int32} (ha : (jm_ws ad ck S)[q]? = some (ad k, .inl (ck 0, n, .inl (S.2.1 k)))) (ej : j = i.toNatClampNeg) (hin : vp_in i n) (hdg : decode cc pc = .ok (.iaload, 1))
    (kk : W p l e R s m args below meth c H locs 0 0 Q (F0 m (pc + 1) ls (.int (S.2.1 k j) :: rest))) : W p l e R s m args below meth c H locs 0 0 Q (F0 m pc ls (.int i :: .ref (ad k) :: rest)) := by
  subst ej
  exact va_iald hx hb hK hP q 0 ha rfl hin hdg kk
theorem jm_iast (hx : p.tables.exec = Jvm.exec) (hb : c.code = cc) (hK : va_K D jx_cl (jm_ty ck) s) (hP : va_P D jx_cl (jm_ws ad ck S) H) (hD : va_D A (jm_ws ad ck S)) (hS : va_S A s.heap H locs) {k q n j : Nat} {i x : Int32} (ha : (jm_ws ad ck S)[q]? = some (ad k, .inl (ck 0, n, .inl (S.2.1 k)))) (hu : ∀ f : Nat → Int32, (jm_ws ad ck S).set q (ad k, .inl (ck 0, n, .inl f)) = jm_ws ad ck (jm_setA S k f)) (ej : j = i.toNatClampNeg) (hin : vp_in i n) (hS1 : S1 = jm_setA S k (upd (S.2.1 k) j x)) (hdg : decode cc pc = .ok (.iastore, 1))
    (kk : ∀ (H : Heap) (locs : List Loc), va_P D jx_cl (jm_ws ad ck S1) H → va_D A (jm_ws ad ck S1) → va_S A s.heap H locs → W p l e R s m args below meth c H locs 0 0 Q (F0 m (pc + 1) ls rest)) : W p l e R s m args below meth c H locs 0 0 Q (F0 m pc ls (.int x :: .int i :: .ref (ad k) :: rest)) := by
  subst ej
  subst hS1
  refine va_iast hx hb hK hP hD hS q 0 ha rfl hin hdg (fun H1 l1 hP1 hD1 hS1 => ?_)
  rw [hu] at hP1 hD1
  exact kk H1 l1 hP1 hD1 hS1
theorem jm_bald (hx : p.tables.exec = Jvm.exec) (hb : c.code = cc) (hK : va_K D jx_cl (jm_ty ck) s) (hP : va_P D jx_cl (jm_ws ad ck S) H) {k q n j : Nat} {i : Int32} (ha : (jm_ws ad ck S)[q]? = some (ad k, .inl (ck 1, n, .inl (S.2.1 k)))) (ej : j = i.toNatClampNeg) (hin : vp_in i n) (hdg : decode cc pc = .ok (.baload, 1))
    (kk : W p l e R s m args below meth c H locs 0 0 Q (F0 m (pc + 1) ls (.int (S.2.1 k j) :: rest))) : W p l e R s m args below meth c H locs 0 0 Q (F0 m pc ls (.int i :: .ref (ad k) :: rest)) := by
  subst ej
  exact va_bald hx hb hK hP q 1 ha rfl hin hdg kk
theorem jm_bast (hx : p.tables.exec = Jvm.exec) (hb : c.code = cc) (hK : va_K D jx_cl (jm_ty ck) s) (hP : va_P D jx_cl (jm_ws ad ck S) H) (hD : va_D A (jm_ws ad ck S)) (hS : va_S A s.heap H locs) {k q n j : Nat} {i x : Int32} (ha : (jm_ws ad ck S)[q]? = some (ad k, .inl (ck 1, n, .inl (S.2.1 k)))) (hu : ∀ f : Nat → Int32, (jm_ws ad ck S).set q (ad k, .inl (ck 1, n, .inl f)) = jm_ws ad ck (jm_setA S k f)) (ej : j = i.toNatClampNeg) (hin : vp_in i n) (hS1 : S1 = jm_setA S k (upd (S.2.1 k) j (vp_nar .byte x))) (hdg : decode cc pc = .ok (.bastore, 1))
    (kk : ∀ (H : Heap) (locs : List Loc), va_P D jx_cl (jm_ws ad ck S1) H → va_D A (jm_ws ad ck S1) → va_S A s.heap H locs → W p l e R s m args below meth c H locs 0 0 Q (F0 m (pc + 1) ls rest)) : W p l e R s m args below meth c H locs 0 0 Q (F0 m pc ls (.int x :: .int i :: .ref (ad k) :: rest)) := by
  subst ej
  subst hS1
  refine va_bast hx hb hK hP hD hS q 1 ha rfl hin hdg (fun H1 l1 hP1 hD1 hS1 => ?_)
  rw [hu] at hP1 hD1
  exact kk H1 l1 hP1 hD1 hS1
theorem jm_zald (hx : p.tables.exec = Jvm.exec) (hb : c.code = cc) (hK : va_K D jx_cl (jm_ty ck) s) (hP : va_P D jx_cl (jm_ws ad ck S) H) {k q n j : Nat} {i : Int32} (ha : (jm_ws ad ck S)[q]? = some (ad k, .inl (ck 2, n, .inl (S.2.1 k)))) (ej : j = i.toNatClampNeg) (hin : vp_in i n) (hdg : decode cc pc = .ok (.baload, 1))
    (kk : W p l e R s m args below meth c H locs 0 0 Q (F0 m (pc + 1) ls (.int (S.2.1 k j) :: rest))) : W p l e R s m args below meth c H locs 0 0 Q (F0 m pc ls (.int i :: .ref (ad k) :: rest)) := by
  subst ej
  exact va_zald hx hb hK hP q 2 ha rfl hin hdg kk
theorem jm_zast (hx : p.tables.exec = Jvm.exec) (hb : c.code = cc) (hK : va_K D jx_cl (jm_ty ck) s) (hP : va_P D jx_cl (jm_ws ad ck S) H) (hD : va_D A (jm_ws ad ck S)) (hS : va_S A s.heap H locs) {k q n j : Nat} {i x : Int32} (ha : (jm_ws ad ck S)[q]? = some (ad k, .inl (ck 2, n, .inl (S.2.1 k)))) (hu : ∀ f : Nat → Int32, (jm_ws ad ck S).set q (ad k, .inl (ck 2, n, .inl f)) = jm_ws ad ck (jm_setA S k f)) (ej : j = i.toNatClampNeg) (hin : vp_in i n) (hS1 : S1 = jm_setA S k (upd (S.2.1 k) j (vp_nar .boolean x))) (hdg : decode cc pc = .ok (.bastore, 1))
    (kk : ∀ (H : Heap) (locs : List Loc), va_P D jx_cl (jm_ws ad ck S1) H → va_D A (jm_ws ad ck S1) → va_S A s.heap H locs → W p l e R s m args below meth c H locs 0 0 Q (F0 m (pc + 1) ls rest)) : W p l e R s m args below meth c H locs 0 0 Q (F0 m pc ls (.int x :: .int i :: .ref (ad k) :: rest)) := by
  subst ej
  subst hS1
  refine va_zast hx hb hK hP hD hS q 2 ha rfl hin hdg (fun H1 l1 hP1 hD1 hS1 => ?_)
  rw [hu] at hP1 hD1
  exact kk H1 l1 hP1 hD1 hS1
theorem jm_lald (hx : p.tables.exec = Jvm.exec) (hb : c.code = cc) (hK : va_K D jx_cl (jm_ty ck) s) (hP : va_P D jx_cl (jm_ws ad ck S) H) {k q n j : Nat} {i : Int32} (ha : (jm_ws ad ck S)[q]? = some (ad k, .inl (ck 3, n, .inr (.inl (S.2.2 k))))) (ej : j = i.toNatClampNeg) (hin : vp_in i n) (hdg : decode cc pc = .ok (.laload, 1))
    (kk : W p l e R s m args below meth c H locs 0 0 Q (F0 m (pc + 1) ls (.long (S.2.2 k j) :: rest))) : W p l e R s m args below meth c H locs 0 0 Q (F0 m pc ls (.int i :: .ref (ad k) :: rest)) := by
  subst ej
  exact va_lald hx hb hK hP q 3 ha rfl hin hdg kk
theorem jm_last (hx : p.tables.exec = Jvm.exec) (hb : c.code = cc) (hK : va_K D jx_cl (jm_ty ck) s) (hP : va_P D jx_cl (jm_ws ad ck S) H) (hD : va_D A (jm_ws ad ck S)) (hS : va_S A s.heap H locs) {k q n j : Nat} {i : Int32} {x : Int64} (ha : (jm_ws ad ck S)[q]? = some (ad k, .inl (ck 3, n, .inr (.inl (S.2.2 k))))) (hu : ∀ f : Nat → Int64, (jm_ws ad ck S).set q (ad k, .inl (ck 3, n, .inr (.inl f))) = jm_ws ad ck (jm_setL S k f)) (ej : j = i.toNatClampNeg) (hin : vp_in i n) (hS1 : S1 = jm_setL S k (vp_updL (S.2.2 k) j x)) (hdg : decode cc pc = .ok (.lastore, 1))
    (kk : ∀ (H : Heap) (locs : List Loc), va_P D jx_cl (jm_ws ad ck S1) H → va_D A (jm_ws ad ck S1) → va_S A s.heap H locs → W p l e R s m args below meth c H locs 0 0 Q (F0 m (pc + 1) ls rest)) : W p l e R s m args below meth c H locs 0 0 Q (F0 m pc ls (.long x :: .int i :: .ref (ad k) :: rest)) := by
  subst ej
  subst hS1
  refine va_last hx hb hK hP hD hS q 3 ha rfl hin hdg (fun H1 l1 hP1 hD1 hS1 => ?_)
  rw [hu] at hP1 hD1
  exact kk H1 l1 hP1 hD1 hS1
theorem jm_iret {v : Int32} {out : Int32 × jm_S} (hx : p.tables.exec = Jvm.exec) (hb : c.code = cc) (hr : meth.sig.returnType = some .int) (hlk : meth.locks = false) (hK : va_K D jx_cl (jm_ty ck) s) (hZ : jm_Z sa A s) (hP : va_P D jx_cl (jm_ws ad ck S) H) (hD : va_D A (jm_ws ad ck S)) (hS : va_S A s.heap H locs) (h : some (v, S) = some out) (hdg : decode cc pc = .ok (.ireturn, 1)) : W p l e R s m args below meth c H locs 0 0 (jm_Qi below args s A D ck ad sa out) (F0 m pc ls [.int v]) := by
  unfold jm_Qi
  exact W.iret (v := v) hx hb hr (fun t ht hW => ⟨⟨v, S, rfl, Option.some.inj h, by rw [ht]; exact hP, va_K.moved hW.alike hK, hD, hZ.moved hW (fun a h1 h2 => by rw [ht]; exact hS.2.1 a h1 h2)⟩, hS.F ht⟩) hS.2.2 hdg hlk
theorem jm_lret {v : Int64} {out : Int64 × jm_S} (hx : p.tables.exec = Jvm.exec) (hb : c.code = cc) (hr : meth.sig.returnType = some .long) (hlk : meth.locks = false) (hK : va_K D jx_cl (jm_ty ck) s) (hZ : jm_Z sa A s) (hP : va_P D jx_cl (jm_ws ad ck S) H) (hD : va_D A (jm_ws ad ck S)) (hS : va_S A s.heap H locs) (h : some (v, S) = some out) (hdg : decode cc pc = .ok (.lreturn, 1)) : W p l e R s m args below meth c H locs 0 0 (jm_Ql below args s A D ck ad sa out) (F0 m pc ls [.long v]) := by
  unfold jm_Ql
  exact W.lret (v := v) hx hb hr (fun t ht hW => ⟨⟨v, S, rfl, Option.some.inj h, by rw [ht]; exact hP, va_K.moved hW.alike hK, hD, hZ.moved hW (fun a h1 h2 => by rw [ht]; exact hS.2.1 a h1 h2)⟩, hS.F ht⟩) hS.2.2 hdg hlk
theorem jm_zret {v : Int32} {out : Int32 × jm_S} (hx : p.tables.exec = Jvm.exec) (hb : c.code = cc) (hr : meth.sig.returnType = some .boolean) (hlk : meth.locks = false) (hK : va_K D jx_cl (jm_ty ck) s) (hZ : jm_Z sa A s) (hP : va_P D jx_cl (jm_ws ad ck S) H) (hD : va_D A (jm_ws ad ck S)) (hS : va_S A s.heap H locs) (hn : narrow .boolean (.int v) = .int v ∧ fits .boolean (.int v) = true) (h : some (v, S) = some out) (hdg : decode cc pc = .ok (.ireturn, 1)) : W p l e R s m args below meth c H locs 0 0 (jm_Qi below args s A D ck ad sa out) (F0 m pc ls [.int v]) := by
  unfold jm_Qi
  exact W.zret (v := v) hx hb hr hn.1 (fun t ht hW => ⟨⟨v, S, rfl, Option.some.inj h, by rw [ht]; exact hP, va_K.moved hW.alike hK, hD, hZ.moved hW (fun a h1 h2 => by rw [ht]; exact hS.2.1 a h1 h2)⟩, hS.F ht⟩) hS.2.2 hdg hlk
theorem jm_vret {out : jm_S} (hx : p.tables.exec = Jvm.exec) (hb : c.code = cc) (hr : meth.sig.returnType = none) (hlk : meth.locks = false) (hK : va_K D jx_cl (jm_ty ck) s) (hZ : jm_Z sa A s) (hP : va_P D jx_cl (jm_ws ad ck S) H) (hD : va_D A (jm_ws ad ck S)) (hS : va_S A s.heap H locs) (h : some S = some out) (hdg : decode cc pc = .ok (.return_, 1)) : W p l e R s m args below meth c H locs 0 0 (jm_Qv below args s A D ck ad sa out) (F0 m pc ls []) := by
  unfold jm_Qv
  exact W.vret hx hb hr (fun t ht hW => ⟨⟨S, rfl, Option.some.inj h, by rw [ht]; exact hP, va_K.moved hW.alike hK, hD, hZ.moved hW (fun a h1 h2 => by rw [ht]; exact hS.2.1 a h1 h2)⟩, hS.F ht⟩) hS.2.2 hdg hlk
theorem jm_callI {out : Int32 × jm_S} {y : MethodName} {bytes : ByteArray} {maxL nL lv lv' ix n : Nat} {rt : Option FieldType} {stk : List Value} (hx : p.tables.exec = Jvm.exec) (hb : c.code = cc) (hml : c.maxLocals = nL) (hown : s.vm.findClass RX6 = some m.cls) (hts : ∀ w ∈ lw_all, w.before args s = true) (hlv : R = jx_rm lv) (hK : va_K D jx_cl (jm_ty ck) s) (hZ : jm_Z sa A s) {As : List Value} (hM : jm_Mi l D ck ad sa A y bytes maxL rt lv' As S out) (hg : GoodIn lw_all (wsV RX6 ix RX6 y (ws_ y bytes maxL rt))) (hd : y.cls = RX6 ∧ y.cls ≠ "java/lang/invoke/MethodHandle" ∧ y.cls ≠ "java/lang/invoke/VarHandle" ∧ (parseMethodDescriptor y.desc).map (fun d => d.parameters.length) = some n) (h1 : lv' + 1 ≤ lv) (h2 : maxL ≤ 21) (hP : va_P D jx_cl (jm_ws ad ck S) H) (hD : va_D A (jm_ws ad ck S)) (hS : va_S A s.heap H locs) (hls : ls.size = nL) (hn : As.length = n) (hst : stk = As.reverse ++ .ref (ad 0) :: rest) (hW : 2 * (F0 m pc ls stk).monitorRoom + (rest.map fun v => v.category).sum ≤ 8) (hdg : decode cc pc = .ok (.invokevirtual ix, 3))
    (kk : ∀ (H : Heap) (locs : List Loc), va_P D jx_cl (jm_ws ad ck out.2) H → va_D A (jm_ws ad ck out.2) → va_S A s.heap H locs → W p l e R s m args below meth c H locs 0 0 Q (F0 m (pc + 3) ls (.int out.1 :: rest))) : W p l e R s m args below meth c H locs 0 0 Q (F0 m pc ls stk) := by
  unfold jm_Mi at hM
  subst hlv
  refine va_calli (va_runV (As := As) (rest := rest) (C := RX6) (own := RX6) (index := ix) ⟨hx, hb, hml, hown, hts⟩ hM (cwV n hts hg rfl rfl rfl hd ⟨h1, by show 8 + (maxL + 11) + 40 * lv' ≤ 40 * lv; omega⟩) ⟨jm_U.blind, va_recv hK hP (ci := 0) (q0 := 0) rfl rfl, fun U hU hW => ⟨rfl, by rw [hU]; exact hP, va_K.moved hW.alike hK, hD, hZ.moved hW (fun a h1 h2 => by rw [hU]; exact hS.2.1 a h1 h2)⟩⟩ rfl hn hls hst hW hdg ⟨Nat.zero_le _, Nat.zero_le _⟩) hS (fun _ _ h => h) (fun _ h => h) (fun r u t H1 l1 ht hvm hp hB hz hk hS1 => ?_)
  subst hp
  obtain ⟨hP1, hK1, hD1, -⟩ := hB
  rw [ht] at hP1
  exact kk H1 l1 hP1 hD1 hS1
theorem jm_callL {out : Int64 × jm_S} {y : MethodName} {bytes : ByteArray} {maxL nL lv lv' ix n : Nat} {rt : Option FieldType} {stk : List Value} (hx : p.tables.exec = Jvm.exec) (hb : c.code = cc) (hml : c.maxLocals = nL) (hown : s.vm.findClass RX6 = some m.cls) (hts : ∀ w ∈ lw_all, w.before args s = true) (hlv : R = jx_rm lv) (hK : va_K D jx_cl (jm_ty ck) s) (hZ : jm_Z sa A s) {As : List Value} (hM : jm_Ml l D ck ad sa A y bytes maxL rt lv' As S out) (hg : GoodIn lw_all (wsV RX6 ix RX6 y (ws_ y bytes maxL rt))) (hd : y.cls = RX6 ∧ y.cls ≠ "java/lang/invoke/MethodHandle" ∧ y.cls ≠ "java/lang/invoke/VarHandle" ∧ (parseMethodDescriptor y.desc).map (fun d => d.parameters.length) = some n) (h1 : lv' + 1 ≤ lv) (h2 : maxL ≤ 21) (hP : va_P D jx_cl (jm_ws ad ck S) H) (hD : va_D A (jm_ws ad ck S)) (hS : va_S A s.heap H locs) (hls : ls.size = nL) (hn : As.length = n) (hst : stk = As.reverse ++ .ref (ad 0) :: rest) (hW : 2 * (F0 m pc ls stk).monitorRoom + (rest.map fun v => v.category).sum ≤ 8) (hdg : decode cc pc = .ok (.invokevirtual ix, 3))
    (kk : ∀ (H : Heap) (locs : List Loc), va_P D jx_cl (jm_ws ad ck out.2) H → va_D A (jm_ws ad ck out.2) → va_S A s.heap H locs → W p l e R s m args below meth c H locs 0 0 Q (F0 m (pc + 3) ls (.long out.1 :: rest))) : W p l e R s m args below meth c H locs 0 0 Q (F0 m pc ls stk) := by
  unfold jm_Ml at hM
  subst hlv
  refine va_calll (va_runV (As := As) (rest := rest) (C := RX6) (own := RX6) (index := ix) ⟨hx, hb, hml, hown, hts⟩ hM (cwV n hts hg rfl rfl rfl hd ⟨h1, by show 8 + (maxL + 11) + 40 * lv' ≤ 40 * lv; omega⟩) ⟨jm_U.blind, va_recv hK hP (ci := 0) (q0 := 0) rfl rfl, fun U hU hW => ⟨rfl, by rw [hU]; exact hP, va_K.moved hW.alike hK, hD, hZ.moved hW (fun a h1 h2 => by rw [hU]; exact hS.2.1 a h1 h2)⟩⟩ rfl hn hls hst hW hdg ⟨Nat.zero_le _, Nat.zero_le _⟩) hS (fun _ _ h => h) (fun _ h => h) (fun r u t H1 l1 ht hvm hp hB hz hk hS1 => ?_)
  subst hp
  obtain ⟨hP1, hK1, hD1, -⟩ := hB
  rw [ht] at hP1
  exact kk H1 l1 hP1 hD1 hS1
theorem jm_callV {out : jm_S} {y : MethodName} {bytes : ByteArray} {maxL nL lv lv' ix n : Nat} {rt : Option FieldType} {stk : List Value} (hx : p.tables.exec = Jvm.exec) (hb : c.code = cc) (hml : c.maxLocals = nL) (hown : s.vm.findClass RX6 = some m.cls) (hts : ∀ w ∈ lw_all, w.before args s = true) (hlv : R = jx_rm lv) (hK : va_K D jx_cl (jm_ty ck) s) (hZ : jm_Z sa A s) {As : List Value} (hM : jm_Mv l D ck ad sa A y bytes maxL rt lv' As S out) (hg : GoodIn lw_all (wsV RX6 ix RX6 y (ws_ y bytes maxL rt))) (hd : y.cls = RX6 ∧ y.cls ≠ "java/lang/invoke/MethodHandle" ∧ y.cls ≠ "java/lang/invoke/VarHandle" ∧ (parseMethodDescriptor y.desc).map (fun d => d.parameters.length) = some n) (h1 : lv' + 1 ≤ lv) (h2 : maxL ≤ 21) (hP : va_P D jx_cl (jm_ws ad ck S) H) (hD : va_D A (jm_ws ad ck S)) (hS : va_S A s.heap H locs) (hls : ls.size = nL) (hn : As.length = n) (hst : stk = As.reverse ++ .ref (ad 0) :: rest) (hW : 2 * (F0 m pc ls stk).monitorRoom + (rest.map fun v => v.category).sum ≤ 8) (hdg : decode cc pc = .ok (.invokevirtual ix, 3))
    (kk : ∀ (H : Heap) (locs : List Loc), va_P D jx_cl (jm_ws ad ck out) H → va_D A (jm_ws ad ck out) → va_S A s.heap H locs → W p l e R s m args below meth c H locs 0 0 Q (F0 m (pc + 3) ls (rest))) : W p l e R s m args below meth c H locs 0 0 Q (F0 m pc ls stk) := by
  unfold jm_Mv at hM
  subst hlv
  refine va_callv (va_runV (As := As) (rest := rest) (C := RX6) (own := RX6) (index := ix) ⟨hx, hb, hml, hown, hts⟩ hM (cwV n hts hg rfl rfl rfl hd ⟨h1, by show 8 + (maxL + 11) + 40 * lv' ≤ 40 * lv; omega⟩) ⟨jm_U.blind, va_recv hK hP (ci := 0) (q0 := 0) rfl rfl, fun U hU hW => ⟨rfl, by rw [hU]; exact hP, va_K.moved hW.alike hK, hD, hZ.moved hW (fun a h1 h2 => by rw [hU]; exact hS.2.1 a h1 h2)⟩⟩ rfl hn hls hst hW hdg ⟨Nat.zero_le _, Nat.zero_le _⟩) hS (fun _ _ h => h) (fun _ h => h) (fun u t H1 l1 ht hvm hp hB hz hk hS1 => ?_)
  subst hp
  obtain ⟨hP1, hK1, hD1, -⟩ := hB
  rw [ht] at hP1
  exact kk H1 l1 hP1 hD1 hS1
theorem jm_Mi_of {out : Int32 × jm_S} {y : MethodName} {cc : ByteArray} {nL lv : Nat} {rt : Option FieldType} {As : List Value} (hy : plainName y.cls = true ∧ y.cls = RX6 ∧ (lg_sl (.ref (ad 0) :: As)).length ≤ nL)
    (body : ∀ {p : Program} {e : Env} {s : State} {m : MethodId} {args : Array Value} {below : List Frame} {meth : Method} {c : Code}, jm_Ok p (jx_rm lv) s m args meth c A D ck ad sa cc nL rt lv → jm_J p l e (jx_rm lv) s m args below meth c A D ck ad nL (jm_Qi below args s A D ck ad sa out) 0 (lv_args 0 (.ref (ad 0) :: As)) [] S) : jm_Mi l D ck ad sa A y cc nL rt lv As S out := by
  unfold jm_Mi
  refine Met.ofW (cc := cc) (maxL := nL) (ret := rt) hy.1 rfl ?_
  intro p e s m args below meth c s₁ B hml hv
  obtain ⟨rfl, hP, hK, hD, hZ⟩ := hv
  have hts := atoms_spec (ws := ws_ y cc nL rt) B.pre
  have hts : ∀ w ∈ lw_all, w.before _ s = true := fun w h => hts w (List.mem_cons_of_mem _ h)
  have hown : s.vm.findClass RX6 = some m.cls := by
    have h := findClass_of_methodNamed B.named
    rw [hy.2.1] at h
    exact h
  have hl := lv_entry (.ref (ad 0) :: As) (n := nL) hy.2.2
  rw [lg_entry_eq]
  have hJ := body (p := p) (e := e) (s := s) (m := m) (below := below) (meth := meth) (c := c) ⟨B.exec, B.bytes, hml, hown, hts, B.notSynchronized, B.returns, rfl, hK, hZ⟩
  unfold jm_Qi at hJ
  exact hJ _ _ _ hP hD va_S.rf hl
theorem jm_Ml_of {out : Int64 × jm_S} {y : MethodName} {cc : ByteArray} {nL lv : Nat} {rt : Option FieldType} {As : List Value} (hy : plainName y.cls = true ∧ y.cls = RX6 ∧ (lg_sl (.ref (ad 0) :: As)).length ≤ nL)
    (body : ∀ {p : Program} {e : Env} {s : State} {m : MethodId} {args : Array Value} {below : List Frame} {meth : Method} {c : Code}, jm_Ok p (jx_rm lv) s m args meth c A D ck ad sa cc nL rt lv → jm_J p l e (jx_rm lv) s m args below meth c A D ck ad nL (jm_Ql below args s A D ck ad sa out) 0 (lv_args 0 (.ref (ad 0) :: As)) [] S) : jm_Ml l D ck ad sa A y cc nL rt lv As S out := by
  unfold jm_Ml
  refine Met.ofW (cc := cc) (maxL := nL) (ret := rt) hy.1 rfl ?_
  intro p e s m args below meth c s₁ B hml hv
  obtain ⟨rfl, hP, hK, hD, hZ⟩ := hv
  have hts := atoms_spec (ws := ws_ y cc nL rt) B.pre
  have hts : ∀ w ∈ lw_all, w.before _ s = true := fun w h => hts w (List.mem_cons_of_mem _ h)
  have hown : s.vm.findClass RX6 = some m.cls := by
    have h := findClass_of_methodNamed B.named
    rw [hy.2.1] at h
    exact h
  have hl := lv_entry (.ref (ad 0) :: As) (n := nL) hy.2.2
  rw [lg_entry_eq]
  have hJ := body (p := p) (e := e) (s := s) (m := m) (below := below) (meth := meth) (c := c) ⟨B.exec, B.bytes, hml, hown, hts, B.notSynchronized, B.returns, rfl, hK, hZ⟩
  unfold jm_Ql at hJ
  exact hJ _ _ _ hP hD va_S.rf hl
theorem jm_Mv_of {out : jm_S} {y : MethodName} {cc : ByteArray} {nL lv : Nat} {rt : Option FieldType} {As : List Value} (hy : plainName y.cls = true ∧ y.cls = RX6 ∧ (lg_sl (.ref (ad 0) :: As)).length ≤ nL)
    (body : ∀ {p : Program} {e : Env} {s : State} {m : MethodId} {args : Array Value} {below : List Frame} {meth : Method} {c : Code}, jm_Ok p (jx_rm lv) s m args meth c A D ck ad sa cc nL rt lv → jm_J p l e (jx_rm lv) s m args below meth c A D ck ad nL (jm_Qv below args s A D ck ad sa out) 0 (lv_args 0 (.ref (ad 0) :: As)) [] S) : jm_Mv l D ck ad sa A y cc nL rt lv As S out := by
  unfold jm_Mv
  refine Met.ofW (cc := cc) (maxL := nL) (ret := rt) hy.1 rfl ?_
  intro p e s m args below meth c s₁ B hml hv
  obtain ⟨rfl, hP, hK, hD, hZ⟩ := hv
  have hts := atoms_spec (ws := ws_ y cc nL rt) B.pre
  have hts : ∀ w ∈ lw_all, w.before _ s = true := fun w h => hts w (List.mem_cons_of_mem _ h)
  have hown : s.vm.findClass RX6 = some m.cls := by
    have h := findClass_of_methodNamed B.named
    rw [hy.2.1] at h
    exact h
  have hl := lv_entry (.ref (ad 0) :: As) (n := nL) hy.2.2
  rw [lg_entry_eq]
  have hJ := body (p := p) (e := e) (s := s) (m := m) (below := below) (meth := meth) (c := c) ⟨B.exec, B.bytes, hml, hown, hts, B.notSynchronized, B.returns, rfl, hK, hZ⟩
  unfold jm_Qv at hJ
  exact hJ _ _ _ hP hD va_S.rf hl
end

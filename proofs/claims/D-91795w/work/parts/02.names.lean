set_option maxRecDepth 100000
/-! JumpFenceLaw -/
def RX0 : String := "JumpFenceLaw"
abbrev cX0_load : ByteArray := method_3_code
def yX0_load : MethodName := ⟨RX0, "load", "(LJumpFence;[J)I"⟩
abbrev cX0_order : ByteArray := method_4_code
def yX0_order : MethodName := ⟨RX0, "order", "(LJumpFence;II[J)I"⟩
abbrev cX0_grade : ByteArray := method_5_code
def yX0_grade : MethodName := ⟨RX0, "grade", "(LJumpFence;II[J)I"⟩
abbrev cX0_ticks : ByteArray := method_6_code
def yX0_ticks : MethodName := ⟨RX0, "ticks", "(LJumpFence;II)I"⟩
abbrev cX0_landings : ByteArray := method_7_code
def yX0_landings : MethodName := ⟨RX0, "landings", "(LJumpFence;IZ[J)I"⟩
abbrev cX0_lets : ByteArray := method_8_code
def yX0_lets : MethodName := ⟨RX0, "lets", "(LJumpFence;I[J)I"⟩
abbrev cX0_holds : ByteArray := method_9_code
def yX0_holds : MethodName := ⟨RX0, "holds", "(LJumpFence;I[J)I"⟩
abbrev cX0_odd : ByteArray := method_10_code
def yX0_odd : MethodName := ⟨RX0, "odd", "(LJumpFence;I[J)I"⟩
abbrev cX0_bend : ByteArray := method_11_code
def yX0_bend : MethodName := ⟨RX0, "bend", "(LJumpFence;III[J)I"⟩
abbrev cX0_run : ByteArray := method_12_code
def yX0_run : MethodName := ⟨RX0, "run", "(LJumpFence;ZI[J)I"⟩
abbrev cX0_cell : ByteArray := method_13_code
def yX0_cell : MethodName := ⟨RX0, "cell", "(LJumpFence;ZI[J)I"⟩
abbrev cX0_power : ByteArray := method_14_code
def yX0_power : MethodName := ⟨RX0, "power", "(LJumpFence;IZ[J)I"⟩
abbrev cX0_harm : ByteArray := method_15_code
def yX0_harm : MethodName := ⟨RX0, "harm", "(LJumpFence;I[J)I"⟩
abbrev cX0_reach : ByteArray := method_16_code
def yX0_reach : MethodName := ⟨RX0, "reach", "(LJumpFence;II[J)I"⟩
abbrev cX0_row : ByteArray := method_17_code
def yX0_row : MethodName := ⟨RX0, "row", "(LJumpFence;III[J)I"⟩
abbrev cX0_closed : ByteArray := method_18_code
def yX0_closed : MethodName := ⟨RX0, "closed", "(LJumpFence;I[J)I"⟩
abbrev cX0_least : ByteArray := method_19_code
def yX0_least : MethodName := ⟨RX0, "least", "(LJumpFence;III[J)I"⟩
abbrev cX0_joined : ByteArray := method_20_code
def yX0_joined : MethodName := ⟨RX0, "joined", "(LJumpFence;I[J)I"⟩
abbrev cX0_fence : ByteArray := method_21_code
def yX0_fence : MethodName := ⟨RX0, "fence", "(LJumpFence;IIJI[J)I"⟩
abbrev cX0_late : ByteArray := method_22_code
def yX0_late : MethodName := ⟨RX0, "late", "(LJumpFence;I[J)I"⟩
theorem q101 : (Jvm.Cond.initialized "JumpFenceLaw") ∈ lw_all := lw_g (lw_at lw_m1 0 rfl) rfl
theorem q137 : (Jvm.Cond.classLink "JumpFenceLaw" (8 : Nat) "JumpFence") ∈ lw_all := lw_g (lw_at lw_m1 36 rfl) rfl
theorem q139 : (Jvm.Cond.methodLink "JumpFenceLaw" (91 : Nat) ({ cls := "JumpFence", name := "<init>", desc := "()V" } : Jvm.MethodName)) ∈ lw_all := lw_g (lw_at lw_m1 38 rfl) rfl
theorem q503 : (Jvm.Cond.methodLink "JumpFenceLaw" (95 : Nat) ({ cls := "JumpFence", name := "feed", desc := "(IIIII)I" } : Jvm.MethodName)) ∈ lw_all := lw_g (lw_at lw_m2 162 rfl) rfl
theorem q511 : (Jvm.Cond.methodLink "JumpFenceLaw" (100 : Nat) ({ cls := "JumpFence", name := "end", desc := "(I)Z" } : Jvm.MethodName)) ∈ lw_all := lw_g (lw_at lw_m2 170 rfl) rfl
theorem q518 : (Jvm.Cond.methodLink "JumpFenceLaw" (113 : Nat) ({ cls := "JumpFence", name := "fault", desc := "()I" } : Jvm.MethodName)) ∈ lw_all := lw_g (lw_at lw_m2 177 rfl) rfl
theorem q522 : (Jvm.Cond.methodLink "JumpFenceLaw" (146 : Nat) ({ cls := "JumpFence", name := "straight", desc := "()I" } : Jvm.MethodName)) ∈ lw_all := lw_g (lw_at lw_m2 181 rfl) rfl
theorem q526 : (Jvm.Cond.methodLink "JumpFenceLaw" (154 : Nat) ({ cls := "JumpFence", name := "step", desc := "(ZI)I" } : Jvm.MethodName)) ∈ lw_all := lw_g (lw_at lw_m2 185 rfl) rfl
theorem q682 : (Jvm.Cond.methodLink "JumpFenceLaw" (158 : Nat) ({ cls := "JumpFence", name := "said", desc := "(ZI)I" } : Jvm.MethodName)) ∈ lw_all := lw_g (lw_at lw_m3 101 rfl) rfl
theorem q687 : (Jvm.Cond.methodLink "JumpFenceLaw" (183 : Nat) ({ cls := "JumpFence", name := "marks", desc := "()I" } : Jvm.MethodName)) ∈ lw_all := lw_g (lw_at lw_m3 106 rfl) rfl
theorem q721 : (Jvm.Cond.methodLink "JumpFenceLaw" (199 : Nat) ({ cls := "JumpFence", name := "judge", desc := "()I" } : Jvm.MethodName)) ∈ lw_all := lw_g (lw_at lw_m3 140 rfl) rfl
theorem q725 : (Jvm.Cond.methodLink "JumpFenceLaw" (203 : Nat) ({ cls := "JumpFence", name := "image", desc := "()V" } : Jvm.MethodName)) ∈ lw_all := lw_g (lw_at lw_m3 144 rfl) rfl
theorem q851 : (Jvm.Cond.methodLink "JumpFenceLaw" (207 : Nat) ({ cls := "JumpFence", name := "back", desc := "()Z" } : Jvm.MethodName)) ∈ lw_all := lw_g (lw_at lw_m4 30 rfl) rfl
theorem q855 : (Jvm.Cond.methodLink "JumpFenceLaw" (212 : Nat) ({ cls := "JumpFence", name := "count", desc := "(I)I" } : Jvm.MethodName)) ∈ lw_all := lw_g (lw_at lw_m4 34 rfl) rfl
theorem q939 : (Jvm.Cond.methodLink "JumpFenceLaw" (104 : Nat) ({ cls := "JumpFenceLaw", name := "load", desc := "(LJumpFence;[J)I" } : Jvm.MethodName)) ∈ lw_all := lw_g (lw_at lw_m4 118 rfl) rfl
theorem q940 : (Jvm.Cond.static ({ cls := "JumpFenceLaw", name := "load", desc := "(LJumpFence;[J)I" } : Jvm.MethodName)) ∈ lw_all := lw_g (lw_at lw_m4 119 rfl) rfl
theorem q941 : (Jvm.Cond.codeWith ({ cls := "JumpFenceLaw", name := "load", desc := "(LJumpFence;[J)I" } : Jvm.MethodName) method_3_code (3 : Nat) (Option.some Jvm.ClassFile.FieldType.int) [((0 : Nat), (8 : Nat), (11 : Nat), (13 : Nat))]) ∈ lw_all := lw_g (lw_at lw_m4 120 rfl) rfl
theorem q942 : (Jvm.Cond.classLink "JumpFenceLaw" (13 : Nat) "java/lang/IllegalArgumentException") ∈ lw_all := lw_g (lw_at lw_m4 121 rfl) rfl
theorem q943 : (Jvm.Cond.methodLink "JumpFenceLaw" (7 : Nat) ({ cls := "JumpFence", name := "load", desc := "()I" } : Jvm.MethodName)) ∈ lw_all := lw_g (lw_at lw_m4 122 rfl) rfl
theorem q1234 : (Jvm.Cond.methodLink "JumpFenceLaw" (117 : Nat) ({ cls := "JumpFenceLaw", name := "order", desc := "(LJumpFence;II[J)I" } : Jvm.MethodName)) ∈ lw_all := lw_g (lw_at lw_m5 173 rfl) rfl
theorem q1235 : (Jvm.Cond.static ({ cls := "JumpFenceLaw", name := "order", desc := "(LJumpFence;II[J)I" } : Jvm.MethodName)) ∈ lw_all := lw_g (lw_at lw_m5 174 rfl) rfl
theorem q1236 : (Jvm.Cond.codeWith ({ cls := "JumpFenceLaw", name := "order", desc := "(LJumpFence;II[J)I" } : Jvm.MethodName) method_4_code (5 : Nat) (Option.some Jvm.ClassFile.FieldType.int) [((0 : Nat), (10 : Nat), (13 : Nat), (19 : Nat)), ((0 : Nat), (10 : Nat), (17 : Nat), (21 : Nat))]) ∈ lw_all := lw_g (lw_at lw_m5 175 rfl) rfl
theorem q1237 : (Jvm.Cond.classLink "JumpFenceLaw" (19 : Nat) "java/lang/IndexOutOfBoundsException") ∈ lw_all := lw_g (lw_at lw_m5 176 rfl) rfl
theorem q1269 : (Jvm.Cond.classLink "JumpFenceLaw" (21 : Nat) "java/util/NoSuchElementException") ∈ lw_all := lw_g (lw_at lw_m5 208 rfl) rfl
theorem q1270 : (Jvm.Cond.methodLink "JumpFenceLaw" (15 : Nat) ({ cls := "JumpFence", name := "order", desc := "(II)I" } : Jvm.MethodName)) ∈ lw_all := lw_g (lw_at lw_m5 209 rfl) rfl
theorem q1313 : (Jvm.Cond.methodLink "JumpFenceLaw" (121 : Nat) ({ cls := "JumpFenceLaw", name := "grade", desc := "(LJumpFence;II[J)I" } : Jvm.MethodName)) ∈ lw_all := lw_g (lw_at lw_m6 12 rfl) rfl
theorem q1314 : (Jvm.Cond.static ({ cls := "JumpFenceLaw", name := "grade", desc := "(LJumpFence;II[J)I" } : Jvm.MethodName)) ∈ lw_all := lw_g (lw_at lw_m6 13 rfl) rfl
theorem q1315 : (Jvm.Cond.codeWith ({ cls := "JumpFenceLaw", name := "grade", desc := "(LJumpFence;II[J)I" } : Jvm.MethodName) method_5_code (5 : Nat) (Option.some Jvm.ClassFile.FieldType.int) [((0 : Nat), (17 : Nat), (20 : Nat), (19 : Nat)), ((0 : Nat), (17 : Nat), (24 : Nat), (27 : Nat)), ((0 : Nat), (17 : Nat), (28 : Nat), (13 : Nat))]) ∈ lw_all := lw_g (lw_at lw_m6 14 rfl) rfl
theorem q1316 : (Jvm.Cond.classLink "JumpFenceLaw" (27 : Nat) "java/lang/ClassCastException") ∈ lw_all := lw_g (lw_at lw_m6 15 rfl) rfl
theorem q1330 : (Jvm.Cond.methodLink "JumpFenceLaw" (23 : Nat) ({ cls := "JumpFence", name := "grade", desc := "(II)Z" } : Jvm.MethodName)) ∈ lw_all := lw_g (lw_at lw_m6 29 rfl) rfl
theorem q1346 : (Jvm.Cond.methodLink "JumpFenceLaw" (124 : Nat) ({ cls := "JumpFenceLaw", name := "ticks", desc := "(LJumpFence;II)I" } : Jvm.MethodName)) ∈ lw_all := lw_g (lw_at lw_m6 45 rfl) rfl
theorem q1347 : (Jvm.Cond.static ({ cls := "JumpFenceLaw", name := "ticks", desc := "(LJumpFence;II)I" } : Jvm.MethodName)) ∈ lw_all := lw_g (lw_at lw_m6 46 rfl) rfl
theorem q1348 : (Jvm.Cond.codeWith ({ cls := "JumpFenceLaw", name := "ticks", desc := "(LJumpFence;II)I" } : Jvm.MethodName) method_6_code (4 : Nat) (Option.some Jvm.ClassFile.FieldType.int) [((0 : Nat), (6 : Nat), (9 : Nat), (13 : Nat))]) ∈ lw_all := lw_g (lw_at lw_m6 47 rfl) rfl
theorem q1349 : (Jvm.Cond.methodLink "JumpFenceLaw" (29 : Nat) ({ cls := "JumpFence", name := "ticks", desc := "(II)V" } : Jvm.MethodName)) ∈ lw_all := lw_g (lw_at lw_m6 48 rfl) rfl
theorem q1353 : (Jvm.Cond.methodLink "JumpFenceLaw" (128 : Nat) ({ cls := "JumpFenceLaw", name := "landings", desc := "(LJumpFence;IZ[J)I" } : Jvm.MethodName)) ∈ lw_all := lw_g (lw_at lw_m6 52 rfl) rfl
theorem q1354 : (Jvm.Cond.static ({ cls := "JumpFenceLaw", name := "landings", desc := "(LJumpFence;IZ[J)I" } : Jvm.MethodName)) ∈ lw_all := lw_g (lw_at lw_m6 53 rfl) rfl
theorem q1355 : (Jvm.Cond.codeWith ({ cls := "JumpFenceLaw", name := "landings", desc := "(LJumpFence;IZ[J)I" } : Jvm.MethodName) method_7_code (5 : Nat) (Option.some Jvm.ClassFile.FieldType.int) [((0 : Nat), (9 : Nat), (12 : Nat), (19 : Nat)), ((0 : Nat), (9 : Nat), (16 : Nat), (27 : Nat))]) ∈ lw_all := lw_g (lw_at lw_m6 54 rfl) rfl
theorem q1356 : (Jvm.Cond.methodLink "JumpFenceLaw" (33 : Nat) ({ cls := "JumpFence", name := "landings", desc := "(IZ)J" } : Jvm.MethodName)) ∈ lw_all := lw_g (lw_at lw_m6 55 rfl) rfl
theorem q1360 : (Jvm.Cond.methodLink "JumpFenceLaw" (132 : Nat) ({ cls := "JumpFenceLaw", name := "lets", desc := "(LJumpFence;I[J)I" } : Jvm.MethodName)) ∈ lw_all := lw_g (lw_at lw_m6 59 rfl) rfl
theorem q1361 : (Jvm.Cond.static ({ cls := "JumpFenceLaw", name := "lets", desc := "(LJumpFence;I[J)I" } : Jvm.MethodName)) ∈ lw_all := lw_g (lw_at lw_m6 60 rfl) rfl
theorem q1362 : (Jvm.Cond.codeWith ({ cls := "JumpFenceLaw", name := "lets", desc := "(LJumpFence;I[J)I" } : Jvm.MethodName) method_8_code (4 : Nat) (Option.some Jvm.ClassFile.FieldType.int) [((0 : Nat), (8 : Nat), (11 : Nat), (19 : Nat)), ((0 : Nat), (8 : Nat), (14 : Nat), (27 : Nat))]) ∈ lw_all := lw_g (lw_at lw_m6 61 rfl) rfl
theorem q1363 : (Jvm.Cond.methodLink "JumpFenceLaw" (37 : Nat) ({ cls := "JumpFence", name := "lets", desc := "(I)J" } : Jvm.MethodName)) ∈ lw_all := lw_g (lw_at lw_m6 62 rfl) rfl
theorem q1367 : (Jvm.Cond.methodLink "JumpFenceLaw" (136 : Nat) ({ cls := "JumpFenceLaw", name := "holds", desc := "(LJumpFence;I[J)I" } : Jvm.MethodName)) ∈ lw_all := lw_g (lw_at lw_m6 66 rfl) rfl
theorem q1368 : (Jvm.Cond.static ({ cls := "JumpFenceLaw", name := "holds", desc := "(LJumpFence;I[J)I" } : Jvm.MethodName)) ∈ lw_all := lw_g (lw_at lw_m6 67 rfl) rfl
theorem q1369 : (Jvm.Cond.codeWith ({ cls := "JumpFenceLaw", name := "holds", desc := "(LJumpFence;I[J)I" } : Jvm.MethodName) method_9_code (4 : Nat) (Option.some Jvm.ClassFile.FieldType.int) [((0 : Nat), (8 : Nat), (11 : Nat), (19 : Nat))]) ∈ lw_all := lw_g (lw_at lw_m6 68 rfl) rfl
theorem q1370 : (Jvm.Cond.methodLink "JumpFenceLaw" (41 : Nat) ({ cls := "JumpFence", name := "holds", desc := "(I)J" } : Jvm.MethodName)) ∈ lw_all := lw_g (lw_at lw_m6 69 rfl) rfl
theorem q1377 : (Jvm.Cond.methodLink "JumpFenceLaw" (139 : Nat) ({ cls := "JumpFenceLaw", name := "odd", desc := "(LJumpFence;I[J)I" } : Jvm.MethodName)) ∈ lw_all := lw_g (lw_at lw_m6 76 rfl) rfl
theorem q1378 : (Jvm.Cond.static ({ cls := "JumpFenceLaw", name := "odd", desc := "(LJumpFence;I[J)I" } : Jvm.MethodName)) ∈ lw_all := lw_g (lw_at lw_m6 77 rfl) rfl
theorem q1379 : (Jvm.Cond.codeWith ({ cls := "JumpFenceLaw", name := "odd", desc := "(LJumpFence;I[J)I" } : Jvm.MethodName) method_10_code (4 : Nat) (Option.some Jvm.ClassFile.FieldType.int) [((0 : Nat), (16 : Nat), (19 : Nat), (19 : Nat))]) ∈ lw_all := lw_g (lw_at lw_m6 78 rfl) rfl
theorem q1380 : (Jvm.Cond.methodLink "JumpFenceLaw" (44 : Nat) ({ cls := "JumpFence", name := "odd", desc := "(I)Z" } : Jvm.MethodName)) ∈ lw_all := lw_g (lw_at lw_m6 79 rfl) rfl
theorem q1384 : (Jvm.Cond.methodLink "JumpFenceLaw" (142 : Nat) ({ cls := "JumpFenceLaw", name := "bend", desc := "(LJumpFence;III[J)I" } : Jvm.MethodName)) ∈ lw_all := lw_g (lw_at lw_m6 83 rfl) rfl
theorem q1385 : (Jvm.Cond.static ({ cls := "JumpFenceLaw", name := "bend", desc := "(LJumpFence;III[J)I" } : Jvm.MethodName)) ∈ lw_all := lw_g (lw_at lw_m6 84 rfl) rfl
theorem q1386 : (Jvm.Cond.codeWith ({ cls := "JumpFenceLaw", name := "bend", desc := "(LJumpFence;III[J)I" } : Jvm.MethodName) method_11_code (6 : Nat) (Option.some Jvm.ClassFile.FieldType.int) [((0 : Nat), (12 : Nat), (15 : Nat), (19 : Nat)), ((0 : Nat), (12 : Nat), (19 : Nat), (13 : Nat)), ((0 : Nat), (12 : Nat), (23 : Nat), (52 : Nat))]) ∈ lw_all := lw_g (lw_at lw_m6 85 rfl) rfl
theorem q1387 : (Jvm.Cond.classLink "JumpFenceLaw" (52 : Nat) "java/lang/UnsupportedOperationException") ∈ lw_all := lw_g (lw_at lw_m6 86 rfl) rfl
theorem q1388 : (Jvm.Cond.methodLink "JumpFenceLaw" (48 : Nat) ({ cls := "JumpFence", name := "bend", desc := "(III)I" } : Jvm.MethodName)) ∈ lw_all := lw_g (lw_at lw_m6 87 rfl) rfl
theorem q1410 : (Jvm.Cond.methodLink "JumpFenceLaw" (150 : Nat) ({ cls := "JumpFenceLaw", name := "run", desc := "(LJumpFence;ZI[J)I" } : Jvm.MethodName)) ∈ lw_all := lw_g (lw_at lw_m6 109 rfl) rfl
theorem q1411 : (Jvm.Cond.static ({ cls := "JumpFenceLaw", name := "run", desc := "(LJumpFence;ZI[J)I" } : Jvm.MethodName)) ∈ lw_all := lw_g (lw_at lw_m6 110 rfl) rfl
theorem q1412 : (Jvm.Cond.codeWith ({ cls := "JumpFenceLaw", name := "run", desc := "(LJumpFence;ZI[J)I" } : Jvm.MethodName) method_12_code (5 : Nat) (Option.some Jvm.ClassFile.FieldType.int) [((0 : Nat), (10 : Nat), (13 : Nat), (21 : Nat))]) ∈ lw_all := lw_g (lw_at lw_m6 111 rfl) rfl
theorem q1413 : (Jvm.Cond.methodLink "JumpFenceLaw" (54 : Nat) ({ cls := "JumpFence", name := "run", desc := "(ZI)I" } : Jvm.MethodName)) ∈ lw_all := lw_g (lw_at lw_m6 112 rfl) rfl
theorem q1420 : (Jvm.Cond.methodLink "JumpFenceLaw" (162 : Nat) ({ cls := "JumpFenceLaw", name := "cell", desc := "(LJumpFence;ZI[J)I" } : Jvm.MethodName)) ∈ lw_all := lw_g (lw_at lw_m6 119 rfl) rfl
theorem q1421 : (Jvm.Cond.static ({ cls := "JumpFenceLaw", name := "cell", desc := "(LJumpFence;ZI[J)I" } : Jvm.MethodName)) ∈ lw_all := lw_g (lw_at lw_m6 120 rfl) rfl
theorem q1422 : (Jvm.Cond.codeWith ({ cls := "JumpFenceLaw", name := "cell", desc := "(LJumpFence;ZI[J)I" } : Jvm.MethodName) method_13_code (5 : Nat) (Option.some Jvm.ClassFile.FieldType.int) [((0 : Nat), (10 : Nat), (13 : Nat), (19 : Nat))]) ∈ lw_all := lw_g (lw_at lw_m6 121 rfl) rfl
theorem q1423 : (Jvm.Cond.methodLink "JumpFenceLaw" (58 : Nat) ({ cls := "JumpFence", name := "cell", desc := "(ZI)I" } : Jvm.MethodName)) ∈ lw_all := lw_g (lw_at lw_m6 122 rfl) rfl
theorem q1427 : (Jvm.Cond.methodLink "JumpFenceLaw" (165 : Nat) ({ cls := "JumpFenceLaw", name := "power", desc := "(LJumpFence;IZ[J)I" } : Jvm.MethodName)) ∈ lw_all := lw_g (lw_at lw_m6 126 rfl) rfl
theorem q1428 : (Jvm.Cond.static ({ cls := "JumpFenceLaw", name := "power", desc := "(LJumpFence;IZ[J)I" } : Jvm.MethodName)) ∈ lw_all := lw_g (lw_at lw_m6 127 rfl) rfl
theorem q1429 : (Jvm.Cond.codeWith ({ cls := "JumpFenceLaw", name := "power", desc := "(LJumpFence;IZ[J)I" } : Jvm.MethodName) method_14_code (5 : Nat) (Option.some Jvm.ClassFile.FieldType.int) [((0 : Nat), (10 : Nat), (13 : Nat), (13 : Nat)), ((0 : Nat), (10 : Nat), (17 : Nat), (52 : Nat))]) ∈ lw_all := lw_g (lw_at lw_m6 128 rfl) rfl
theorem q1430 : (Jvm.Cond.methodLink "JumpFenceLaw" (61 : Nat) ({ cls := "JumpFence", name := "power", desc := "(IZ)I" } : Jvm.MethodName)) ∈ lw_all := lw_g (lw_at lw_m6 129 rfl) rfl
theorem q1435 : (Jvm.Cond.methodLink "JumpFenceLaw" (168 : Nat) ({ cls := "JumpFenceLaw", name := "harm", desc := "(LJumpFence;I[J)I" } : Jvm.MethodName)) ∈ lw_all := lw_g (lw_at lw_m6 134 rfl) rfl
theorem q1436 : (Jvm.Cond.static ({ cls := "JumpFenceLaw", name := "harm", desc := "(LJumpFence;I[J)I" } : Jvm.MethodName)) ∈ lw_all := lw_g (lw_at lw_m6 135 rfl) rfl
theorem q1437 : (Jvm.Cond.codeWith ({ cls := "JumpFenceLaw", name := "harm", desc := "(LJumpFence;I[J)I" } : Jvm.MethodName) method_15_code (4 : Nat) (Option.some Jvm.ClassFile.FieldType.int) [((0 : Nat), (9 : Nat), (12 : Nat), (13 : Nat)), ((0 : Nat), (9 : Nat), (15 : Nat), (52 : Nat))]) ∈ lw_all := lw_g (lw_at lw_m6 136 rfl) rfl
theorem q1438 : (Jvm.Cond.methodLink "JumpFenceLaw" (65 : Nat) ({ cls := "JumpFence", name := "harm", desc := "(I)I" } : Jvm.MethodName)) ∈ lw_all := lw_g (lw_at lw_m6 137 rfl) rfl
theorem q1442 : (Jvm.Cond.methodLink "JumpFenceLaw" (171 : Nat) ({ cls := "JumpFenceLaw", name := "reach", desc := "(LJumpFence;II[J)I" } : Jvm.MethodName)) ∈ lw_all := lw_g (lw_at lw_m6 141 rfl) rfl
theorem q1443 : (Jvm.Cond.static ({ cls := "JumpFenceLaw", name := "reach", desc := "(LJumpFence;II[J)I" } : Jvm.MethodName)) ∈ lw_all := lw_g (lw_at lw_m6 142 rfl) rfl
theorem q1444 : (Jvm.Cond.codeWith ({ cls := "JumpFenceLaw", name := "reach", desc := "(LJumpFence;II[J)I" } : Jvm.MethodName) method_16_code (5 : Nat) (Option.some Jvm.ClassFile.FieldType.int) [((0 : Nat), (10 : Nat), (13 : Nat), (19 : Nat))]) ∈ lw_all := lw_g (lw_at lw_m6 143 rfl) rfl
theorem q1445 : (Jvm.Cond.methodLink "JumpFenceLaw" (69 : Nat) ({ cls := "JumpFence", name := "reach", desc := "(II)I" } : Jvm.MethodName)) ∈ lw_all := lw_g (lw_at lw_m6 144 rfl) rfl
theorem q1457 : (Jvm.Cond.methodLink "JumpFenceLaw" (174 : Nat) ({ cls := "JumpFenceLaw", name := "row", desc := "(LJumpFence;III[J)I" } : Jvm.MethodName)) ∈ lw_all := lw_g (lw_at lw_m6 156 rfl) rfl
theorem q1458 : (Jvm.Cond.static ({ cls := "JumpFenceLaw", name := "row", desc := "(LJumpFence;III[J)I" } : Jvm.MethodName)) ∈ lw_all := lw_g (lw_at lw_m6 157 rfl) rfl
theorem q1459 : (Jvm.Cond.codeWith ({ cls := "JumpFenceLaw", name := "row", desc := "(LJumpFence;III[J)I" } : Jvm.MethodName) method_17_code (6 : Nat) (Option.some Jvm.ClassFile.FieldType.int) [((0 : Nat), (12 : Nat), (15 : Nat), (19 : Nat))]) ∈ lw_all := lw_g (lw_at lw_m6 158 rfl) rfl
theorem q1460 : (Jvm.Cond.methodLink "JumpFenceLaw" (72 : Nat) ({ cls := "JumpFence", name := "row", desc := "(III)I" } : Jvm.MethodName)) ∈ lw_all := lw_g (lw_at lw_m6 159 rfl) rfl
theorem q1464 : (Jvm.Cond.methodLink "JumpFenceLaw" (177 : Nat) ({ cls := "JumpFenceLaw", name := "closed", desc := "(LJumpFence;I[J)I" } : Jvm.MethodName)) ∈ lw_all := lw_g (lw_at lw_m6 163 rfl) rfl
theorem q1465 : (Jvm.Cond.static ({ cls := "JumpFenceLaw", name := "closed", desc := "(LJumpFence;I[J)I" } : Jvm.MethodName)) ∈ lw_all := lw_g (lw_at lw_m6 164 rfl) rfl
theorem q1466 : (Jvm.Cond.codeWith ({ cls := "JumpFenceLaw", name := "closed", desc := "(LJumpFence;I[J)I" } : Jvm.MethodName) method_18_code (4 : Nat) (Option.some Jvm.ClassFile.FieldType.int) [((0 : Nat), (8 : Nat), (11 : Nat), (19 : Nat))]) ∈ lw_all := lw_g (lw_at lw_m6 165 rfl) rfl
theorem q1467 : (Jvm.Cond.methodLink "JumpFenceLaw" (75 : Nat) ({ cls := "JumpFence", name := "closed", desc := "(I)J" } : Jvm.MethodName)) ∈ lw_all := lw_g (lw_at lw_m6 166 rfl) rfl
theorem q1476 : (Jvm.Cond.methodLink "JumpFenceLaw" (180 : Nat) ({ cls := "JumpFenceLaw", name := "least", desc := "(LJumpFence;III[J)I" } : Jvm.MethodName)) ∈ lw_all := lw_g (lw_at lw_m6 175 rfl) rfl
theorem q1477 : (Jvm.Cond.static ({ cls := "JumpFenceLaw", name := "least", desc := "(LJumpFence;III[J)I" } : Jvm.MethodName)) ∈ lw_all := lw_g (lw_at lw_m6 176 rfl) rfl
theorem q1478 : (Jvm.Cond.codeWith ({ cls := "JumpFenceLaw", name := "least", desc := "(LJumpFence;III[J)I" } : Jvm.MethodName) method_19_code (6 : Nat) (Option.some Jvm.ClassFile.FieldType.int) [((0 : Nat), (12 : Nat), (15 : Nat), (19 : Nat))]) ∈ lw_all := lw_g (lw_at lw_m6 177 rfl) rfl
theorem q1479 : (Jvm.Cond.methodLink "JumpFenceLaw" (78 : Nat) ({ cls := "JumpFence", name := "least", desc := "(III)I" } : Jvm.MethodName)) ∈ lw_all := lw_g (lw_at lw_m6 178 rfl) rfl
theorem q1488 : (Jvm.Cond.methodLink "JumpFenceLaw" (187 : Nat) ({ cls := "JumpFenceLaw", name := "joined", desc := "(LJumpFence;I[J)I" } : Jvm.MethodName)) ∈ lw_all := lw_g (lw_at lw_m6 187 rfl) rfl
theorem q1489 : (Jvm.Cond.static ({ cls := "JumpFenceLaw", name := "joined", desc := "(LJumpFence;I[J)I" } : Jvm.MethodName)) ∈ lw_all := lw_g (lw_at lw_m6 188 rfl) rfl
theorem q1490 : (Jvm.Cond.codeWith ({ cls := "JumpFenceLaw", name := "joined", desc := "(LJumpFence;I[J)I" } : Jvm.MethodName) method_20_code (4 : Nat) (Option.some Jvm.ClassFile.FieldType.int) [((0 : Nat), (9 : Nat), (12 : Nat), (13 : Nat))]) ∈ lw_all := lw_g (lw_at lw_m6 189 rfl) rfl
theorem q1491 : (Jvm.Cond.methodLink "JumpFenceLaw" (81 : Nat) ({ cls := "JumpFence", name := "joined", desc := "(I)I" } : Jvm.MethodName)) ∈ lw_all := lw_g (lw_at lw_m6 190 rfl) rfl
theorem q1509 : (Jvm.Cond.methodLink "JumpFenceLaw" (192 : Nat) ({ cls := "JumpFenceLaw", name := "fence", desc := "(LJumpFence;IIJI[J)I" } : Jvm.MethodName)) ∈ lw_all := lw_g (lw_at lw_m6 208 rfl) rfl
theorem q1510 : (Jvm.Cond.static ({ cls := "JumpFenceLaw", name := "fence", desc := "(LJumpFence;IIJI[J)I" } : Jvm.MethodName)) ∈ lw_all := lw_g (lw_at lw_m6 209 rfl) rfl
theorem q1511 : (Jvm.Cond.codeWith ({ cls := "JumpFenceLaw", name := "fence", desc := "(LJumpFence;IIJI[J)I" } : Jvm.MethodName) method_21_code (8 : Nat) (Option.some Jvm.ClassFile.FieldType.int) [((0 : Nat), (14 : Nat), (17 : Nat), (19 : Nat)), ((0 : Nat), (14 : Nat), (21 : Nat), (13 : Nat))]) ∈ lw_all := lw_g (lw_at lw_m6 210 rfl) rfl
theorem q1512 : (Jvm.Cond.methodLink "JumpFenceLaw" (84 : Nat) ({ cls := "JumpFence", name := "fence", desc := "(IIJI)I" } : Jvm.MethodName)) ∈ lw_all := lw_g (lw_at lw_m6 211 rfl) rfl
theorem q1517 : (Jvm.Cond.methodLink "JumpFenceLaw" (196 : Nat) ({ cls := "JumpFenceLaw", name := "late", desc := "(LJumpFence;I[J)I" } : Jvm.MethodName)) ∈ lw_all := lw_g (lw_at lw_m6 216 rfl) rfl
theorem q1518 : (Jvm.Cond.static ({ cls := "JumpFenceLaw", name := "late", desc := "(LJumpFence;I[J)I" } : Jvm.MethodName)) ∈ lw_all := lw_g (lw_at lw_m6 217 rfl) rfl
theorem q1519 : (Jvm.Cond.codeWith ({ cls := "JumpFenceLaw", name := "late", desc := "(LJumpFence;I[J)I" } : Jvm.MethodName) method_22_code (4 : Nat) (Option.some Jvm.ClassFile.FieldType.int) [((0 : Nat), (9 : Nat), (12 : Nat), (13 : Nat))]) ∈ lw_all := lw_g (lw_at lw_m6 218 rfl) rfl
theorem q1520 : (Jvm.Cond.methodLink "JumpFenceLaw" (88 : Nat) ({ cls := "JumpFence", name := "late", desc := "(I)I" } : Jvm.MethodName)) ∈ lw_all := lw_g (lw_at lw_m6 219 rfl) rfl
theorem q1527 : (Jvm.Cond.methodLink "JumpFenceLaw" (110 : Nat) ({ cls := "JumpFenceModel", name := "thrown", desc := "()I" } : Jvm.MethodName)) ∈ lw_all := lw_g (lw_at lw_m6 226 rfl) rfl
theorem q1531 : (Jvm.Cond.classLink "JumpFenceLaw" (92 : Nat) "JumpFenceModel") ∈ lw_all := lw_g (lw_at lw_m6 230 rfl) rfl
theorem q1533 : (Jvm.Cond.methodLink "JumpFenceLaw" (94 : Nat) ({ cls := "JumpFenceModel", name := "<init>", desc := "()V" } : Jvm.MethodName)) ∈ lw_all := lw_g (lw_at lw_m6 232 rfl) rfl
theorem q1688 : (Jvm.Cond.methodLink "JumpFenceLaw" (206 : Nat) ({ cls := "JumpFenceModel", name := "image", desc := "()V" } : Jvm.MethodName)) ∈ lw_all := lw_g (lw_at lw_m7 147 rfl) rfl
theorem q1692 : (Jvm.Cond.methodLink "JumpFenceLaw" (211 : Nat) ({ cls := "JumpFenceModel", name := "back", desc := "()Z" } : Jvm.MethodName)) ∈ lw_all := lw_g (lw_at lw_m7 151 rfl) rfl
theorem q1696 : (Jvm.Cond.methodLink "JumpFenceLaw" (99 : Nat) ({ cls := "JumpFenceModel", name := "feed", desc := "(IIIII)I" } : Jvm.MethodName)) ∈ lw_all := lw_g (lw_at lw_m7 155 rfl) rfl
theorem q1700 : (Jvm.Cond.methodLink "JumpFenceLaw" (103 : Nat) ({ cls := "JumpFenceModel", name := "end", desc := "(I)Z" } : Jvm.MethodName)) ∈ lw_all := lw_g (lw_at lw_m7 159 rfl) rfl
theorem q1704 : (Jvm.Cond.methodLink "JumpFenceLaw" (116 : Nat) ({ cls := "JumpFenceModel", name := "fault", desc := "()I" } : Jvm.MethodName)) ∈ lw_all := lw_g (lw_at lw_m7 163 rfl) rfl
theorem q1708 : (Jvm.Cond.methodLink "JumpFenceLaw" (109 : Nat) ({ cls := "JumpFenceModel", name := "load", desc := "()I" } : Jvm.MethodName)) ∈ lw_all := lw_g (lw_at lw_m7 167 rfl) rfl
theorem q1808 : (Jvm.Cond.methodLink "JumpFenceLaw" (120 : Nat) ({ cls := "JumpFenceModel", name := "order", desc := "(II)I" } : Jvm.MethodName)) ∈ lw_all := lw_g (lw_at lw_m8 27 rfl) rfl
theorem q1823 : (Jvm.Cond.methodLink "JumpFenceLaw" (123 : Nat) ({ cls := "JumpFenceModel", name := "grade", desc := "(II)Z" } : Jvm.MethodName)) ∈ lw_all := lw_g (lw_at lw_m8 42 rfl) rfl
theorem q1835 : (Jvm.Cond.methodLink "JumpFenceLaw" (127 : Nat) ({ cls := "JumpFenceModel", name := "ticks", desc := "(II)V" } : Jvm.MethodName)) ∈ lw_all := lw_g (lw_at lw_m8 54 rfl) rfl
theorem q1839 : (Jvm.Cond.methodLink "JumpFenceLaw" (131 : Nat) ({ cls := "JumpFenceModel", name := "landings", desc := "(IZ)J" } : Jvm.MethodName)) ∈ lw_all := lw_g (lw_at lw_m8 58 rfl) rfl
theorem q1883 : (Jvm.Cond.methodLink "JumpFenceLaw" (135 : Nat) ({ cls := "JumpFenceModel", name := "lets", desc := "(I)J" } : Jvm.MethodName)) ∈ lw_all := lw_g (lw_at lw_m8 102 rfl) rfl
theorem q1891 : (Jvm.Cond.methodLink "JumpFenceLaw" (138 : Nat) ({ cls := "JumpFenceModel", name := "holds", desc := "(I)J" } : Jvm.MethodName)) ∈ lw_all := lw_g (lw_at lw_m8 110 rfl) rfl
theorem q1898 : (Jvm.Cond.methodLink "JumpFenceLaw" (141 : Nat) ({ cls := "JumpFenceModel", name := "odd", desc := "(I)Z" } : Jvm.MethodName)) ∈ lw_all := lw_g (lw_at lw_m8 117 rfl) rfl
theorem q1902 : (Jvm.Cond.methodLink "JumpFenceLaw" (145 : Nat) ({ cls := "JumpFenceModel", name := "bend", desc := "(III)I" } : Jvm.MethodName)) ∈ lw_all := lw_g (lw_at lw_m8 121 rfl) rfl
theorem q1906 : (Jvm.Cond.methodLink "JumpFenceLaw" (149 : Nat) ({ cls := "JumpFenceModel", name := "straight", desc := "()I" } : Jvm.MethodName)) ∈ lw_all := lw_g (lw_at lw_m8 125 rfl) rfl
theorem q1910 : (Jvm.Cond.methodLink "JumpFenceLaw" (153 : Nat) ({ cls := "JumpFenceModel", name := "run", desc := "(ZI)I" } : Jvm.MethodName)) ∈ lw_all := lw_g (lw_at lw_m8 129 rfl) rfl
theorem q1967 : (Jvm.Cond.methodLink "JumpFenceLaw" (157 : Nat) ({ cls := "JumpFenceModel", name := "step", desc := "(ZI)I" } : Jvm.MethodName)) ∈ lw_all := lw_g (lw_at lw_m8 186 rfl) rfl
theorem q1971 : (Jvm.Cond.methodLink "JumpFenceLaw" (161 : Nat) ({ cls := "JumpFenceModel", name := "said", desc := "(ZI)I" } : Jvm.MethodName)) ∈ lw_all := lw_g (lw_at lw_m8 190 rfl) rfl
theorem q1976 : (Jvm.Cond.methodLink "JumpFenceLaw" (164 : Nat) ({ cls := "JumpFenceModel", name := "cell", desc := "(ZI)I" } : Jvm.MethodName)) ∈ lw_all := lw_g (lw_at lw_m8 195 rfl) rfl
theorem q1980 : (Jvm.Cond.methodLink "JumpFenceLaw" (167 : Nat) ({ cls := "JumpFenceModel", name := "power", desc := "(IZ)I" } : Jvm.MethodName)) ∈ lw_all := lw_g (lw_at lw_m8 199 rfl) rfl
theorem q1985 : (Jvm.Cond.methodLink "JumpFenceLaw" (170 : Nat) ({ cls := "JumpFenceModel", name := "harm", desc := "(I)I" } : Jvm.MethodName)) ∈ lw_all := lw_g (lw_at lw_m8 204 rfl) rfl
theorem q1989 : (Jvm.Cond.methodLink "JumpFenceLaw" (179 : Nat) ({ cls := "JumpFenceModel", name := "closed", desc := "(I)J" } : Jvm.MethodName)) ∈ lw_all := lw_g (lw_at lw_m8 208 rfl) rfl
theorem q2021 : (Jvm.Cond.methodLink "JumpFenceLaw" (173 : Nat) ({ cls := "JumpFenceModel", name := "reach", desc := "(II)I" } : Jvm.MethodName)) ∈ lw_all := lw_g (lw_at lw_m9 0 rfl) rfl
theorem q2057 : (Jvm.Cond.methodLink "JumpFenceLaw" (176 : Nat) ({ cls := "JumpFenceModel", name := "row", desc := "(III)I" } : Jvm.MethodName)) ∈ lw_all := lw_g (lw_at lw_m9 36 rfl) rfl
theorem q2061 : (Jvm.Cond.methodLink "JumpFenceLaw" (182 : Nat) ({ cls := "JumpFenceModel", name := "least", desc := "(III)I" } : Jvm.MethodName)) ∈ lw_all := lw_g (lw_at lw_m9 40 rfl) rfl
theorem q2073 : (Jvm.Cond.methodLink "JumpFenceLaw" (186 : Nat) ({ cls := "JumpFenceModel", name := "marks", desc := "()I" } : Jvm.MethodName)) ∈ lw_all := lw_g (lw_at lw_m9 52 rfl) rfl
theorem q2082 : (Jvm.Cond.methodLink "JumpFenceLaw" (189 : Nat) ({ cls := "JumpFenceModel", name := "joined", desc := "(I)I" } : Jvm.MethodName)) ∈ lw_all := lw_g (lw_at lw_m9 61 rfl) rfl
theorem q2091 : (Jvm.Cond.methodLink "JumpFenceLaw" (195 : Nat) ({ cls := "JumpFenceModel", name := "fence", desc := "(IIJI)I" } : Jvm.MethodName)) ∈ lw_all := lw_g (lw_at lw_m9 70 rfl) rfl
theorem q2096 : (Jvm.Cond.methodLink "JumpFenceLaw" (198 : Nat) ({ cls := "JumpFenceModel", name := "late", desc := "(I)I" } : Jvm.MethodName)) ∈ lw_all := lw_g (lw_at lw_m9 75 rfl) rfl
theorem q2100 : (Jvm.Cond.methodLink "JumpFenceLaw" (202 : Nat) ({ cls := "JumpFenceModel", name := "judge", desc := "()I" } : Jvm.MethodName)) ∈ lw_all := lw_g (lw_at lw_m9 79 rfl) rfl
theorem q2104 : (Jvm.Cond.methodLink "JumpFenceLaw" (215 : Nat) ({ cls := "JumpFenceModel", name := "count", desc := "(I)I" } : Jvm.MethodName)) ∈ lw_all := lw_g (lw_at lw_m9 83 rfl) rfl
theorem q2112 : (Jvm.Cond.constantLong "JumpFenceLaw" (190 : Nat) (4294967295 : Int64)) ∈ lw_all := lw_g (lw_at lw_m9 91 rfl) rfl

/-! JumpFence -/
def RX1 : String := "JumpFence"
def TX1 : u_T := fun k => match k with
  | 0 => ("JumpFence", "reader", "LJumpFence$Reader;", true)
  | 1 => ("JumpFence", "now", "LJumpFence$Program;", true)
  | 2 => ("JumpFence", "image", "LJumpFence$Program;", true)
  | 3 => ("JumpFence", "machine", "LJumpFence$Machine;", true)
  | 4 => ("JumpFence", "far", "[I", true)
  | 5 => ("JumpFence", "path", "[I", true)
  | 6 => ("JumpFence", "tryGrades", "[I", true)
  | 7 => ("JumpFence", "bestGrades", "[I", true)
  | 8 => ("JumpFence", "some", "[I", true)
  | 9 => ("JumpFence", "heap", "[I", true)
  | 10 => ("JumpFence", "pathMany", "I", false)
  | 11 => ("JumpFence", "someMany", "I", false)
  | 12 => ("JumpFence", "wrongAt", "I", false)
  | 13 => ("JumpFence", "least", "I", false)
  | 14 => ("JumpFence", "found", "Z", false)
  | _ => ("JumpFence", "kept", "Z", false)
def tyX1 : Nat → FieldType := fun k => match k with
  | 0 => .object "JumpFence$Reader"
  | 1 => .object "JumpFence$Program"
  | 2 => .object "JumpFence$Program"
  | 3 => .object "JumpFence$Machine"
  | 4 => .array .int
  | 5 => .array .int
  | 6 => .array .int
  | 7 => .array .int
  | 8 => .array .int
  | 9 => .array .int
  | 10 => .int
  | 11 => .int
  | 12 => .int
  | 13 => .int
  | 14 => .boolean
  | _ => .boolean
abbrev wsX10 : List Cond := u_ws RX1 TX1 16
set_option maxRecDepth 100000 in
theorem nmX1 : ∀ a, a < 16 → ∀ b, b < 16 → a ≠ b → (TX1 a).2.1 ≠ (TX1 b).2.1 := by decide +kernel
set_option maxRecDepth 100000 in
theorem tyX1_ok : ∀ k, k < 16 → parseFieldDescriptor (TX1 k).2.2.1 = some (tyX1 k) := by decide +kernel
abbrev cX1_init : ByteArray := prog_1_method_2_code
def yX1_init : MethodName := ⟨RX1, "<init>", "()V"⟩
abbrev cX1_feed : ByteArray := prog_1_method_14_code
def yX1_feed : MethodName := ⟨RX1, "feed", "(IIIII)I"⟩
abbrev cX1_four : ByteArray := prog_1_method_13_code
def yX1_four : MethodName := ⟨RX1, "four", "(I)V"⟩
abbrev cX1_end : ByteArray := prog_1_method_15_code
def yX1_end : MethodName := ⟨RX1, "end", "(I)Z"⟩
abbrev cX1_isIn : ByteArray := prog_1_method_7_code
def yX1_isIn : MethodName := ⟨RX1, "isIn", "(III)Z"⟩
abbrev cX1_fault : ByteArray := prog_1_method_17_code
def yX1_fault : MethodName := ⟨RX1, "fault", "()I"⟩
abbrev cX1_straight : ByteArray := prog_1_method_26_code
def yX1_straight : MethodName := ⟨RX1, "straight", "()I"⟩
abbrev cX1_step : ByteArray := prog_1_method_28_code
def yX1_step : MethodName := ⟨RX1, "step", "(ZI)I"⟩
abbrev cX1_said : ByteArray := prog_1_method_29_code
def yX1_said : MethodName := ⟨RX1, "said", "(ZI)I"⟩
abbrev cX1_marks : ByteArray := prog_1_method_45_code
def yX1_marks : MethodName := ⟨RX1, "marks", "()I"⟩
abbrev cX1_isGuarded : ByteArray := prog_1_method_43_code
def yX1_isGuarded : MethodName := ⟨RX1, "isGuarded", "(I)Z"⟩
abbrev cX1_bit : ByteArray := prog_1_method_1_code
def yX1_bit : MethodName := ⟨RX1, "bit", "(I)J"⟩
abbrev cX1_letsOf : ByteArray := prog_1_method_44_code
def yX1_letsOf : MethodName := ⟨RX1, "letsOf", "(I)J"⟩
abbrev cX1_judge : ByteArray := prog_1_method_51_code
def yX1_judge : MethodName := ⟨RX1, "judge", "()I"⟩
abbrev cX1_image : ByteArray := prog_1_method_52_code
def yX1_image : MethodName := ⟨RX1, "image", "()V"⟩
abbrev cX1_back : ByteArray := prog_1_method_53_code
def yX1_back : MethodName := ⟨RX1, "back", "()Z"⟩
abbrev cX1_count : ByteArray := prog_1_method_54_code
def yX1_count : MethodName := ⟨RX1, "count", "(I)I"⟩
abbrev cX1_reaches : ByteArray := prog_1_method_37_code
def yX1_reaches : MethodName := ⟨RX1, "reaches", "(II)I"⟩
abbrev cX1_finds : ByteArray := prog_1_method_33_code
def yX1_finds : MethodName := ⟨RX1, "finds", "(II)Z"⟩
abbrev cX1_tried : ByteArray := prog_1_method_36_code
def yX1_tried : MethodName := ⟨RX1, "tried", "(II)Z"⟩
abbrev cX1_bends : ByteArray := prog_1_method_35_code
def yX1_bends : MethodName := ⟨RX1, "bends", "(III)V"⟩
abbrev cX1_can : ByteArray := prog_1_method_34_code
def yX1_can : MethodName := ⟨RX1, "can", "(II)Z"⟩
abbrev cX1_load : ByteArray := prog_1_method_16_code
def yX1_load : MethodName := ⟨RX1, "load", "()I"⟩
abbrev cX1_order : ByteArray := prog_1_method_18_code
def yX1_order : MethodName := ⟨RX1, "order", "(II)I"⟩
abbrev cX1_orderAt : ByteArray := prog_1_method_8_code
def yX1_orderAt : MethodName := ⟨RX1, "orderAt", "(I)LJumpFence$Order;"⟩
abbrev cX1_mustBe : ByteArray := prog_1_method_5_code
def yX1_mustBe : MethodName := ⟨RX1, "mustBe", "(Z)V"⟩
abbrev cX1_grade : ByteArray := prog_1_method_19_code
def yX1_grade : MethodName := ⟨RX1, "grade", "(II)Z"⟩
abbrev cX1_isJump : ByteArray := prog_1_method_9_code
def yX1_isJump : MethodName := ⟨RX1, "isJump", "(I)V"⟩
abbrev cX1_must : ByteArray := prog_1_method_3_code
def yX1_must : MethodName := ⟨RX1, "must", "(Z)V"⟩
abbrev cX1_ticks : ByteArray := prog_1_method_20_code
def yX1_ticks : MethodName := ⟨RX1, "ticks", "(II)V"⟩
abbrev cX1_landings : ByteArray := prog_1_method_21_code
def yX1_landings : MethodName := ⟨RX1, "landings", "(IZ)J"⟩
abbrev cX1_lets : ByteArray := prog_1_method_22_code
def yX1_lets : MethodName := ⟨RX1, "lets", "(I)J"⟩
abbrev cX1_holds : ByteArray := prog_1_method_23_code
def yX1_holds : MethodName := ⟨RX1, "holds", "(I)J"⟩
abbrev cX1_isCell : ByteArray := prog_1_method_12_code
def yX1_isCell : MethodName := ⟨RX1, "isCell", "(II)V"⟩
abbrev cX1_odd : ByteArray := prog_1_method_24_code
def yX1_odd : MethodName := ⟨RX1, "odd", "(I)Z"⟩
abbrev cX1_bend : ByteArray := prog_1_method_25_code
def yX1_bend : MethodName := ⟨RX1, "bend", "(III)I"⟩
abbrev cX1_mayBe : ByteArray := prog_1_method_4_code
def yX1_mayBe : MethodName := ⟨RX1, "mayBe", "(Z)V"⟩
abbrev cX1_run : ByteArray := prog_1_method_27_code
def yX1_run : MethodName := ⟨RX1, "run", "(ZI)I"⟩
abbrev cX1_thereIs : ByteArray := prog_1_method_6_code
def yX1_thereIs : MethodName := ⟨RX1, "thereIs", "(Z)V"⟩
abbrev cX1_cell : ByteArray := prog_1_method_30_code
def yX1_cell : MethodName := ⟨RX1, "cell", "(ZI)I"⟩
abbrev cX1_power : ByteArray := prog_1_method_31_code
def yX1_power : MethodName := ⟨RX1, "power", "(IZ)I"⟩
abbrev cX1_harm : ByteArray := prog_1_method_32_code
def yX1_harm : MethodName := ⟨RX1, "harm", "(I)I"⟩
abbrev cX1_reach : ByteArray := prog_1_method_38_code
def yX1_reach : MethodName := ⟨RX1, "reach", "(II)I"⟩
abbrev cX1_isPower : ByteArray := prog_1_method_10_code
def yX1_isPower : MethodName := ⟨RX1, "isPower", "(I)V"⟩
abbrev cX1_isHarm : ByteArray := prog_1_method_11_code
def yX1_isHarm : MethodName := ⟨RX1, "isHarm", "(I)V"⟩
abbrev cX1_row : ByteArray := prog_1_method_39_code
def yX1_row : MethodName := ⟨RX1, "row", "(III)I"⟩
abbrev cX1_closed : ByteArray := prog_1_method_40_code
def yX1_closed : MethodName := ⟨RX1, "closed", "(I)J"⟩
abbrev cX1_least : ByteArray := prog_1_method_42_code
def yX1_least : MethodName := ⟨RX1, "least", "(III)I"⟩
abbrev cX1_chooses : ByteArray := prog_1_method_41_code
def yX1_chooses : MethodName := ⟨RX1, "chooses", "(IIJI)V"⟩
abbrev cX1_joined : ByteArray := prog_1_method_48_code
def yX1_joined : MethodName := ⟨RX1, "joined", "(I)I"⟩
abbrev cX1_parts : ByteArray := prog_1_method_46_code
def yX1_parts : MethodName := ⟨RX1, "parts", "(III)V"⟩
abbrev cX1_more : ByteArray := prog_1_method_47_code
def yX1_more : MethodName := ⟨RX1, "more", "(I)I"⟩
abbrev cX1_fence : ByteArray := prog_1_method_49_code
def yX1_fence : MethodName := ⟨RX1, "fence", "(IIJI)I"⟩
abbrev cX1_late : ByteArray := prog_1_method_50_code
def yX1_late : MethodName := ⟨RX1, "late", "(I)I"⟩
theorem q102 : (Jvm.Cond.initialized "JumpFence") ∈ lw_all := lw_g (lw_at lw_m1 1 rfl) rfl
theorem q138 : (Jvm.Cond.instantiable "JumpFence" (16 : Nat)) ∈ lw_all := lw_g (lw_at lw_m1 37 rfl) rfl
theorem q140 : (Jvm.Cond.instanceMethod ({ cls := "JumpFence", name := "<init>", desc := "()V" } : Jvm.MethodName)) ∈ lw_all := lw_g (lw_at lw_m1 39 rfl) rfl
theorem q141 : (Jvm.Cond.code ({ cls := "JumpFence", name := "<init>", desc := "()V" } : Jvm.MethodName) prog_1_method_2_code (1 : Nat) (Option.none : Option Jvm.ClassFile.FieldType)) ∈ lw_all := lw_g (lw_at lw_m1 40 rfl) rfl
theorem q142 : (Jvm.Cond.methodLink "JumpFence" (3 : Nat) ({ cls := "java/lang/Object", name := "<init>", desc := "()V" } : Jvm.MethodName)) ∈ lw_all := lw_g (lw_at lw_m1 41 rfl) rfl
theorem q145 : (Jvm.Cond.classLink "JumpFence" (9 : Nat) "JumpFence$Reader") ∈ lw_all := lw_g (lw_at lw_m1 44 rfl) rfl
theorem q147 : (Jvm.Cond.methodLinkNest "JumpFence" (11 : Nat) ({ cls := "JumpFence$Reader", name := "<init>", desc := "()V" } : Jvm.MethodName) "JumpFence") ∈ lw_tbl := lw_at lw_m1 46 rfl
theorem q223 : (Jvm.Cond.fieldLinkNest "JumpFence" (121 : Nat) "JumpFence$Wrong" "place" "I" "JumpFence") ∈ lw_tbl := lw_at lw_m1 122 rfl
theorem q241 : (Jvm.Cond.fieldLinkNest "JumpFence" (104 : Nat) "JumpFence$Reader" "tape" "[B" "JumpFence") ∈ lw_tbl := lw_at lw_m1 140 rfl
theorem q244 : (Jvm.Cond.fieldLinkNest "JumpFence" (125 : Nat) "JumpFence$Reader" "row" "[LJumpFence$Order;" "JumpFence") ∈ lw_tbl := lw_at lw_m1 143 rfl
theorem q246 : (Jvm.Cond.fieldLinkNest "JumpFence" (108 : Nat) "JumpFence$Reader" "size" "I" "JumpFence") ∈ lw_tbl := lw_at lw_m1 145 rfl
theorem q250 : (Jvm.Cond.fieldLinkNest "JumpFence" (124 : Nat) "JumpFence$Reader" "many" "I" "JumpFence") ∈ lw_tbl := lw_at lw_m1 149 rfl
theorem q268 : (Jvm.Cond.classLink "JumpFence" (16 : Nat) "JumpFence$Program") ∈ lw_all := lw_g (lw_at lw_m1 167 rfl) rfl
theorem q270 : (Jvm.Cond.methodLinkNest "JumpFence" (18 : Nat) ({ cls := "JumpFence$Program", name := "<init>", desc := "()V" } : Jvm.MethodName) "JumpFence") ∈ lw_tbl := lw_at lw_m1 169 rfl
theorem q277 : (Jvm.Cond.fieldLinkNest "JumpFence" (81 : Nat) "JumpFence$Program" "orders" "[LJumpFence$Order;" "JumpFence") ∈ lw_tbl := lw_at lw_m1 176 rfl
theorem q280 : (Jvm.Cond.fieldLinkNest "JumpFence" (128 : Nat) "JumpFence$Program" "grades" "[I" "JumpFence") ∈ lw_tbl := lw_at lw_m1 179 rfl
theorem q283 : (Jvm.Cond.fieldLinkNest "JumpFence" (151 : Nat) "JumpFence$Program" "ticks" "[I" "JumpFence") ∈ lw_tbl := lw_at lw_m1 182 rfl
theorem q285 : (Jvm.Cond.fieldLinkNest "JumpFence" (230 : Nat) "JumpFence$Program" "powers" "[I" "JumpFence") ∈ lw_tbl := lw_at lw_m1 184 rfl
theorem q287 : (Jvm.Cond.fieldLinkNest "JumpFence" (237 : Nat) "JumpFence$Program" "harms" "[I" "JumpFence") ∈ lw_tbl := lw_at lw_m1 186 rfl
theorem q290 : (Jvm.Cond.fieldLinkNest "JumpFence" (180 : Nat) "JumpFence$Program" "bendSteps" "[I" "JumpFence") ∈ lw_tbl := lw_at lw_m1 189 rfl
theorem q293 : (Jvm.Cond.fieldLinkNest "JumpFence" (183 : Nat) "JumpFence$Program" "bendCell" "[I" "JumpFence") ∈ lw_tbl := lw_at lw_m1 192 rfl
theorem q296 : (Jvm.Cond.fieldLinkNest "JumpFence" (186 : Nat) "JumpFence$Program" "bendTo" "[I" "JumpFence") ∈ lw_tbl := lw_at lw_m1 195 rfl
theorem q298 : (Jvm.Cond.fieldLinkNest "JumpFence" (233 : Nat) "JumpFence$Program" "rows" "[Z" "JumpFence") ∈ lw_tbl := lw_at lw_m1 197 rfl
theorem q301 : (Jvm.Cond.fieldLinkNest "JumpFence" (168 : Nat) "JumpFence$Program" "holds" "[J" "JumpFence") ∈ lw_tbl := lw_at lw_m1 200 rfl
theorem q303 : (Jvm.Cond.fieldLinkNest "JumpFence" (158 : Nat) "JumpFence$Program" "kinds" "[J" "JumpFence") ∈ lw_tbl := lw_at lw_m1 202 rfl
theorem q306 : (Jvm.Cond.fieldLinkNest "JumpFence" (154 : Nat) "JumpFence$Program" "flows" "[J" "JumpFence") ∈ lw_tbl := lw_at lw_m1 205 rfl
theorem q310 : (Jvm.Cond.fieldLinkNest "JumpFence" (70 : Nat) "JumpFence$Program" "many" "I" "JumpFence") ∈ lw_tbl := lw_at lw_m1 209 rfl
theorem q312 : (Jvm.Cond.fieldLinkNest "JumpFence" (98 : Nat) "JumpFence$Program" "powerMany" "I" "JumpFence") ∈ lw_tbl := lw_at lw_m1 211 rfl
theorem q314 : (Jvm.Cond.fieldLinkNest "JumpFence" (101 : Nat) "JumpFence$Program" "harmMany" "I" "JumpFence") ∈ lw_tbl := lw_at lw_m1 213 rfl
theorem q317 : (Jvm.Cond.fieldLinkNest "JumpFence" (174 : Nat) "JumpFence$Program" "bendMany" "I" "JumpFence") ∈ lw_tbl := lw_at lw_m1 216 rfl
theorem q320 : (Jvm.Cond.fieldLinkNest "JumpFence" (171 : Nat) "JumpFence$Program" "odd" "I" "JumpFence") ∈ lw_tbl := lw_at lw_m1 219 rfl
theorem q365 : (Jvm.Cond.classLink "JumpFence" (26 : Nat) "JumpFence$Machine") ∈ lw_all := lw_g (lw_at lw_m2 24 rfl) rfl
theorem q367 : (Jvm.Cond.methodLink "JumpFence" (28 : Nat) ({ cls := "JumpFence$Machine", name := "<init>", desc := "(LJumpFence$Program;)V" } : Jvm.MethodName)) ∈ lw_all := lw_g (lw_at lw_m2 26 rfl) rfl
theorem q375 : (Jvm.Cond.fieldLinkNest "JumpFence" (226 : Nat) "JumpFence$Machine" "cells" "[I" "JumpFence") ∈ lw_tbl := lw_at lw_m2 34 rfl
theorem q379 : (Jvm.Cond.fieldLinkNest "JumpFence" (288 : Nat) "JumpFence$Machine" "row" "[I" "JumpFence") ∈ lw_tbl := lw_at lw_m2 38 rfl
theorem q381 : (Jvm.Cond.fieldLinkNest "JumpFence" (301 : Nat) "JumpFence$Machine" "second" "[I" "JumpFence") ∈ lw_tbl := lw_at lw_m2 40 rfl
theorem q384 : (Jvm.Cond.fieldLinkNest "JumpFence" (219 : Nat) "JumpFence$Machine" "order" "[I" "JumpFence") ∈ lw_tbl := lw_at lw_m2 43 rfl
theorem q386 : (Jvm.Cond.fieldLinkNest "JumpFence" (222 : Nat) "JumpFence$Machine" "words" "[I" "JumpFence") ∈ lw_tbl := lw_at lw_m2 45 rfl
theorem q391 : (Jvm.Cond.fieldLinkNest "JumpFence" (285 : Nat) "JumpFence$Machine" "deep" "I" "JumpFence") ∈ lw_tbl := lw_at lw_m2 50 rfl
theorem q393 : (Jvm.Cond.fieldLinkNest "JumpFence" (204 : Nat) "JumpFence$Machine" "at" "I" "JumpFence") ∈ lw_tbl := lw_at lw_m2 52 rfl
theorem q395 : (Jvm.Cond.fieldLinkNest "JumpFence" (199 : Nat) "JumpFence$Machine" "steps" "I" "JumpFence") ∈ lw_tbl := lw_at lw_m2 54 rfl
theorem q397 : (Jvm.Cond.fieldLinkNest "JumpFence" (202 : Nat) "JumpFence$Machine" "ticks" "I" "JumpFence") ∈ lw_tbl := lw_at lw_m2 56 rfl
theorem q399 : (Jvm.Cond.fieldLinkNest "JumpFence" (207 : Nat) "JumpFence$Machine" "said" "I" "JumpFence") ∈ lw_tbl := lw_at lw_m2 58 rfl
theorem q401 : (Jvm.Cond.fieldLinkNest "JumpFence" (210 : Nat) "JumpFence$Machine" "jumps" "I" "JumpFence") ∈ lw_tbl := lw_at lw_m2 60 rfl
theorem q406 : (Jvm.Cond.fieldLinkNest "JumpFence" (196 : Nat) "JumpFence$Machine" "ends" "I" "JumpFence") ∈ lw_tbl := lw_at lw_m2 65 rfl
theorem q408 : (Jvm.Cond.fieldLinkNest "JumpFence" (213 : Nat) "JumpFence$Machine" "lead" "I" "JumpFence") ∈ lw_tbl := lw_at lw_m2 67 rfl
theorem q410 : (Jvm.Cond.fieldLinkNest "JumpFence" (216 : Nat) "JumpFence$Machine" "stopped" "I" "JumpFence") ∈ lw_tbl := lw_at lw_m2 69 rfl
theorem q412 : (Jvm.Cond.fieldLinkNest "JumpFence" (376 : Nat) "JumpFence$Machine" "firstBad" "I" "JumpFence") ∈ lw_tbl := lw_at lw_m2 71 rfl
theorem q414 : (Jvm.Cond.fieldLinkNest "JumpFence" (293 : Nat) "JumpFence$Machine" "guards" "Z" "JumpFence") ∈ lw_tbl := lw_at lw_m2 73 rfl
theorem q454 : (Jvm.Cond.fieldLink "JumpFence" (12 : Nat) "JumpFence" "reader" "LJumpFence$Reader;") ∈ lw_all := lw_g (lw_at lw_m2 113 rfl) rfl
theorem q455 : (Jvm.Cond.fieldLink "JumpFence" (19 : Nat) "JumpFence" "now" "LJumpFence$Program;") ∈ lw_all := lw_g (lw_at lw_m2 114 rfl) rfl
theorem q456 : (Jvm.Cond.fieldLink "JumpFence" (23 : Nat) "JumpFence" "image" "LJumpFence$Program;") ∈ lw_all := lw_g (lw_at lw_m2 115 rfl) rfl
theorem q457 : (Jvm.Cond.fieldLink "JumpFence" (31 : Nat) "JumpFence" "machine" "LJumpFence$Machine;") ∈ lw_all := lw_g (lw_at lw_m2 116 rfl) rfl
theorem q458 : (Jvm.Cond.fieldLink "JumpFence" (35 : Nat) "JumpFence" "far" "[I") ∈ lw_all := lw_g (lw_at lw_m2 117 rfl) rfl
theorem q459 : (Jvm.Cond.fieldLink "JumpFence" (39 : Nat) "JumpFence" "path" "[I") ∈ lw_all := lw_g (lw_at lw_m2 118 rfl) rfl
theorem q460 : (Jvm.Cond.fieldLink "JumpFence" (42 : Nat) "JumpFence" "tryGrades" "[I") ∈ lw_all := lw_g (lw_at lw_m2 119 rfl) rfl
theorem q461 : (Jvm.Cond.fieldLink "JumpFence" (45 : Nat) "JumpFence" "bestGrades" "[I") ∈ lw_all := lw_g (lw_at lw_m2 120 rfl) rfl
theorem q462 : (Jvm.Cond.fieldLink "JumpFence" (48 : Nat) "JumpFence" "some" "[I") ∈ lw_all := lw_g (lw_at lw_m2 121 rfl) rfl
theorem q463 : (Jvm.Cond.fieldLink "JumpFence" (51 : Nat) "JumpFence" "heap" "[I") ∈ lw_all := lw_g (lw_at lw_m2 122 rfl) rfl
theorem q464 : (Jvm.Cond.fieldLink "JumpFence" (248 : Nat) "JumpFence" "pathMany" "I") ∈ lw_all := lw_g (lw_at lw_m2 123 rfl) rfl
theorem q465 : (Jvm.Cond.fieldLink "JumpFence" (338 : Nat) "JumpFence" "someMany" "I") ∈ lw_all := lw_g (lw_at lw_m2 124 rfl) rfl
theorem q466 : (Jvm.Cond.fieldLink "JumpFence" (54 : Nat) "JumpFence" "wrongAt" "I") ∈ lw_all := lw_g (lw_at lw_m2 125 rfl) rfl
theorem q467 : (Jvm.Cond.fieldLink "JumpFence" (335 : Nat) "JumpFence" "least" "I") ∈ lw_all := lw_g (lw_at lw_m2 126 rfl) rfl
theorem q468 : (Jvm.Cond.fieldLink "JumpFence" (332 : Nat) "JumpFence" "found" "Z") ∈ lw_all := lw_g (lw_at lw_m2 127 rfl) rfl
theorem q469 : (Jvm.Cond.fieldLink "JumpFence" (387 : Nat) "JumpFence" "kept" "Z") ∈ lw_all := lw_g (lw_at lw_m2 128 rfl) rfl
theorem q470 : (Jvm.Cond.laysFinal "JumpFence" "JumpFence" "reader" "LJumpFence$Reader;") ∈ lw_all := lw_g (lw_at lw_m2 129 rfl) rfl
theorem q471 : (Jvm.Cond.soleField "JumpFence" "reader") ∈ lw_all := lw_g (lw_at lw_m2 130 rfl) rfl
theorem q472 : (Jvm.Cond.laysFinal "JumpFence" "JumpFence" "now" "LJumpFence$Program;") ∈ lw_all := lw_g (lw_at lw_m2 131 rfl) rfl
theorem q473 : (Jvm.Cond.soleField "JumpFence" "now") ∈ lw_all := lw_g (lw_at lw_m2 132 rfl) rfl
theorem q474 : (Jvm.Cond.laysFinal "JumpFence" "JumpFence" "image" "LJumpFence$Program;") ∈ lw_all := lw_g (lw_at lw_m2 133 rfl) rfl
theorem q475 : (Jvm.Cond.soleField "JumpFence" "image") ∈ lw_all := lw_g (lw_at lw_m2 134 rfl) rfl
theorem q476 : (Jvm.Cond.laysFinal "JumpFence" "JumpFence" "machine" "LJumpFence$Machine;") ∈ lw_all := lw_g (lw_at lw_m2 135 rfl) rfl
theorem q477 : (Jvm.Cond.soleField "JumpFence" "machine") ∈ lw_all := lw_g (lw_at lw_m2 136 rfl) rfl
theorem q478 : (Jvm.Cond.laysFinal "JumpFence" "JumpFence" "far" "[I") ∈ lw_all := lw_g (lw_at lw_m2 137 rfl) rfl
theorem q479 : (Jvm.Cond.soleField "JumpFence" "far") ∈ lw_all := lw_g (lw_at lw_m2 138 rfl) rfl
theorem q480 : (Jvm.Cond.laysFinal "JumpFence" "JumpFence" "path" "[I") ∈ lw_all := lw_g (lw_at lw_m2 139 rfl) rfl
theorem q481 : (Jvm.Cond.soleField "JumpFence" "path") ∈ lw_all := lw_g (lw_at lw_m2 140 rfl) rfl
theorem q482 : (Jvm.Cond.laysFinal "JumpFence" "JumpFence" "tryGrades" "[I") ∈ lw_all := lw_g (lw_at lw_m2 141 rfl) rfl
theorem q483 : (Jvm.Cond.soleField "JumpFence" "tryGrades") ∈ lw_all := lw_g (lw_at lw_m2 142 rfl) rfl
theorem q484 : (Jvm.Cond.laysFinal "JumpFence" "JumpFence" "bestGrades" "[I") ∈ lw_all := lw_g (lw_at lw_m2 143 rfl) rfl
theorem q485 : (Jvm.Cond.soleField "JumpFence" "bestGrades") ∈ lw_all := lw_g (lw_at lw_m2 144 rfl) rfl
theorem q486 : (Jvm.Cond.laysFinal "JumpFence" "JumpFence" "some" "[I") ∈ lw_all := lw_g (lw_at lw_m2 145 rfl) rfl
theorem q487 : (Jvm.Cond.soleField "JumpFence" "some") ∈ lw_all := lw_g (lw_at lw_m2 146 rfl) rfl
theorem q488 : (Jvm.Cond.laysFinal "JumpFence" "JumpFence" "heap" "[I") ∈ lw_all := lw_g (lw_at lw_m2 147 rfl) rfl
theorem q489 : (Jvm.Cond.soleField "JumpFence" "heap") ∈ lw_all := lw_g (lw_at lw_m2 148 rfl) rfl
theorem q490 : (Jvm.Cond.lays "JumpFence" "JumpFence" "pathMany" "I") ∈ lw_all := lw_g (lw_at lw_m2 149 rfl) rfl
theorem q491 : (Jvm.Cond.soleField "JumpFence" "pathMany") ∈ lw_all := lw_g (lw_at lw_m2 150 rfl) rfl
theorem q492 : (Jvm.Cond.lays "JumpFence" "JumpFence" "someMany" "I") ∈ lw_all := lw_g (lw_at lw_m2 151 rfl) rfl
theorem q493 : (Jvm.Cond.soleField "JumpFence" "someMany") ∈ lw_all := lw_g (lw_at lw_m2 152 rfl) rfl
theorem q494 : (Jvm.Cond.lays "JumpFence" "JumpFence" "wrongAt" "I") ∈ lw_all := lw_g (lw_at lw_m2 153 rfl) rfl
theorem q495 : (Jvm.Cond.soleField "JumpFence" "wrongAt") ∈ lw_all := lw_g (lw_at lw_m2 154 rfl) rfl
theorem q496 : (Jvm.Cond.lays "JumpFence" "JumpFence" "least" "I") ∈ lw_all := lw_g (lw_at lw_m2 155 rfl) rfl
theorem q497 : (Jvm.Cond.soleField "JumpFence" "least") ∈ lw_all := lw_g (lw_at lw_m2 156 rfl) rfl
theorem q498 : (Jvm.Cond.lays "JumpFence" "JumpFence" "found" "Z") ∈ lw_all := lw_g (lw_at lw_m2 157 rfl) rfl
theorem q499 : (Jvm.Cond.soleField "JumpFence" "found") ∈ lw_all := lw_g (lw_at lw_m2 158 rfl) rfl
theorem q500 : (Jvm.Cond.lays "JumpFence" "JumpFence" "kept" "Z") ∈ lw_all := lw_g (lw_at lw_m2 159 rfl) rfl
theorem q501 : (Jvm.Cond.soleField "JumpFence" "kept") ∈ lw_all := lw_g (lw_at lw_m2 160 rfl) rfl
theorem q502 : (Jvm.Cond.superclass "JumpFence" "java/lang/Object") ∈ lw_all := lw_g (lw_at lw_m2 161 rfl) rfl
theorem q504 : (Jvm.Cond.instanceMethod ({ cls := "JumpFence", name := "feed", desc := "(IIIII)I" } : Jvm.MethodName)) ∈ lw_all := lw_g (lw_at lw_m2 163 rfl) rfl
theorem q505 : (Jvm.Cond.selects "JumpFence" ({ cls := "JumpFence", name := "feed", desc := "(IIIII)I" } : Jvm.MethodName) ({ cls := "JumpFence", name := "feed", desc := "(IIIII)I" } : Jvm.MethodName)) ∈ lw_all := lw_g (lw_at lw_m2 164 rfl) rfl
theorem q506 : (Jvm.Cond.code ({ cls := "JumpFence", name := "feed", desc := "(IIIII)I" } : Jvm.MethodName) prog_1_method_14_code (6 : Nat) (Option.some Jvm.ClassFile.FieldType.int)) ∈ lw_all := lw_g (lw_at lw_m2 165 rfl) rfl
theorem q507 : (Jvm.Cond.methodLink "JumpFence" (111 : Nat) ({ cls := "JumpFence", name := "four", desc := "(I)V" } : Jvm.MethodName)) ∈ lw_all := lw_g (lw_at lw_m2 166 rfl) rfl
theorem q508 : (Jvm.Cond.privateMethod ({ cls := "JumpFence", name := "four", desc := "(I)V" } : Jvm.MethodName)) ∈ lw_tbl := lw_at lw_m2 167 rfl
theorem q509 : (Jvm.Cond.instanceMethod ({ cls := "JumpFence", name := "four", desc := "(I)V" } : Jvm.MethodName)) ∈ lw_all := lw_g (lw_at lw_m2 168 rfl) rfl
theorem q510 : (Jvm.Cond.code ({ cls := "JumpFence", name := "four", desc := "(I)V" } : Jvm.MethodName) prog_1_method_13_code (3 : Nat) (Option.none : Option Jvm.ClassFile.FieldType)) ∈ lw_all := lw_g (lw_at lw_m2 169 rfl) rfl
theorem q512 : (Jvm.Cond.instanceMethod ({ cls := "JumpFence", name := "end", desc := "(I)Z" } : Jvm.MethodName)) ∈ lw_all := lw_g (lw_at lw_m2 171 rfl) rfl
theorem q513 : (Jvm.Cond.selects "JumpFence" ({ cls := "JumpFence", name := "end", desc := "(I)Z" } : Jvm.MethodName) ({ cls := "JumpFence", name := "end", desc := "(I)Z" } : Jvm.MethodName)) ∈ lw_all := lw_g (lw_at lw_m2 172 rfl) rfl
theorem q514 : (Jvm.Cond.code ({ cls := "JumpFence", name := "end", desc := "(I)Z" } : Jvm.MethodName) prog_1_method_15_code (2 : Nat) (Option.some Jvm.ClassFile.FieldType.boolean)) ∈ lw_all := lw_g (lw_at lw_m2 173 rfl) rfl
theorem q515 : (Jvm.Cond.methodLink "JumpFence" (73 : Nat) ({ cls := "JumpFence", name := "isIn", desc := "(III)Z" } : Jvm.MethodName)) ∈ lw_all := lw_g (lw_at lw_m2 174 rfl) rfl
theorem q516 : (Jvm.Cond.static ({ cls := "JumpFence", name := "isIn", desc := "(III)Z" } : Jvm.MethodName)) ∈ lw_all := lw_g (lw_at lw_m2 175 rfl) rfl
theorem q517 : (Jvm.Cond.code ({ cls := "JumpFence", name := "isIn", desc := "(III)Z" } : Jvm.MethodName) prog_1_method_7_code (3 : Nat) (Option.some Jvm.ClassFile.FieldType.boolean)) ∈ lw_all := lw_g (lw_at lw_m2 176 rfl) rfl
theorem q519 : (Jvm.Cond.instanceMethod ({ cls := "JumpFence", name := "fault", desc := "()I" } : Jvm.MethodName)) ∈ lw_all := lw_g (lw_at lw_m2 178 rfl) rfl
theorem q520 : (Jvm.Cond.selects "JumpFence" ({ cls := "JumpFence", name := "fault", desc := "()I" } : Jvm.MethodName) ({ cls := "JumpFence", name := "fault", desc := "()I" } : Jvm.MethodName)) ∈ lw_all := lw_g (lw_at lw_m2 179 rfl) rfl
theorem q521 : (Jvm.Cond.code ({ cls := "JumpFence", name := "fault", desc := "()I" } : Jvm.MethodName) prog_1_method_17_code (1 : Nat) (Option.some Jvm.ClassFile.FieldType.int)) ∈ lw_all := lw_g (lw_at lw_m2 180 rfl) rfl
theorem q523 : (Jvm.Cond.instanceMethod ({ cls := "JumpFence", name := "straight", desc := "()I" } : Jvm.MethodName)) ∈ lw_all := lw_g (lw_at lw_m2 182 rfl) rfl
theorem q524 : (Jvm.Cond.selects "JumpFence" ({ cls := "JumpFence", name := "straight", desc := "()I" } : Jvm.MethodName) ({ cls := "JumpFence", name := "straight", desc := "()I" } : Jvm.MethodName)) ∈ lw_all := lw_g (lw_at lw_m2 183 rfl) rfl
theorem q525 : (Jvm.Cond.code ({ cls := "JumpFence", name := "straight", desc := "()I" } : Jvm.MethodName) prog_1_method_26_code (2 : Nat) (Option.some Jvm.ClassFile.FieldType.int)) ∈ lw_all := lw_g (lw_at lw_m2 184 rfl) rfl
theorem q527 : (Jvm.Cond.instanceMethod ({ cls := "JumpFence", name := "step", desc := "(ZI)I" } : Jvm.MethodName)) ∈ lw_all := lw_g (lw_at lw_m2 186 rfl) rfl
theorem q528 : (Jvm.Cond.selects "JumpFence" ({ cls := "JumpFence", name := "step", desc := "(ZI)I" } : Jvm.MethodName) ({ cls := "JumpFence", name := "step", desc := "(ZI)I" } : Jvm.MethodName)) ∈ lw_all := lw_g (lw_at lw_m2 187 rfl) rfl
theorem q529 : (Jvm.Cond.code ({ cls := "JumpFence", name := "step", desc := "(ZI)I" } : Jvm.MethodName) prog_1_method_28_code (3 : Nat) (Option.some Jvm.ClassFile.FieldType.int)) ∈ lw_all := lw_g (lw_at lw_m2 188 rfl) rfl
theorem q530 : (Jvm.Cond.methodLink "JumpFence" (192 : Nat) ({ cls := "JumpFence$Machine", name := "runs", desc := "(ZZ)V" } : Jvm.MethodName)) ∈ lw_all := lw_g (lw_at lw_m2 189 rfl) rfl
theorem q683 : (Jvm.Cond.instanceMethod ({ cls := "JumpFence", name := "said", desc := "(ZI)I" } : Jvm.MethodName)) ∈ lw_all := lw_g (lw_at lw_m3 102 rfl) rfl
theorem q684 : (Jvm.Cond.selects "JumpFence" ({ cls := "JumpFence", name := "said", desc := "(ZI)I" } : Jvm.MethodName) ({ cls := "JumpFence", name := "said", desc := "(ZI)I" } : Jvm.MethodName)) ∈ lw_all := lw_g (lw_at lw_m3 103 rfl) rfl
theorem q685 : (Jvm.Cond.code ({ cls := "JumpFence", name := "said", desc := "(ZI)I" } : Jvm.MethodName) prog_1_method_29_code (3 : Nat) (Option.some Jvm.ClassFile.FieldType.int)) ∈ lw_all := lw_g (lw_at lw_m3 104 rfl) rfl
theorem q686 : (Jvm.Cond.constant "JumpFence" (225 : Nat) (1000000 : Int32)) ∈ lw_all := lw_g (lw_at lw_m3 105 rfl) rfl
theorem q688 : (Jvm.Cond.instanceMethod ({ cls := "JumpFence", name := "marks", desc := "()I" } : Jvm.MethodName)) ∈ lw_all := lw_g (lw_at lw_m3 107 rfl) rfl
theorem q689 : (Jvm.Cond.selects "JumpFence" ({ cls := "JumpFence", name := "marks", desc := "()I" } : Jvm.MethodName) ({ cls := "JumpFence", name := "marks", desc := "()I" } : Jvm.MethodName)) ∈ lw_all := lw_g (lw_at lw_m3 108 rfl) rfl
theorem q690 : (Jvm.Cond.code ({ cls := "JumpFence", name := "marks", desc := "()I" } : Jvm.MethodName) prog_1_method_45_code (11 : Nat) (Option.some Jvm.ClassFile.FieldType.int)) ∈ lw_all := lw_g (lw_at lw_m3 109 rfl) rfl
theorem q691 : (Jvm.Cond.methodLink "JumpFence" (351 : Nat) ({ cls := "JumpFence", name := "isGuarded", desc := "(I)Z" } : Jvm.MethodName)) ∈ lw_all := lw_g (lw_at lw_m3 110 rfl) rfl
theorem q692 : (Jvm.Cond.privateMethod ({ cls := "JumpFence", name := "isGuarded", desc := "(I)Z" } : Jvm.MethodName)) ∈ lw_tbl := lw_at lw_m3 111 rfl
theorem q693 : (Jvm.Cond.instanceMethod ({ cls := "JumpFence", name := "isGuarded", desc := "(I)Z" } : Jvm.MethodName)) ∈ lw_all := lw_g (lw_at lw_m3 112 rfl) rfl
theorem q694 : (Jvm.Cond.code ({ cls := "JumpFence", name := "isGuarded", desc := "(I)Z" } : Jvm.MethodName) prog_1_method_43_code (2 : Nat) (Option.some Jvm.ClassFile.FieldType.boolean)) ∈ lw_all := lw_g (lw_at lw_m3 113 rfl) rfl
theorem q695 : (Jvm.Cond.methodLink "JumpFence" (89 : Nat) ({ cls := "JumpFence$Order", name := "isJump", desc := "()Z" } : Jvm.MethodName)) ∈ lw_all := lw_g (lw_at lw_m3 114 rfl) rfl
theorem q713 : (Jvm.Cond.methodLink "JumpFence" (355 : Nat) ({ cls := "JumpFence", name := "bit", desc := "(I)J" } : Jvm.MethodName)) ∈ lw_all := lw_g (lw_at lw_m3 132 rfl) rfl
theorem q714 : (Jvm.Cond.static ({ cls := "JumpFence", name := "bit", desc := "(I)J" } : Jvm.MethodName)) ∈ lw_all := lw_g (lw_at lw_m3 133 rfl) rfl
theorem q715 : (Jvm.Cond.code ({ cls := "JumpFence", name := "bit", desc := "(I)J" } : Jvm.MethodName) prog_1_method_1_code (1 : Nat) (Option.some Jvm.ClassFile.FieldType.long)) ∈ lw_all := lw_g (lw_at lw_m3 134 rfl) rfl
theorem q716 : (Jvm.Cond.methodLink "JumpFence" (358 : Nat) ({ cls := "JumpFence", name := "letsOf", desc := "(I)J" } : Jvm.MethodName)) ∈ lw_all := lw_g (lw_at lw_m3 135 rfl) rfl
theorem q717 : (Jvm.Cond.privateMethod ({ cls := "JumpFence", name := "letsOf", desc := "(I)J" } : Jvm.MethodName)) ∈ lw_tbl := lw_at lw_m3 136 rfl
theorem q718 : (Jvm.Cond.instanceMethod ({ cls := "JumpFence", name := "letsOf", desc := "(I)J" } : Jvm.MethodName)) ∈ lw_all := lw_g (lw_at lw_m3 137 rfl) rfl
theorem q719 : (Jvm.Cond.code ({ cls := "JumpFence", name := "letsOf", desc := "(I)J" } : Jvm.MethodName) prog_1_method_44_code (2 : Nat) (Option.some Jvm.ClassFile.FieldType.long)) ∈ lw_all := lw_g (lw_at lw_m3 138 rfl) rfl
theorem q720 : (Jvm.Cond.methodLink "JumpFence" (161 : Nat) ({ cls := "JumpFence$Program", name := "lets", desc := "(II)J" } : Jvm.MethodName)) ∈ lw_all := lw_g (lw_at lw_m3 139 rfl) rfl
theorem q722 : (Jvm.Cond.instanceMethod ({ cls := "JumpFence", name := "judge", desc := "()I" } : Jvm.MethodName)) ∈ lw_all := lw_g (lw_at lw_m3 141 rfl) rfl
theorem q723 : (Jvm.Cond.selects "JumpFence" ({ cls := "JumpFence", name := "judge", desc := "()I" } : Jvm.MethodName) ({ cls := "JumpFence", name := "judge", desc := "()I" } : Jvm.MethodName)) ∈ lw_all := lw_g (lw_at lw_m3 142 rfl) rfl
theorem q724 : (Jvm.Cond.code ({ cls := "JumpFence", name := "judge", desc := "()I" } : Jvm.MethodName) prog_1_method_51_code (3 : Nat) (Option.some Jvm.ClassFile.FieldType.int)) ∈ lw_all := lw_g (lw_at lw_m3 143 rfl) rfl
theorem q726 : (Jvm.Cond.instanceMethod ({ cls := "JumpFence", name := "image", desc := "()V" } : Jvm.MethodName)) ∈ lw_all := lw_g (lw_at lw_m3 145 rfl) rfl
theorem q727 : (Jvm.Cond.selects "JumpFence" ({ cls := "JumpFence", name := "image", desc := "()V" } : Jvm.MethodName) ({ cls := "JumpFence", name := "image", desc := "()V" } : Jvm.MethodName)) ∈ lw_all := lw_g (lw_at lw_m3 146 rfl) rfl
theorem q728 : (Jvm.Cond.code ({ cls := "JumpFence", name := "image", desc := "()V" } : Jvm.MethodName) prog_1_method_52_code (1 : Nat) (Option.none : Option Jvm.ClassFile.FieldType)) ∈ lw_all := lw_g (lw_at lw_m3 147 rfl) rfl
theorem q729 : (Jvm.Cond.methodLink "JumpFence" (384 : Nat) ({ cls := "JumpFence$Program", name := "be", desc := "(LJumpFence$Program;)V" } : Jvm.MethodName)) ∈ lw_all := lw_g (lw_at lw_m3 148 rfl) rfl
theorem q852 : (Jvm.Cond.instanceMethod ({ cls := "JumpFence", name := "back", desc := "()Z" } : Jvm.MethodName)) ∈ lw_all := lw_g (lw_at lw_m4 31 rfl) rfl
theorem q853 : (Jvm.Cond.selects "JumpFence" ({ cls := "JumpFence", name := "back", desc := "()Z" } : Jvm.MethodName) ({ cls := "JumpFence", name := "back", desc := "()Z" } : Jvm.MethodName)) ∈ lw_all := lw_g (lw_at lw_m4 32 rfl) rfl
theorem q854 : (Jvm.Cond.code ({ cls := "JumpFence", name := "back", desc := "()Z" } : Jvm.MethodName) prog_1_method_53_code (1 : Nat) (Option.some Jvm.ClassFile.FieldType.boolean)) ∈ lw_all := lw_g (lw_at lw_m4 33 rfl) rfl
theorem q856 : (Jvm.Cond.instanceMethod ({ cls := "JumpFence", name := "count", desc := "(I)I" } : Jvm.MethodName)) ∈ lw_all := lw_g (lw_at lw_m4 35 rfl) rfl
theorem q857 : (Jvm.Cond.selects "JumpFence" ({ cls := "JumpFence", name := "count", desc := "(I)I" } : Jvm.MethodName) ({ cls := "JumpFence", name := "count", desc := "(I)I" } : Jvm.MethodName)) ∈ lw_all := lw_g (lw_at lw_m4 36 rfl) rfl
theorem q858 : (Jvm.Cond.code ({ cls := "JumpFence", name := "count", desc := "(I)I" } : Jvm.MethodName) prog_1_method_54_code (5 : Nat) (Option.some Jvm.ClassFile.FieldType.int)) ∈ lw_all := lw_g (lw_at lw_m4 37 rfl) rfl
theorem q859 : (Jvm.Cond.methodLink "JumpFence" (390 : Nat) ({ cls := "java/lang/Integer", name := "bitCount", desc := "(I)I" } : Jvm.MethodName)) ∈ lw_all := lw_g (lw_at lw_m4 38 rfl) rfl
theorem q865 : (Jvm.Cond.methodLink "JumpFence" (324 : Nat) ({ cls := "JumpFence", name := "reaches", desc := "(II)I" } : Jvm.MethodName)) ∈ lw_all := lw_g (lw_at lw_m4 44 rfl) rfl
theorem q866 : (Jvm.Cond.privateMethod ({ cls := "JumpFence", name := "reaches", desc := "(II)I" } : Jvm.MethodName)) ∈ lw_tbl := lw_at lw_m4 45 rfl
theorem q867 : (Jvm.Cond.instanceMethod ({ cls := "JumpFence", name := "reaches", desc := "(II)I" } : Jvm.MethodName)) ∈ lw_all := lw_g (lw_at lw_m4 46 rfl) rfl
theorem q868 : (Jvm.Cond.code ({ cls := "JumpFence", name := "reaches", desc := "(II)I" } : Jvm.MethodName) prog_1_method_37_code (3 : Nat) (Option.some Jvm.ClassFile.FieldType.int)) ∈ lw_all := lw_g (lw_at lw_m4 47 rfl) rfl
theorem q869 : (Jvm.Cond.methodLink "JumpFence" (312 : Nat) ({ cls := "JumpFence", name := "finds", desc := "(II)Z" } : Jvm.MethodName)) ∈ lw_all := lw_g (lw_at lw_m4 48 rfl) rfl
theorem q870 : (Jvm.Cond.privateMethod ({ cls := "JumpFence", name := "finds", desc := "(II)Z" } : Jvm.MethodName)) ∈ lw_tbl := lw_at lw_m4 49 rfl
theorem q871 : (Jvm.Cond.instanceMethod ({ cls := "JumpFence", name := "finds", desc := "(II)Z" } : Jvm.MethodName)) ∈ lw_all := lw_g (lw_at lw_m4 50 rfl) rfl
theorem q872 : (Jvm.Cond.code ({ cls := "JumpFence", name := "finds", desc := "(II)Z" } : Jvm.MethodName) prog_1_method_33_code (10 : Nat) (Option.some Jvm.ClassFile.FieldType.boolean)) ∈ lw_all := lw_g (lw_at lw_m4 51 rfl) rfl
theorem q873 : (Jvm.Cond.methodLink "JumpFence" (240 : Nat) ({ cls := "JumpFence$Program", name := "doors", desc := "(I)J" } : Jvm.MethodName)) ∈ lw_all := lw_g (lw_at lw_m4 52 rfl) rfl
theorem q882 : (Jvm.Cond.methodLink "JumpFence" (244 : Nat) ({ cls := "JumpFence$Program", name := "may", desc := "(I[II)J" } : Jvm.MethodName)) ∈ lw_all := lw_g (lw_at lw_m4 61 rfl) rfl
theorem q915 : (Jvm.Cond.methodLink "JumpFence" (315 : Nat) ({ cls := "JumpFence", name := "tried", desc := "(II)Z" } : Jvm.MethodName)) ∈ lw_all := lw_g (lw_at lw_m4 94 rfl) rfl
theorem q916 : (Jvm.Cond.privateMethod ({ cls := "JumpFence", name := "tried", desc := "(II)Z" } : Jvm.MethodName)) ∈ lw_tbl := lw_at lw_m4 95 rfl
theorem q917 : (Jvm.Cond.instanceMethod ({ cls := "JumpFence", name := "tried", desc := "(II)Z" } : Jvm.MethodName)) ∈ lw_all := lw_g (lw_at lw_m4 96 rfl) rfl
theorem q918 : (Jvm.Cond.code ({ cls := "JumpFence", name := "tried", desc := "(II)Z" } : Jvm.MethodName) prog_1_method_36_code (6 : Nat) (Option.some Jvm.ClassFile.FieldType.boolean)) ∈ lw_all := lw_g (lw_at lw_m4 97 rfl) rfl
theorem q919 : (Jvm.Cond.methodLink "JumpFence" (290 : Nat) ({ cls := "JumpFence$Machine", name := "begins", desc := "()V" } : Jvm.MethodName)) ∈ lw_all := lw_g (lw_at lw_m4 98 rfl) rfl
theorem q920 : (Jvm.Cond.methodLink "JumpFence" (297 : Nat) ({ cls := "JumpFence", name := "bends", desc := "(III)V" } : Jvm.MethodName)) ∈ lw_all := lw_g (lw_at lw_m4 99 rfl) rfl
theorem q921 : (Jvm.Cond.privateMethod ({ cls := "JumpFence", name := "bends", desc := "(III)V" } : Jvm.MethodName)) ∈ lw_tbl := lw_at lw_m4 100 rfl
theorem q922 : (Jvm.Cond.instanceMethod ({ cls := "JumpFence", name := "bends", desc := "(III)V" } : Jvm.MethodName)) ∈ lw_all := lw_g (lw_at lw_m4 101 rfl) rfl
theorem q923 : (Jvm.Cond.code ({ cls := "JumpFence", name := "bends", desc := "(III)V" } : Jvm.MethodName) prog_1_method_35_code (9 : Nat) (Option.none : Option Jvm.ClassFile.FieldType)) ∈ lw_all := lw_g (lw_at lw_m4 102 rfl) rfl
theorem q924 : (Jvm.Cond.methodLink "JumpFence" (134 : Nat) ({ cls := "JumpFence$Order", name := "word", desc := "()I" } : Jvm.MethodName)) ∈ lw_all := lw_g (lw_at lw_m4 103 rfl) rfl
theorem q925 : (Jvm.Cond.classLink "JumpFence" (251 : Nat) "JumpFence$IfOrder") ∈ lw_all := lw_g (lw_at lw_m4 104 rfl) rfl
theorem q926 : (Jvm.Cond.methodLink "JumpFence" (258 : Nat) ({ cls := "JumpFence$Atom", name := "of", desc := "(LJumpFence$Machine;)I" } : Jvm.MethodName)) ∈ lw_all := lw_g (lw_at lw_m4 105 rfl) rfl
theorem q927 : (Jvm.Cond.methodLink "JumpFence" (270 : Nat) ({ cls := "JumpFence$IfOrder", name := "holds", desc := "(III)Z" } : Jvm.MethodName)) ∈ lw_all := lw_g (lw_at lw_m4 106 rfl) rfl
theorem q928 : (Jvm.Cond.methodLink "JumpFence" (275 : Nat) ({ cls := "JumpFence", name := "can", desc := "(II)Z" } : Jvm.MethodName)) ∈ lw_all := lw_g (lw_at lw_m4 107 rfl) rfl
theorem q929 : (Jvm.Cond.privateMethod ({ cls := "JumpFence", name := "can", desc := "(II)Z" } : Jvm.MethodName)) ∈ lw_tbl := lw_at lw_m4 108 rfl
theorem q930 : (Jvm.Cond.instanceMethod ({ cls := "JumpFence", name := "can", desc := "(II)Z" } : Jvm.MethodName)) ∈ lw_all := lw_g (lw_at lw_m4 109 rfl) rfl
theorem q931 : (Jvm.Cond.code ({ cls := "JumpFence", name := "can", desc := "(II)Z" } : Jvm.MethodName) prog_1_method_34_code (3 : Nat) (Option.some Jvm.ClassFile.FieldType.boolean)) ∈ lw_all := lw_g (lw_at lw_m4 110 rfl) rfl
theorem q932 : (Jvm.Cond.methodLink "JumpFence" (279 : Nat) ({ cls := "JumpFence$IfOrder", name := "needs", desc := "(ZZI)I" } : Jvm.MethodName)) ∈ lw_all := lw_g (lw_at lw_m4 111 rfl) rfl
theorem q936 : (Jvm.Cond.methodLink "JumpFence" (283 : Nat) ({ cls := "JumpFence$Order", name := "cell", desc := "()I" } : Jvm.MethodName)) ∈ lw_all := lw_g (lw_at lw_m4 115 rfl) rfl
theorem q937 : (Jvm.Cond.methodLink "JumpFence" (304 : Nat) ({ cls := "JumpFence$Machine", name := "step", desc := "()Z" } : Jvm.MethodName)) ∈ lw_all := lw_g (lw_at lw_m4 116 rfl) rfl
theorem q938 : (Jvm.Cond.classLink "JumpFence" (307 : Nat) "JumpFence$DoorOrder") ∈ lw_all := lw_g (lw_at lw_m4 117 rfl) rfl
theorem q944 : (Jvm.Cond.instanceMethod ({ cls := "JumpFence", name := "load", desc := "()I" } : Jvm.MethodName)) ∈ lw_all := lw_g (lw_at lw_m4 123 rfl) rfl
theorem q945 : (Jvm.Cond.selects "JumpFence" ({ cls := "JumpFence", name := "load", desc := "()I" } : Jvm.MethodName) ({ cls := "JumpFence", name := "load", desc := "()I" } : Jvm.MethodName)) ∈ lw_all := lw_g (lw_at lw_m4 124 rfl) rfl
theorem q946 : (Jvm.Cond.codeWith ({ cls := "JumpFence", name := "load", desc := "()I" } : Jvm.MethodName) prog_1_method_16_code (3 : Nat) (Option.some Jvm.ClassFile.FieldType.int) [((21 : Nat), (39 : Nat), (42 : Nat), (119 : Nat))]) ∈ lw_all := lw_g (lw_at lw_m4 125 rfl) rfl
theorem q947 : (Jvm.Cond.classLink "JumpFence" (119 : Nat) "JumpFence$Wrong") ∈ lw_all := lw_g (lw_at lw_m4 126 rfl) rfl
theorem q948 : (Jvm.Cond.methodLink "JumpFence" (115 : Nat) ({ cls := "JumpFence$Reader", name := "read", desc := "(II)V" } : Jvm.MethodName)) ∈ lw_all := lw_g (lw_at lw_m4 127 rfl) rfl
theorem q1048 : (Jvm.Cond.fieldLinkNest "JumpFence" (272 : Nat) "JumpFence$Atom" "cell" "I" "JumpFence") ∈ lw_tbl := lw_at lw_m4 227 rfl
theorem q1073 : (Jvm.Cond.fieldLinkNest "JumpFence" (138 : Nat) "JumpFence$Order" "entry" "I" "JumpFence") ∈ lw_tbl := lw_at lw_m5 12 rfl
theorem q1128 : (Jvm.Cond.fieldLinkNest "JumpFence" (254 : Nat) "JumpFence$IfOrder" "left" "LJumpFence$Atom;" "JumpFence") ∈ lw_tbl := lw_at lw_m5 67 rfl
theorem q1130 : (Jvm.Cond.fieldLinkNest "JumpFence" (264 : Nat) "JumpFence$IfOrder" "right" "LJumpFence$Atom;" "JumpFence") ∈ lw_tbl := lw_at lw_m5 69 rfl
theorem q1132 : (Jvm.Cond.fieldLinkNest "JumpFence" (267 : Nat) "JumpFence$IfOrder" "sign" "I" "JumpFence") ∈ lw_tbl := lw_at lw_m5 71 rfl
theorem q1134 : (Jvm.Cond.fieldLinkNest "JumpFence" (253 : Nat) "JumpFence$IfOrder" "place" "I" "JumpFence") ∈ lw_tbl := lw_at lw_m5 73 rfl
theorem q1199 : (Jvm.Cond.fieldLinkNest "JumpFence" (309 : Nat) "JumpFence$DoorOrder" "says" "LJumpFence$Atom;" "JumpFence") ∈ lw_tbl := lw_at lw_m5 138 rfl
theorem q1212 : (Jvm.Cond.classLink "JumpFence" (58 : Nat) "java/lang/IllegalArgumentException") ∈ lw_all := lw_g (lw_at lw_m5 151 rfl) rfl
theorem q1221 : (Jvm.Cond.methodLink "JumpFence" (60 : Nat) ({ cls := "java/lang/IllegalArgumentException", name := "<init>", desc := "()V" } : Jvm.MethodName)) ∈ lw_all := lw_g (lw_at lw_m5 160 rfl) rfl
theorem q1233 : (Jvm.Cond.methodLink "JumpFence" (131 : Nat) ({ cls := "JumpFence$Program", name := "learns", desc := "()V" } : Jvm.MethodName)) ∈ lw_all := lw_g (lw_at lw_m5 172 rfl) rfl
theorem q1271 : (Jvm.Cond.instanceMethod ({ cls := "JumpFence", name := "order", desc := "(II)I" } : Jvm.MethodName)) ∈ lw_all := lw_g (lw_at lw_m5 210 rfl) rfl
theorem q1272 : (Jvm.Cond.selects "JumpFence" ({ cls := "JumpFence", name := "order", desc := "(II)I" } : Jvm.MethodName) ({ cls := "JumpFence", name := "order", desc := "(II)I" } : Jvm.MethodName)) ∈ lw_all := lw_g (lw_at lw_m5 211 rfl) rfl
theorem q1273 : (Jvm.Cond.code ({ cls := "JumpFence", name := "order", desc := "(II)I" } : Jvm.MethodName) prog_1_method_18_code (4 : Nat) (Option.some Jvm.ClassFile.FieldType.int)) ∈ lw_all := lw_g (lw_at lw_m5 212 rfl) rfl
theorem q1274 : (Jvm.Cond.methodLink "JumpFence" (85 : Nat) ({ cls := "JumpFence", name := "orderAt", desc := "(I)LJumpFence$Order;" } : Jvm.MethodName)) ∈ lw_all := lw_g (lw_at lw_m5 213 rfl) rfl
theorem q1275 : (Jvm.Cond.privateMethod ({ cls := "JumpFence", name := "orderAt", desc := "(I)LJumpFence$Order;" } : Jvm.MethodName)) ∈ lw_tbl := lw_at lw_m5 214 rfl
theorem q1276 : (Jvm.Cond.instanceMethod ({ cls := "JumpFence", name := "orderAt", desc := "(I)LJumpFence$Order;" } : Jvm.MethodName)) ∈ lw_all := lw_g (lw_at lw_m5 215 rfl) rfl
theorem q1277 : (Jvm.Cond.code ({ cls := "JumpFence", name := "orderAt", desc := "(I)LJumpFence$Order;" } : Jvm.MethodName) prog_1_method_8_code (2 : Nat) (Option.some (Jvm.ClassFile.FieldType.object "JumpFence$Order"))) ∈ lw_all := lw_g (lw_at lw_m5 216 rfl) rfl
theorem q1278 : (Jvm.Cond.methodLink "JumpFence" (77 : Nat) ({ cls := "JumpFence", name := "mustBe", desc := "(Z)V" } : Jvm.MethodName)) ∈ lw_all := lw_g (lw_at lw_m5 217 rfl) rfl
theorem q1279 : (Jvm.Cond.static ({ cls := "JumpFence", name := "mustBe", desc := "(Z)V" } : Jvm.MethodName)) ∈ lw_all := lw_g (lw_at lw_m5 218 rfl) rfl
theorem q1280 : (Jvm.Cond.code ({ cls := "JumpFence", name := "mustBe", desc := "(Z)V" } : Jvm.MethodName) prog_1_method_5_code (1 : Nat) (Option.none : Option Jvm.ClassFile.FieldType)) ∈ lw_all := lw_g (lw_at lw_m5 219 rfl) rfl
theorem q1281 : (Jvm.Cond.classLink "JumpFence" (64 : Nat) "java/lang/IndexOutOfBoundsException") ∈ lw_all := lw_g (lw_at lw_m5 220 rfl) rfl
theorem q1290 : (Jvm.Cond.methodLink "JumpFence" (66 : Nat) ({ cls := "java/lang/IndexOutOfBoundsException", name := "<init>", desc := "()V" } : Jvm.MethodName)) ∈ lw_all := lw_g (lw_at lw_m5 229 rfl) rfl
theorem q1296 : (Jvm.Cond.methodLink "JumpFence" (141 : Nat) ({ cls := "JumpFence$Order", name := "kind", desc := "()I" } : Jvm.MethodName)) ∈ lw_all := lw_g (lw_at lw_m5 235 rfl) rfl
theorem q1297 : (Jvm.Cond.methodLink "JumpFence" (144 : Nat) ({ cls := "JumpFence$Order", name := "place", desc := "()I" } : Jvm.MethodName)) ∈ lw_all := lw_g (lw_at lw_m5 236 rfl) rfl
theorem q1298 : (Jvm.Cond.classLink "JumpFence" (67 : Nat) "java/util/NoSuchElementException") ∈ lw_all := lw_g (lw_at lw_m5 237 rfl) rfl
theorem q1307 : (Jvm.Cond.methodLink "JumpFence" (69 : Nat) ({ cls := "java/util/NoSuchElementException", name := "<init>", desc := "()V" } : Jvm.MethodName)) ∈ lw_all := lw_g (lw_at lw_m6 6 rfl) rfl
theorem q1331 : (Jvm.Cond.instanceMethod ({ cls := "JumpFence", name := "grade", desc := "(II)Z" } : Jvm.MethodName)) ∈ lw_all := lw_g (lw_at lw_m6 30 rfl) rfl
theorem q1332 : (Jvm.Cond.selects "JumpFence" ({ cls := "JumpFence", name := "grade", desc := "(II)Z" } : Jvm.MethodName) ({ cls := "JumpFence", name := "grade", desc := "(II)Z" } : Jvm.MethodName)) ∈ lw_all := lw_g (lw_at lw_m6 31 rfl) rfl
theorem q1333 : (Jvm.Cond.code ({ cls := "JumpFence", name := "grade", desc := "(II)Z" } : Jvm.MethodName) prog_1_method_19_code (4 : Nat) (Option.some Jvm.ClassFile.FieldType.boolean)) ∈ lw_all := lw_g (lw_at lw_m6 32 rfl) rfl
theorem q1334 : (Jvm.Cond.methodLink "JumpFence" (146 : Nat) ({ cls := "JumpFence", name := "isJump", desc := "(I)V" } : Jvm.MethodName)) ∈ lw_all := lw_g (lw_at lw_m6 33 rfl) rfl
theorem q1335 : (Jvm.Cond.privateMethod ({ cls := "JumpFence", name := "isJump", desc := "(I)V" } : Jvm.MethodName)) ∈ lw_tbl := lw_at lw_m6 34 rfl
theorem q1336 : (Jvm.Cond.instanceMethod ({ cls := "JumpFence", name := "isJump", desc := "(I)V" } : Jvm.MethodName)) ∈ lw_all := lw_g (lw_at lw_m6 35 rfl) rfl
theorem q1337 : (Jvm.Cond.code ({ cls := "JumpFence", name := "isJump", desc := "(I)V" } : Jvm.MethodName) prog_1_method_9_code (3 : Nat) (Option.none : Option Jvm.ClassFile.FieldType)) ∈ lw_all := lw_g (lw_at lw_m6 36 rfl) rfl
theorem q1338 : (Jvm.Cond.classLink "JumpFence" (95 : Nat) "java/lang/ClassCastException") ∈ lw_all := lw_g (lw_at lw_m6 37 rfl) rfl
theorem q1339 : (Jvm.Cond.methodLink "JumpFence" (97 : Nat) ({ cls := "java/lang/ClassCastException", name := "<init>", desc := "()V" } : Jvm.MethodName)) ∈ lw_all := lw_g (lw_at lw_m6 38 rfl) rfl
theorem q1343 : (Jvm.Cond.methodLink "JumpFence" (148 : Nat) ({ cls := "JumpFence", name := "must", desc := "(Z)V" } : Jvm.MethodName)) ∈ lw_all := lw_g (lw_at lw_m6 42 rfl) rfl
theorem q1344 : (Jvm.Cond.static ({ cls := "JumpFence", name := "must", desc := "(Z)V" } : Jvm.MethodName)) ∈ lw_all := lw_g (lw_at lw_m6 43 rfl) rfl
theorem q1345 : (Jvm.Cond.code ({ cls := "JumpFence", name := "must", desc := "(Z)V" } : Jvm.MethodName) prog_1_method_3_code (1 : Nat) (Option.none : Option Jvm.ClassFile.FieldType)) ∈ lw_all := lw_g (lw_at lw_m6 44 rfl) rfl
theorem q1350 : (Jvm.Cond.instanceMethod ({ cls := "JumpFence", name := "ticks", desc := "(II)V" } : Jvm.MethodName)) ∈ lw_all := lw_g (lw_at lw_m6 49 rfl) rfl
theorem q1351 : (Jvm.Cond.selects "JumpFence" ({ cls := "JumpFence", name := "ticks", desc := "(II)V" } : Jvm.MethodName) ({ cls := "JumpFence", name := "ticks", desc := "(II)V" } : Jvm.MethodName)) ∈ lw_all := lw_g (lw_at lw_m6 50 rfl) rfl
theorem q1352 : (Jvm.Cond.code ({ cls := "JumpFence", name := "ticks", desc := "(II)V" } : Jvm.MethodName) prog_1_method_20_code (3 : Nat) (Option.none : Option Jvm.ClassFile.FieldType)) ∈ lw_all := lw_g (lw_at lw_m6 51 rfl) rfl
theorem q1357 : (Jvm.Cond.instanceMethod ({ cls := "JumpFence", name := "landings", desc := "(IZ)J" } : Jvm.MethodName)) ∈ lw_all := lw_g (lw_at lw_m6 56 rfl) rfl
theorem q1358 : (Jvm.Cond.selects "JumpFence" ({ cls := "JumpFence", name := "landings", desc := "(IZ)J" } : Jvm.MethodName) ({ cls := "JumpFence", name := "landings", desc := "(IZ)J" } : Jvm.MethodName)) ∈ lw_all := lw_g (lw_at lw_m6 57 rfl) rfl
theorem q1359 : (Jvm.Cond.code ({ cls := "JumpFence", name := "landings", desc := "(IZ)J" } : Jvm.MethodName) prog_1_method_21_code (3 : Nat) (Option.some Jvm.ClassFile.FieldType.long)) ∈ lw_all := lw_g (lw_at lw_m6 58 rfl) rfl
theorem q1364 : (Jvm.Cond.instanceMethod ({ cls := "JumpFence", name := "lets", desc := "(I)J" } : Jvm.MethodName)) ∈ lw_all := lw_g (lw_at lw_m6 63 rfl) rfl
theorem q1365 : (Jvm.Cond.selects "JumpFence" ({ cls := "JumpFence", name := "lets", desc := "(I)J" } : Jvm.MethodName) ({ cls := "JumpFence", name := "lets", desc := "(I)J" } : Jvm.MethodName)) ∈ lw_all := lw_g (lw_at lw_m6 64 rfl) rfl
theorem q1366 : (Jvm.Cond.code ({ cls := "JumpFence", name := "lets", desc := "(I)J" } : Jvm.MethodName) prog_1_method_22_code (2 : Nat) (Option.some Jvm.ClassFile.FieldType.long)) ∈ lw_all := lw_g (lw_at lw_m6 65 rfl) rfl
theorem q1371 : (Jvm.Cond.instanceMethod ({ cls := "JumpFence", name := "holds", desc := "(I)J" } : Jvm.MethodName)) ∈ lw_all := lw_g (lw_at lw_m6 70 rfl) rfl
theorem q1372 : (Jvm.Cond.selects "JumpFence" ({ cls := "JumpFence", name := "holds", desc := "(I)J" } : Jvm.MethodName) ({ cls := "JumpFence", name := "holds", desc := "(I)J" } : Jvm.MethodName)) ∈ lw_all := lw_g (lw_at lw_m6 71 rfl) rfl
theorem q1373 : (Jvm.Cond.code ({ cls := "JumpFence", name := "holds", desc := "(I)J" } : Jvm.MethodName) prog_1_method_23_code (2 : Nat) (Option.some Jvm.ClassFile.FieldType.long)) ∈ lw_all := lw_g (lw_at lw_m6 72 rfl) rfl
theorem q1374 : (Jvm.Cond.methodLink "JumpFence" (165 : Nat) ({ cls := "JumpFence", name := "isCell", desc := "(II)V" } : Jvm.MethodName)) ∈ lw_all := lw_g (lw_at lw_m6 73 rfl) rfl
theorem q1375 : (Jvm.Cond.static ({ cls := "JumpFence", name := "isCell", desc := "(II)V" } : Jvm.MethodName)) ∈ lw_all := lw_g (lw_at lw_m6 74 rfl) rfl
theorem q1376 : (Jvm.Cond.code ({ cls := "JumpFence", name := "isCell", desc := "(II)V" } : Jvm.MethodName) prog_1_method_12_code (2 : Nat) (Option.none : Option Jvm.ClassFile.FieldType)) ∈ lw_all := lw_g (lw_at lw_m6 75 rfl) rfl
theorem q1381 : (Jvm.Cond.instanceMethod ({ cls := "JumpFence", name := "odd", desc := "(I)Z" } : Jvm.MethodName)) ∈ lw_all := lw_g (lw_at lw_m6 80 rfl) rfl
theorem q1382 : (Jvm.Cond.selects "JumpFence" ({ cls := "JumpFence", name := "odd", desc := "(I)Z" } : Jvm.MethodName) ({ cls := "JumpFence", name := "odd", desc := "(I)Z" } : Jvm.MethodName)) ∈ lw_all := lw_g (lw_at lw_m6 81 rfl) rfl
theorem q1383 : (Jvm.Cond.code ({ cls := "JumpFence", name := "odd", desc := "(I)Z" } : Jvm.MethodName) prog_1_method_24_code (2 : Nat) (Option.some Jvm.ClassFile.FieldType.boolean)) ∈ lw_all := lw_g (lw_at lw_m6 82 rfl) rfl
theorem q1389 : (Jvm.Cond.instanceMethod ({ cls := "JumpFence", name := "bend", desc := "(III)I" } : Jvm.MethodName)) ∈ lw_all := lw_g (lw_at lw_m6 88 rfl) rfl
theorem q1390 : (Jvm.Cond.selects "JumpFence" ({ cls := "JumpFence", name := "bend", desc := "(III)I" } : Jvm.MethodName) ({ cls := "JumpFence", name := "bend", desc := "(III)I" } : Jvm.MethodName)) ∈ lw_all := lw_g (lw_at lw_m6 89 rfl) rfl
theorem q1391 : (Jvm.Cond.code ({ cls := "JumpFence", name := "bend", desc := "(III)I" } : Jvm.MethodName) prog_1_method_25_code (4 : Nat) (Option.some Jvm.ClassFile.FieldType.int)) ∈ lw_all := lw_g (lw_at lw_m6 90 rfl) rfl
theorem q1392 : (Jvm.Cond.methodLink "JumpFence" (177 : Nat) ({ cls := "JumpFence", name := "mayBe", desc := "(Z)V" } : Jvm.MethodName)) ∈ lw_all := lw_g (lw_at lw_m6 91 rfl) rfl
theorem q1393 : (Jvm.Cond.static ({ cls := "JumpFence", name := "mayBe", desc := "(Z)V" } : Jvm.MethodName)) ∈ lw_all := lw_g (lw_at lw_m6 92 rfl) rfl
theorem q1394 : (Jvm.Cond.code ({ cls := "JumpFence", name := "mayBe", desc := "(Z)V" } : Jvm.MethodName) prog_1_method_4_code (1 : Nat) (Option.none : Option Jvm.ClassFile.FieldType)) ∈ lw_all := lw_g (lw_at lw_m6 93 rfl) rfl
theorem q1395 : (Jvm.Cond.classLink "JumpFence" (61 : Nat) "java/lang/UnsupportedOperationException") ∈ lw_all := lw_g (lw_at lw_m6 94 rfl) rfl
theorem q1404 : (Jvm.Cond.methodLink "JumpFence" (63 : Nat) ({ cls := "java/lang/UnsupportedOperationException", name := "<init>", desc := "()V" } : Jvm.MethodName)) ∈ lw_all := lw_g (lw_at lw_m6 103 rfl) rfl
theorem q1414 : (Jvm.Cond.instanceMethod ({ cls := "JumpFence", name := "run", desc := "(ZI)I" } : Jvm.MethodName)) ∈ lw_all := lw_g (lw_at lw_m6 113 rfl) rfl
theorem q1415 : (Jvm.Cond.selects "JumpFence" ({ cls := "JumpFence", name := "run", desc := "(ZI)I" } : Jvm.MethodName) ({ cls := "JumpFence", name := "run", desc := "(ZI)I" } : Jvm.MethodName)) ∈ lw_all := lw_g (lw_at lw_m6 114 rfl) rfl
theorem q1416 : (Jvm.Cond.code ({ cls := "JumpFence", name := "run", desc := "(ZI)I" } : Jvm.MethodName) prog_1_method_27_code (3 : Nat) (Option.some Jvm.ClassFile.FieldType.int)) ∈ lw_all := lw_g (lw_at lw_m6 115 rfl) rfl
theorem q1417 : (Jvm.Cond.methodLink "JumpFence" (189 : Nat) ({ cls := "JumpFence", name := "thereIs", desc := "(Z)V" } : Jvm.MethodName)) ∈ lw_all := lw_g (lw_at lw_m6 116 rfl) rfl
theorem q1418 : (Jvm.Cond.static ({ cls := "JumpFence", name := "thereIs", desc := "(Z)V" } : Jvm.MethodName)) ∈ lw_all := lw_g (lw_at lw_m6 117 rfl) rfl
theorem q1419 : (Jvm.Cond.code ({ cls := "JumpFence", name := "thereIs", desc := "(Z)V" } : Jvm.MethodName) prog_1_method_6_code (1 : Nat) (Option.none : Option Jvm.ClassFile.FieldType)) ∈ lw_all := lw_g (lw_at lw_m6 118 rfl) rfl
theorem q1424 : (Jvm.Cond.instanceMethod ({ cls := "JumpFence", name := "cell", desc := "(ZI)I" } : Jvm.MethodName)) ∈ lw_all := lw_g (lw_at lw_m6 123 rfl) rfl
theorem q1425 : (Jvm.Cond.selects "JumpFence" ({ cls := "JumpFence", name := "cell", desc := "(ZI)I" } : Jvm.MethodName) ({ cls := "JumpFence", name := "cell", desc := "(ZI)I" } : Jvm.MethodName)) ∈ lw_all := lw_g (lw_at lw_m6 124 rfl) rfl
theorem q1426 : (Jvm.Cond.code ({ cls := "JumpFence", name := "cell", desc := "(ZI)I" } : Jvm.MethodName) prog_1_method_30_code (3 : Nat) (Option.some Jvm.ClassFile.FieldType.int)) ∈ lw_all := lw_g (lw_at lw_m6 125 rfl) rfl
theorem q1431 : (Jvm.Cond.instanceMethod ({ cls := "JumpFence", name := "power", desc := "(IZ)I" } : Jvm.MethodName)) ∈ lw_all := lw_g (lw_at lw_m6 130 rfl) rfl
theorem q1432 : (Jvm.Cond.selects "JumpFence" ({ cls := "JumpFence", name := "power", desc := "(IZ)I" } : Jvm.MethodName) ({ cls := "JumpFence", name := "power", desc := "(IZ)I" } : Jvm.MethodName)) ∈ lw_all := lw_g (lw_at lw_m6 131 rfl) rfl
theorem q1433 : (Jvm.Cond.code ({ cls := "JumpFence", name := "power", desc := "(IZ)I" } : Jvm.MethodName) prog_1_method_31_code (3 : Nat) (Option.some Jvm.ClassFile.FieldType.int)) ∈ lw_all := lw_g (lw_at lw_m6 132 rfl) rfl
theorem q1434 : (Jvm.Cond.constant "JumpFence" (229 : Nat) (65535 : Int32)) ∈ lw_all := lw_g (lw_at lw_m6 133 rfl) rfl
theorem q1439 : (Jvm.Cond.instanceMethod ({ cls := "JumpFence", name := "harm", desc := "(I)I" } : Jvm.MethodName)) ∈ lw_all := lw_g (lw_at lw_m6 138 rfl) rfl
theorem q1440 : (Jvm.Cond.selects "JumpFence" ({ cls := "JumpFence", name := "harm", desc := "(I)I" } : Jvm.MethodName) ({ cls := "JumpFence", name := "harm", desc := "(I)I" } : Jvm.MethodName)) ∈ lw_all := lw_g (lw_at lw_m6 139 rfl) rfl
theorem q1441 : (Jvm.Cond.code ({ cls := "JumpFence", name := "harm", desc := "(I)I" } : Jvm.MethodName) prog_1_method_32_code (2 : Nat) (Option.some Jvm.ClassFile.FieldType.int)) ∈ lw_all := lw_g (lw_at lw_m6 140 rfl) rfl
theorem q1446 : (Jvm.Cond.instanceMethod ({ cls := "JumpFence", name := "reach", desc := "(II)I" } : Jvm.MethodName)) ∈ lw_all := lw_g (lw_at lw_m6 145 rfl) rfl
theorem q1447 : (Jvm.Cond.selects "JumpFence" ({ cls := "JumpFence", name := "reach", desc := "(II)I" } : Jvm.MethodName) ({ cls := "JumpFence", name := "reach", desc := "(II)I" } : Jvm.MethodName)) ∈ lw_all := lw_g (lw_at lw_m6 146 rfl) rfl
theorem q1448 : (Jvm.Cond.code ({ cls := "JumpFence", name := "reach", desc := "(II)I" } : Jvm.MethodName) prog_1_method_38_code (3 : Nat) (Option.some Jvm.ClassFile.FieldType.int)) ∈ lw_all := lw_g (lw_at lw_m6 147 rfl) rfl
theorem q1449 : (Jvm.Cond.methodLink "JumpFence" (318 : Nat) ({ cls := "JumpFence", name := "isPower", desc := "(I)V" } : Jvm.MethodName)) ∈ lw_all := lw_g (lw_at lw_m6 148 rfl) rfl
theorem q1450 : (Jvm.Cond.privateMethod ({ cls := "JumpFence", name := "isPower", desc := "(I)V" } : Jvm.MethodName)) ∈ lw_tbl := lw_at lw_m6 149 rfl
theorem q1451 : (Jvm.Cond.instanceMethod ({ cls := "JumpFence", name := "isPower", desc := "(I)V" } : Jvm.MethodName)) ∈ lw_all := lw_g (lw_at lw_m6 150 rfl) rfl
theorem q1452 : (Jvm.Cond.code ({ cls := "JumpFence", name := "isPower", desc := "(I)V" } : Jvm.MethodName) prog_1_method_10_code (2 : Nat) (Option.none : Option Jvm.ClassFile.FieldType)) ∈ lw_all := lw_g (lw_at lw_m6 151 rfl) rfl
theorem q1453 : (Jvm.Cond.methodLink "JumpFence" (321 : Nat) ({ cls := "JumpFence", name := "isHarm", desc := "(I)V" } : Jvm.MethodName)) ∈ lw_all := lw_g (lw_at lw_m6 152 rfl) rfl
theorem q1454 : (Jvm.Cond.privateMethod ({ cls := "JumpFence", name := "isHarm", desc := "(I)V" } : Jvm.MethodName)) ∈ lw_tbl := lw_at lw_m6 153 rfl
theorem q1455 : (Jvm.Cond.instanceMethod ({ cls := "JumpFence", name := "isHarm", desc := "(I)V" } : Jvm.MethodName)) ∈ lw_all := lw_g (lw_at lw_m6 154 rfl) rfl
theorem q1456 : (Jvm.Cond.code ({ cls := "JumpFence", name := "isHarm", desc := "(I)V" } : Jvm.MethodName) prog_1_method_11_code (2 : Nat) (Option.none : Option Jvm.ClassFile.FieldType)) ∈ lw_all := lw_g (lw_at lw_m6 155 rfl) rfl
theorem q1461 : (Jvm.Cond.instanceMethod ({ cls := "JumpFence", name := "row", desc := "(III)I" } : Jvm.MethodName)) ∈ lw_all := lw_g (lw_at lw_m6 160 rfl) rfl
theorem q1462 : (Jvm.Cond.selects "JumpFence" ({ cls := "JumpFence", name := "row", desc := "(III)I" } : Jvm.MethodName) ({ cls := "JumpFence", name := "row", desc := "(III)I" } : Jvm.MethodName)) ∈ lw_all := lw_g (lw_at lw_m6 161 rfl) rfl
theorem q1463 : (Jvm.Cond.code ({ cls := "JumpFence", name := "row", desc := "(III)I" } : Jvm.MethodName) prog_1_method_39_code (4 : Nat) (Option.some Jvm.ClassFile.FieldType.int)) ∈ lw_all := lw_g (lw_at lw_m6 162 rfl) rfl
theorem q1468 : (Jvm.Cond.instanceMethod ({ cls := "JumpFence", name := "closed", desc := "(I)J" } : Jvm.MethodName)) ∈ lw_all := lw_g (lw_at lw_m6 167 rfl) rfl
theorem q1469 : (Jvm.Cond.selects "JumpFence" ({ cls := "JumpFence", name := "closed", desc := "(I)J" } : Jvm.MethodName) ({ cls := "JumpFence", name := "closed", desc := "(I)J" } : Jvm.MethodName)) ∈ lw_all := lw_g (lw_at lw_m6 168 rfl) rfl
theorem q1470 : (Jvm.Cond.code ({ cls := "JumpFence", name := "closed", desc := "(I)J" } : Jvm.MethodName) prog_1_method_40_code (2 : Nat) (Option.some Jvm.ClassFile.FieldType.long)) ∈ lw_all := lw_g (lw_at lw_m6 169 rfl) rfl
theorem q1471 : (Jvm.Cond.methodLink "JumpFence" (328 : Nat) ({ cls := "JumpFence$Program", name := "closed", desc := "([II)J" } : Jvm.MethodName)) ∈ lw_all := lw_g (lw_at lw_m6 170 rfl) rfl
theorem q1480 : (Jvm.Cond.instanceMethod ({ cls := "JumpFence", name := "least", desc := "(III)I" } : Jvm.MethodName)) ∈ lw_all := lw_g (lw_at lw_m6 179 rfl) rfl
theorem q1481 : (Jvm.Cond.selects "JumpFence" ({ cls := "JumpFence", name := "least", desc := "(III)I" } : Jvm.MethodName) ({ cls := "JumpFence", name := "least", desc := "(III)I" } : Jvm.MethodName)) ∈ lw_all := lw_g (lw_at lw_m6 180 rfl) rfl
theorem q1482 : (Jvm.Cond.code ({ cls := "JumpFence", name := "least", desc := "(III)I" } : Jvm.MethodName) prog_1_method_42_code (5 : Nat) (Option.some Jvm.ClassFile.FieldType.int)) ∈ lw_all := lw_g (lw_at lw_m6 181 rfl) rfl
theorem q1483 : (Jvm.Cond.methodLink "JumpFence" (341 : Nat) ({ cls := "java/lang/System", name := "arraycopy", desc := "(Ljava/lang/Object;ILjava/lang/Object;II)V" } : Jvm.MethodName)) ∈ lw_all := lw_g (lw_at lw_m6 182 rfl) rfl
theorem q1484 : (Jvm.Cond.methodLink "JumpFence" (347 : Nat) ({ cls := "JumpFence", name := "chooses", desc := "(IIJI)V" } : Jvm.MethodName)) ∈ lw_all := lw_g (lw_at lw_m6 183 rfl) rfl
theorem q1485 : (Jvm.Cond.privateMethod ({ cls := "JumpFence", name := "chooses", desc := "(IIJI)V" } : Jvm.MethodName)) ∈ lw_tbl := lw_at lw_m6 184 rfl
theorem q1486 : (Jvm.Cond.instanceMethod ({ cls := "JumpFence", name := "chooses", desc := "(IIJI)V" } : Jvm.MethodName)) ∈ lw_all := lw_g (lw_at lw_m6 185 rfl) rfl
theorem q1487 : (Jvm.Cond.code ({ cls := "JumpFence", name := "chooses", desc := "(IIJI)V" } : Jvm.MethodName) prog_1_method_41_code (8 : Nat) (Option.none : Option Jvm.ClassFile.FieldType)) ∈ lw_all := lw_g (lw_at lw_m6 186 rfl) rfl
theorem q1492 : (Jvm.Cond.instanceMethod ({ cls := "JumpFence", name := "joined", desc := "(I)I" } : Jvm.MethodName)) ∈ lw_all := lw_g (lw_at lw_m6 191 rfl) rfl
theorem q1493 : (Jvm.Cond.selects "JumpFence" ({ cls := "JumpFence", name := "joined", desc := "(I)I" } : Jvm.MethodName) ({ cls := "JumpFence", name := "joined", desc := "(I)I" } : Jvm.MethodName)) ∈ lw_all := lw_g (lw_at lw_m6 192 rfl) rfl
theorem q1494 : (Jvm.Cond.code ({ cls := "JumpFence", name := "joined", desc := "(I)I" } : Jvm.MethodName) prog_1_method_48_code (3 : Nat) (Option.some Jvm.ClassFile.FieldType.int)) ∈ lw_all := lw_g (lw_at lw_m6 193 rfl) rfl
theorem q1495 : (Jvm.Cond.methodLink "JumpFence" (365 : Nat) ({ cls := "JumpFence", name := "parts", desc := "(III)V" } : Jvm.MethodName)) ∈ lw_all := lw_g (lw_at lw_m6 194 rfl) rfl
theorem q1496 : (Jvm.Cond.privateMethod ({ cls := "JumpFence", name := "parts", desc := "(III)V" } : Jvm.MethodName)) ∈ lw_tbl := lw_at lw_m6 195 rfl
theorem q1497 : (Jvm.Cond.instanceMethod ({ cls := "JumpFence", name := "parts", desc := "(III)V" } : Jvm.MethodName)) ∈ lw_all := lw_g (lw_at lw_m6 196 rfl) rfl
theorem q1498 : (Jvm.Cond.code ({ cls := "JumpFence", name := "parts", desc := "(III)V" } : Jvm.MethodName) prog_1_method_46_code (5 : Nat) (Option.none : Option Jvm.ClassFile.FieldType)) ∈ lw_all := lw_g (lw_at lw_m6 197 rfl) rfl
theorem q1499 : (Jvm.Cond.methodLink "JumpFence" (361 : Nat) ({ cls := "JumpFence", name := "more", desc := "(I)I" } : Jvm.MethodName)) ∈ lw_all := lw_g (lw_at lw_m6 198 rfl) rfl
theorem q1500 : (Jvm.Cond.privateMethod ({ cls := "JumpFence", name := "more", desc := "(I)I" } : Jvm.MethodName)) ∈ lw_tbl := lw_at lw_m6 199 rfl
theorem q1501 : (Jvm.Cond.instanceMethod ({ cls := "JumpFence", name := "more", desc := "(I)I" } : Jvm.MethodName)) ∈ lw_all := lw_g (lw_at lw_m6 200 rfl) rfl
theorem q1502 : (Jvm.Cond.code ({ cls := "JumpFence", name := "more", desc := "(I)I" } : Jvm.MethodName) prog_1_method_47_code (7 : Nat) (Option.some Jvm.ClassFile.FieldType.int)) ∈ lw_all := lw_g (lw_at lw_m6 201 rfl) rfl
theorem q1503 : (Jvm.Cond.methodLink "JumpFence" (368 : Nat) ({ cls := "java/lang/Long", name := "bitCount", desc := "(J)I" } : Jvm.MethodName)) ∈ lw_all := lw_g (lw_at lw_m6 202 rfl) rfl
theorem q1513 : (Jvm.Cond.instanceMethod ({ cls := "JumpFence", name := "fence", desc := "(IIJI)I" } : Jvm.MethodName)) ∈ lw_all := lw_g (lw_at lw_m6 212 rfl) rfl
theorem q1514 : (Jvm.Cond.selects "JumpFence" ({ cls := "JumpFence", name := "fence", desc := "(IIJI)I" } : Jvm.MethodName) ({ cls := "JumpFence", name := "fence", desc := "(IIJI)I" } : Jvm.MethodName)) ∈ lw_all := lw_g (lw_at lw_m6 213 rfl) rfl
theorem q1515 : (Jvm.Cond.code ({ cls := "JumpFence", name := "fence", desc := "(IIJI)I" } : Jvm.MethodName) prog_1_method_49_code (13 : Nat) (Option.some Jvm.ClassFile.FieldType.int)) ∈ lw_all := lw_g (lw_at lw_m6 214 rfl) rfl
theorem q1516 : (Jvm.Cond.constantLong "JumpFence" (374 : Nat) (-1 : Int64)) ∈ lw_all := lw_g (lw_at lw_m6 215 rfl) rfl
theorem q1521 : (Jvm.Cond.instanceMethod ({ cls := "JumpFence", name := "late", desc := "(I)I" } : Jvm.MethodName)) ∈ lw_all := lw_g (lw_at lw_m6 220 rfl) rfl
theorem q1522 : (Jvm.Cond.selects "JumpFence" ({ cls := "JumpFence", name := "late", desc := "(I)I" } : Jvm.MethodName) ({ cls := "JumpFence", name := "late", desc := "(I)I" } : Jvm.MethodName)) ∈ lw_all := lw_g (lw_at lw_m6 221 rfl) rfl
theorem q1523 : (Jvm.Cond.code ({ cls := "JumpFence", name := "late", desc := "(I)I" } : Jvm.MethodName) prog_1_method_50_code (4 : Nat) (Option.some Jvm.ClassFile.FieldType.int)) ∈ lw_all := lw_g (lw_at lw_m6 222 rfl) rfl
theorem q1524 : (Jvm.Cond.methodLink "JumpFence" (379 : Nat) ({ cls := "java/lang/Math", name := "min", desc := "(II)I" } : Jvm.MethodName)) ∈ lw_all := lw_g (lw_at lw_m6 223 rfl) rfl
theorem q2116 : (Jvm.Cond.castable "JumpFence" "java/lang/Object") ∈ lw_tbl := lw_at lw_m9 95 rfl
theorem in_X1 : ∀ w ∈ wsX10, w ∈ lw_all := lw_in wsX10 [470, 472, 474, 476, 478, 480, 482, 484, 486, 488, 490, 492, 494, 496, 498, 500] (by decide +kernel) (by decide +kernel)

/-! JumpFence$Reader -/
def RX2 : String := "JumpFence$Reader"
def TX2 : u_T := fun k => match k with
  | 0 => ("JumpFence$Reader", "tape", "[B", true)
  | 1 => ("JumpFence$Reader", "words", "[Ljava/lang/String;", true)
  | 2 => ("JumpFence$Reader", "row", "[LJumpFence$Order;", true)
  | 3 => ("JumpFence$Reader", "wrong", "LJumpFence$Wrong;", true)
  | 4 => ("JumpFence$Reader", "size", "I", false)
  | 5 => ("JumpFence$Reader", "end", "I", false)
  | 6 => ("JumpFence$Reader", "at", "I", false)
  | _ => ("JumpFence$Reader", "many", "I", false)
def tyX2 : Nat → FieldType := fun k => match k with
  | 0 => .array .byte
  | 1 => .array (.object "java/lang/String")
  | 2 => .array (.object "JumpFence$Order")
  | 3 => .object "JumpFence$Wrong"
  | 4 => .int
  | 5 => .int
  | 6 => .int
  | _ => .int
abbrev wsX20 : List Cond := u_ws RX2 TX2 8
theorem nmX2 : ∀ a, a < 8 → ∀ b, b < 8 → a ≠ b → (TX2 a).2.1 ≠ (TX2 b).2.1 := by decide +kernel
theorem tyX2_ok : ∀ k, k < 8 → parseFieldDescriptor (TX2 k).2.2.1 = some (tyX2 k) := by decide +kernel
abbrev cX2_init : ByteArray := prog_13_method_1_code
def yX2_init : MethodName := ⟨RX2, "<init>", "()V"⟩
abbrev cX2_read : ByteArray := prog_13_method_10_code
def yX2_read : MethodName := ⟨RX2, "read", "(II)V"⟩
abbrev cX2_sign : ByteArray := prog_13_method_3_code
def yX2_sign : MethodName := ⟨RX2, "sign", "()I"⟩
abbrev cX2_fail : ByteArray := prog_13_method_2_code
def yX2_fail : MethodName := ⟨RX2, "fail", "(I)V"⟩
abbrev cX2_takes : ByteArray := prog_13_method_4_code
def yX2_takes : MethodName := ⟨RX2, "takes", "(Ljava/lang/String;)Z"⟩
abbrev cX2_number : ByteArray := prog_13_method_6_code
def yX2_number : MethodName := ⟨RX2, "number", "(I)I"⟩
abbrev cX2_order : ByteArray := prog_13_method_11_code
def yX2_order : MethodName := ⟨RX2, "order", "(I)LJumpFence$Order;"⟩
abbrev cX2_sets : ByteArray := prog_13_method_13_code
def yX2_sets : MethodName := ⟨RX2, "sets", "(I)LJumpFence$Order;"⟩
abbrev cX2_cell : ByteArray := prog_13_method_7_code
def yX2_cell : MethodName := ⟨RX2, "cell", "()I"⟩
abbrev cX2_expect : ByteArray := prog_13_method_5_code
def yX2_expect : MethodName := ⟨RX2, "expect", "(Ljava/lang/String;)V"⟩
abbrev cX2_atom : ByteArray := prog_13_method_9_code
def yX2_atom : MethodName := ⟨RX2, "atom", "()LJumpFence$Atom;"⟩
abbrev cX2_place : ByteArray := prog_13_method_8_code
def yX2_place : MethodName := ⟨RX2, "place", "()I"⟩
abbrev cX2_ifs : ByteArray := prog_13_method_14_code
def yX2_ifs : MethodName := ⟨RX2, "ifs", "(I)LJumpFence$Order;"⟩
abbrev cX2_kind : ByteArray := prog_13_method_12_code
def yX2_kind : MethodName := ⟨RX2, "kind", "()I"⟩
theorem q103 : (Jvm.Cond.initialized "JumpFence$Reader") ∈ lw_all := lw_g (lw_at lw_m1 2 rfl) rfl
theorem q146 : (Jvm.Cond.instantiable "JumpFence$Reader" (8 : Nat)) ∈ lw_all := lw_g (lw_at lw_m1 45 rfl) rfl
theorem q148 : (Jvm.Cond.instanceMethod ({ cls := "JumpFence$Reader", name := "<init>", desc := "()V" } : Jvm.MethodName)) ∈ lw_all := lw_g (lw_at lw_m1 47 rfl) rfl
theorem q149 : (Jvm.Cond.code ({ cls := "JumpFence$Reader", name := "<init>", desc := "()V" } : Jvm.MethodName) prog_13_method_1_code (1 : Nat) (Option.none : Option Jvm.ClassFile.FieldType)) ∈ lw_all := lw_g (lw_at lw_m1 48 rfl) rfl
theorem q150 : (Jvm.Cond.methodLink "JumpFence$Reader" (3 : Nat) ({ cls := "java/lang/Object", name := "<init>", desc := "()V" } : Jvm.MethodName)) ∈ lw_all := lw_g (lw_at lw_m1 49 rfl) rfl
theorem q151 : (Jvm.Cond.classLink "JumpFence$Reader" (15 : Nat) "java/lang/String") ∈ lw_all := lw_g (lw_at lw_m1 50 rfl) rfl
theorem q153 : (Jvm.Cond.stringRef "JumpFence$Reader" (17 : Nat) "set") ∈ lw_tbl := lw_at lw_m1 52 rfl
theorem q154 : (Jvm.Cond.stringRef "JumpFence$Reader" (19 : Nat) "point") ∈ lw_tbl := lw_at lw_m1 53 rfl
theorem q155 : (Jvm.Cond.stringRef "JumpFence$Reader" (21 : Nat) "jump") ∈ lw_tbl := lw_at lw_m1 54 rfl
theorem q156 : (Jvm.Cond.stringRef "JumpFence$Reader" (23 : Nat) "if") ∈ lw_tbl := lw_at lw_m1 55 rfl
theorem q157 : (Jvm.Cond.stringRef "JumpFence$Reader" (25 : Nat) "through") ∈ lw_tbl := lw_at lw_m1 56 rfl
theorem q158 : (Jvm.Cond.stringRef "JumpFence$Reader" (27 : Nat) "call") ∈ lw_tbl := lw_at lw_m1 57 rfl
theorem q159 : (Jvm.Cond.stringRef "JumpFence$Reader" (29 : Nat) "by") ∈ lw_tbl := lw_at lw_m1 58 rfl
theorem q160 : (Jvm.Cond.stringRef "JumpFence$Reader" (31 : Nat) "back") ∈ lw_tbl := lw_at lw_m1 59 rfl
theorem q161 : (Jvm.Cond.stringRef "JumpFence$Reader" (33 : Nat) "door") ∈ lw_tbl := lw_at lw_m1 60 rfl
theorem q162 : (Jvm.Cond.stringRef "JumpFence$Reader" (35 : Nat) "stop") ∈ lw_tbl := lw_at lw_m1 61 rfl
theorem q163 : (Jvm.Cond.classLink "JumpFence$Reader" (41 : Nat) "JumpFence$Order") ∈ lw_all := lw_g (lw_at lw_m1 62 rfl) rfl
theorem q165 : (Jvm.Cond.classLink "JumpFence$Reader" (47 : Nat) "JumpFence$Wrong") ∈ lw_all := lw_g (lw_at lw_m1 64 rfl) rfl
theorem q210 : (Jvm.Cond.methodLink "JumpFence$Reader" (49 : Nat) ({ cls := "JumpFence$Wrong", name := "<init>", desc := "()V" } : Jvm.MethodName)) ∈ lw_all := lw_g (lw_at lw_m1 109 rfl) rfl
theorem q222 : (Jvm.Cond.fieldLinkNest "JumpFence$Reader" (54 : Nat) "JumpFence$Wrong" "place" "I" "JumpFence") ∈ lw_tbl := lw_at lw_m1 121 rfl
theorem q240 : (Jvm.Cond.fieldLink "JumpFence$Reader" (9 : Nat) "JumpFence$Reader" "tape" "[B") ∈ lw_all := lw_g (lw_at lw_m1 139 rfl) rfl
theorem q242 : (Jvm.Cond.fieldLink "JumpFence$Reader" (37 : Nat) "JumpFence$Reader" "words" "[Ljava/lang/String;") ∈ lw_all := lw_g (lw_at lw_m1 141 rfl) rfl
theorem q243 : (Jvm.Cond.fieldLink "JumpFence$Reader" (43 : Nat) "JumpFence$Reader" "row" "[LJumpFence$Order;") ∈ lw_all := lw_g (lw_at lw_m1 142 rfl) rfl
theorem q245 : (Jvm.Cond.fieldLink "JumpFence$Reader" (50 : Nat) "JumpFence$Reader" "wrong" "LJumpFence$Wrong;") ∈ lw_all := lw_g (lw_at lw_m1 144 rfl) rfl
theorem q247 : (Jvm.Cond.fieldLink "JumpFence$Reader" (61 : Nat) "JumpFence$Reader" "end" "I") ∈ lw_all := lw_g (lw_at lw_m1 146 rfl) rfl
theorem q248 : (Jvm.Cond.fieldLink "JumpFence$Reader" (58 : Nat) "JumpFence$Reader" "at" "I") ∈ lw_all := lw_g (lw_at lw_m1 147 rfl) rfl
theorem q249 : (Jvm.Cond.fieldLink "JumpFence$Reader" (101 : Nat) "JumpFence$Reader" "many" "I") ∈ lw_all := lw_g (lw_at lw_m1 148 rfl) rfl
theorem q251 : (Jvm.Cond.laysFinal "JumpFence$Reader" "JumpFence$Reader" "tape" "[B") ∈ lw_all := lw_g (lw_at lw_m1 150 rfl) rfl
theorem q252 : (Jvm.Cond.soleField "JumpFence$Reader" "tape") ∈ lw_all := lw_g (lw_at lw_m1 151 rfl) rfl
theorem q253 : (Jvm.Cond.laysFinal "JumpFence$Reader" "JumpFence$Reader" "words" "[Ljava/lang/String;") ∈ lw_all := lw_g (lw_at lw_m1 152 rfl) rfl
theorem q254 : (Jvm.Cond.soleField "JumpFence$Reader" "words") ∈ lw_all := lw_g (lw_at lw_m1 153 rfl) rfl
theorem q255 : (Jvm.Cond.laysFinal "JumpFence$Reader" "JumpFence$Reader" "row" "[LJumpFence$Order;") ∈ lw_all := lw_g (lw_at lw_m1 154 rfl) rfl
theorem q256 : (Jvm.Cond.soleField "JumpFence$Reader" "row") ∈ lw_all := lw_g (lw_at lw_m1 155 rfl) rfl
theorem q257 : (Jvm.Cond.laysFinal "JumpFence$Reader" "JumpFence$Reader" "wrong" "LJumpFence$Wrong;") ∈ lw_all := lw_g (lw_at lw_m1 156 rfl) rfl
theorem q258 : (Jvm.Cond.soleField "JumpFence$Reader" "wrong") ∈ lw_all := lw_g (lw_at lw_m1 157 rfl) rfl
theorem q259 : (Jvm.Cond.lays "JumpFence$Reader" "JumpFence$Reader" "size" "I") ∈ lw_all := lw_g (lw_at lw_m1 158 rfl) rfl
theorem q260 : (Jvm.Cond.soleField "JumpFence$Reader" "size") ∈ lw_all := lw_g (lw_at lw_m1 159 rfl) rfl
theorem q261 : (Jvm.Cond.lays "JumpFence$Reader" "JumpFence$Reader" "end" "I") ∈ lw_all := lw_g (lw_at lw_m1 160 rfl) rfl
theorem q262 : (Jvm.Cond.soleField "JumpFence$Reader" "end") ∈ lw_all := lw_g (lw_at lw_m1 161 rfl) rfl
theorem q263 : (Jvm.Cond.lays "JumpFence$Reader" "JumpFence$Reader" "at" "I") ∈ lw_all := lw_g (lw_at lw_m1 162 rfl) rfl
theorem q264 : (Jvm.Cond.soleField "JumpFence$Reader" "at") ∈ lw_all := lw_g (lw_at lw_m1 163 rfl) rfl
theorem q265 : (Jvm.Cond.lays "JumpFence$Reader" "JumpFence$Reader" "many" "I") ∈ lw_all := lw_g (lw_at lw_m1 164 rfl) rfl
theorem q266 : (Jvm.Cond.soleField "JumpFence$Reader" "many") ∈ lw_all := lw_g (lw_at lw_m1 165 rfl) rfl
theorem q267 : (Jvm.Cond.superclass "JumpFence$Reader" "java/lang/Object") ∈ lw_all := lw_g (lw_at lw_m1 166 rfl) rfl
theorem q949 : (Jvm.Cond.instanceMethod ({ cls := "JumpFence$Reader", name := "read", desc := "(II)V" } : Jvm.MethodName)) ∈ lw_all := lw_g (lw_at lw_m4 128 rfl) rfl
theorem q950 : (Jvm.Cond.selects "JumpFence$Reader" ({ cls := "JumpFence$Reader", name := "read", desc := "(II)V" } : Jvm.MethodName) ({ cls := "JumpFence$Reader", name := "read", desc := "(II)V" } : Jvm.MethodName)) ∈ lw_all := lw_g (lw_at lw_m4 129 rfl) rfl
theorem q951 : (Jvm.Cond.code ({ cls := "JumpFence$Reader", name := "read", desc := "(II)V" } : Jvm.MethodName) prog_13_method_10_code (6 : Nat) (Option.none : Option Jvm.ClassFile.FieldType)) ∈ lw_all := lw_g (lw_at lw_m4 130 rfl) rfl
theorem q952 : (Jvm.Cond.methodLink "JumpFence$Reader" (64 : Nat) ({ cls := "JumpFence$Reader", name := "sign", desc := "()I" } : Jvm.MethodName)) ∈ lw_all := lw_g (lw_at lw_m4 131 rfl) rfl
theorem q953 : (Jvm.Cond.privateMethod ({ cls := "JumpFence$Reader", name := "sign", desc := "()I" } : Jvm.MethodName)) ∈ lw_tbl := lw_at lw_m4 132 rfl
theorem q954 : (Jvm.Cond.instanceMethod ({ cls := "JumpFence$Reader", name := "sign", desc := "()I" } : Jvm.MethodName)) ∈ lw_all := lw_g (lw_at lw_m4 133 rfl) rfl
theorem q955 : (Jvm.Cond.code ({ cls := "JumpFence$Reader", name := "sign", desc := "()I" } : Jvm.MethodName) prog_13_method_3_code (1 : Nat) (Option.some Jvm.ClassFile.FieldType.int)) ∈ lw_all := lw_g (lw_at lw_m4 134 rfl) rfl
theorem q956 : (Jvm.Cond.methodLink "JumpFence$Reader" (79 : Nat) ({ cls := "JumpFence$Reader", name := "fail", desc := "(I)V" } : Jvm.MethodName)) ∈ lw_all := lw_g (lw_at lw_m4 135 rfl) rfl
theorem q957 : (Jvm.Cond.privateMethod ({ cls := "JumpFence$Reader", name := "fail", desc := "(I)V" } : Jvm.MethodName)) ∈ lw_tbl := lw_at lw_m4 136 rfl
theorem q958 : (Jvm.Cond.instanceMethod ({ cls := "JumpFence$Reader", name := "fail", desc := "(I)V" } : Jvm.MethodName)) ∈ lw_all := lw_g (lw_at lw_m4 137 rfl) rfl
theorem q959 : (Jvm.Cond.code ({ cls := "JumpFence$Reader", name := "fail", desc := "(I)V" } : Jvm.MethodName) prog_13_method_2_code (2 : Nat) (Option.none : Option Jvm.ClassFile.FieldType)) ∈ lw_all := lw_g (lw_at lw_m4 138 rfl) rfl
theorem q960 : (Jvm.Cond.stringRef "JumpFence$Reader" (104 : Nat) "entry") ∈ lw_tbl := lw_at lw_m4 139 rfl
theorem q961 : (Jvm.Cond.methodLink "JumpFence$Reader" (75 : Nat) ({ cls := "JumpFence$Reader", name := "takes", desc := "(Ljava/lang/String;)Z" } : Jvm.MethodName)) ∈ lw_all := lw_g (lw_at lw_m4 140 rfl) rfl
theorem q962 : (Jvm.Cond.privateMethod ({ cls := "JumpFence$Reader", name := "takes", desc := "(Ljava/lang/String;)Z" } : Jvm.MethodName)) ∈ lw_tbl := lw_at lw_m4 141 rfl
theorem q963 : (Jvm.Cond.instanceMethod ({ cls := "JumpFence$Reader", name := "takes", desc := "(Ljava/lang/String;)Z" } : Jvm.MethodName)) ∈ lw_all := lw_g (lw_at lw_m4 142 rfl) rfl
theorem q964 : (Jvm.Cond.code ({ cls := "JumpFence$Reader", name := "takes", desc := "(Ljava/lang/String;)Z" } : Jvm.MethodName) prog_13_method_4_code (6 : Nat) (Option.some Jvm.ClassFile.FieldType.boolean)) ∈ lw_all := lw_g (lw_at lw_m4 143 rfl) rfl
theorem q965 : (Jvm.Cond.methodLink "JumpFence$Reader" (68 : Nat) ({ cls := "java/lang/String", name := "length", desc := "()I" } : Jvm.MethodName)) ∈ lw_all := lw_g (lw_at lw_m4 144 rfl) rfl
theorem q975 : (Jvm.Cond.methodLink "JumpFence$Reader" (71 : Nat) ({ cls := "java/lang/String", name := "charAt", desc := "(I)C" } : Jvm.MethodName)) ∈ lw_all := lw_g (lw_at lw_m4 154 rfl) rfl
theorem q1013 : (Jvm.Cond.methodLink "JumpFence$Reader" (89 : Nat) ({ cls := "JumpFence$Reader", name := "number", desc := "(I)I" } : Jvm.MethodName)) ∈ lw_all := lw_g (lw_at lw_m4 192 rfl) rfl
theorem q1014 : (Jvm.Cond.privateMethod ({ cls := "JumpFence$Reader", name := "number", desc := "(I)I" } : Jvm.MethodName)) ∈ lw_tbl := lw_at lw_m4 193 rfl
theorem q1015 : (Jvm.Cond.instanceMethod ({ cls := "JumpFence$Reader", name := "number", desc := "(I)I" } : Jvm.MethodName)) ∈ lw_all := lw_g (lw_at lw_m4 194 rfl) rfl
theorem q1016 : (Jvm.Cond.code ({ cls := "JumpFence$Reader", name := "number", desc := "(I)I" } : Jvm.MethodName) prog_13_method_6_code (5 : Nat) (Option.some Jvm.ClassFile.FieldType.int)) ∈ lw_all := lw_g (lw_at lw_m4 195 rfl) rfl
theorem q1017 : (Jvm.Cond.methodLink "JumpFence$Reader" (106 : Nat) ({ cls := "JumpFence$Reader", name := "order", desc := "(I)LJumpFence$Order;" } : Jvm.MethodName)) ∈ lw_all := lw_g (lw_at lw_m4 196 rfl) rfl
theorem q1018 : (Jvm.Cond.privateMethod ({ cls := "JumpFence$Reader", name := "order", desc := "(I)LJumpFence$Order;" } : Jvm.MethodName)) ∈ lw_tbl := lw_at lw_m4 197 rfl
theorem q1019 : (Jvm.Cond.instanceMethod ({ cls := "JumpFence$Reader", name := "order", desc := "(I)LJumpFence$Order;" } : Jvm.MethodName)) ∈ lw_all := lw_g (lw_at lw_m4 198 rfl) rfl
theorem q1020 : (Jvm.Cond.code ({ cls := "JumpFence$Reader", name := "order", desc := "(I)LJumpFence$Order;" } : Jvm.MethodName) prog_13_method_11_code (4 : Nat) (Option.some (Jvm.ClassFile.FieldType.object "JumpFence$Order"))) ∈ lw_all := lw_g (lw_at lw_m4 199 rfl) rfl
theorem q1021 : (Jvm.Cond.methodLink "JumpFence$Reader" (110 : Nat) ({ cls := "JumpFence$Reader", name := "sets", desc := "(I)LJumpFence$Order;" } : Jvm.MethodName)) ∈ lw_all := lw_g (lw_at lw_m4 200 rfl) rfl
theorem q1022 : (Jvm.Cond.privateMethod ({ cls := "JumpFence$Reader", name := "sets", desc := "(I)LJumpFence$Order;" } : Jvm.MethodName)) ∈ lw_tbl := lw_at lw_m4 201 rfl
theorem q1023 : (Jvm.Cond.instanceMethod ({ cls := "JumpFence$Reader", name := "sets", desc := "(I)LJumpFence$Order;" } : Jvm.MethodName)) ∈ lw_all := lw_g (lw_at lw_m4 202 rfl) rfl
theorem q1024 : (Jvm.Cond.code ({ cls := "JumpFence$Reader", name := "sets", desc := "(I)LJumpFence$Order;" } : Jvm.MethodName) prog_13_method_13_code (6 : Nat) (Option.some (Jvm.ClassFile.FieldType.object "JumpFence$Order"))) ∈ lw_all := lw_g (lw_at lw_m4 203 rfl) rfl
theorem q1025 : (Jvm.Cond.methodLink "JumpFence$Reader" (98 : Nat) ({ cls := "JumpFence$Reader", name := "cell", desc := "()I" } : Jvm.MethodName)) ∈ lw_all := lw_g (lw_at lw_m4 204 rfl) rfl
theorem q1026 : (Jvm.Cond.privateMethod ({ cls := "JumpFence$Reader", name := "cell", desc := "()I" } : Jvm.MethodName)) ∈ lw_tbl := lw_at lw_m4 205 rfl
theorem q1027 : (Jvm.Cond.instanceMethod ({ cls := "JumpFence$Reader", name := "cell", desc := "()I" } : Jvm.MethodName)) ∈ lw_all := lw_g (lw_at lw_m4 206 rfl) rfl
theorem q1028 : (Jvm.Cond.code ({ cls := "JumpFence$Reader", name := "cell", desc := "()I" } : Jvm.MethodName) prog_13_method_7_code (1 : Nat) (Option.some Jvm.ClassFile.FieldType.int)) ∈ lw_all := lw_g (lw_at lw_m4 207 rfl) rfl
theorem q1029 : (Jvm.Cond.stringRef "JumpFence$Reader" (83 : Nat) "c") ∈ lw_tbl := lw_at lw_m4 208 rfl
theorem q1030 : (Jvm.Cond.methodLink "JumpFence$Reader" (85 : Nat) ({ cls := "JumpFence$Reader", name := "expect", desc := "(Ljava/lang/String;)V" } : Jvm.MethodName)) ∈ lw_all := lw_g (lw_at lw_m4 209 rfl) rfl
theorem q1031 : (Jvm.Cond.privateMethod ({ cls := "JumpFence$Reader", name := "expect", desc := "(Ljava/lang/String;)V" } : Jvm.MethodName)) ∈ lw_tbl := lw_at lw_m4 210 rfl
theorem q1032 : (Jvm.Cond.instanceMethod ({ cls := "JumpFence$Reader", name := "expect", desc := "(Ljava/lang/String;)V" } : Jvm.MethodName)) ∈ lw_all := lw_g (lw_at lw_m4 211 rfl) rfl
theorem q1033 : (Jvm.Cond.code ({ cls := "JumpFence$Reader", name := "expect", desc := "(Ljava/lang/String;)V" } : Jvm.MethodName) prog_13_method_5_code (2 : Nat) (Option.none : Option Jvm.ClassFile.FieldType)) ∈ lw_all := lw_g (lw_at lw_m4 212 rfl) rfl
theorem q1034 : (Jvm.Cond.methodLink "JumpFence$Reader" (145 : Nat) ({ cls := "JumpFence$Reader", name := "atom", desc := "()LJumpFence$Atom;" } : Jvm.MethodName)) ∈ lw_all := lw_g (lw_at lw_m4 213 rfl) rfl
theorem q1035 : (Jvm.Cond.privateMethod ({ cls := "JumpFence$Reader", name := "atom", desc := "()LJumpFence$Atom;" } : Jvm.MethodName)) ∈ lw_tbl := lw_at lw_m4 214 rfl
theorem q1036 : (Jvm.Cond.instanceMethod ({ cls := "JumpFence$Reader", name := "atom", desc := "()LJumpFence$Atom;" } : Jvm.MethodName)) ∈ lw_all := lw_g (lw_at lw_m4 215 rfl) rfl
theorem q1037 : (Jvm.Cond.code ({ cls := "JumpFence$Reader", name := "atom", desc := "()LJumpFence$Atom;" } : Jvm.MethodName) prog_13_method_9_code (2 : Nat) (Option.some (Jvm.ClassFile.FieldType.object "JumpFence$Atom"))) ∈ lw_all := lw_g (lw_at lw_m4 216 rfl) rfl
theorem q1038 : (Jvm.Cond.classLink "JumpFence$Reader" (93 : Nat) "JumpFence$Atom") ∈ lw_all := lw_g (lw_at lw_m4 217 rfl) rfl
theorem q1040 : (Jvm.Cond.methodLink "JumpFence$Reader" (95 : Nat) ({ cls := "JumpFence$Atom", name := "<init>", desc := "(II)V" } : Jvm.MethodName)) ∈ lw_all := lw_g (lw_at lw_m4 219 rfl) rfl
theorem q1057 : (Jvm.Cond.classLink "JumpFence$Reader" (156 : Nat) "JumpFence$SetOrder") ∈ lw_all := lw_g (lw_at lw_m4 236 rfl) rfl
theorem q1059 : (Jvm.Cond.methodLink "JumpFence$Reader" (158 : Nat) ({ cls := "JumpFence$SetOrder", name := "<init>", desc := "(IILJumpFence$Atom;ILJumpFence$Atom;)V" } : Jvm.MethodName)) ∈ lw_all := lw_g (lw_at lw_m4 238 rfl) rfl
theorem q1085 : (Jvm.Cond.stringRef "JumpFence$Reader" (113 : Nat) "at") ∈ lw_tbl := lw_at lw_m5 24 rfl
theorem q1086 : (Jvm.Cond.classLink "JumpFence$Reader" (114 : Nat) "JumpFence$PointOrder") ∈ lw_all := lw_g (lw_at lw_m5 25 rfl) rfl
theorem q1088 : (Jvm.Cond.methodLink "JumpFence$Reader" (116 : Nat) ({ cls := "JumpFence$Reader", name := "place", desc := "()I" } : Jvm.MethodName)) ∈ lw_all := lw_g (lw_at lw_m5 27 rfl) rfl
theorem q1089 : (Jvm.Cond.privateMethod ({ cls := "JumpFence$Reader", name := "place", desc := "()I" } : Jvm.MethodName)) ∈ lw_tbl := lw_at lw_m5 28 rfl
theorem q1090 : (Jvm.Cond.instanceMethod ({ cls := "JumpFence$Reader", name := "place", desc := "()I" } : Jvm.MethodName)) ∈ lw_all := lw_g (lw_at lw_m5 29 rfl) rfl
theorem q1091 : (Jvm.Cond.code ({ cls := "JumpFence$Reader", name := "place", desc := "()I" } : Jvm.MethodName) prog_13_method_8_code (1 : Nat) (Option.some Jvm.ClassFile.FieldType.int)) ∈ lw_all := lw_g (lw_at lw_m5 30 rfl) rfl
theorem q1092 : (Jvm.Cond.methodLink "JumpFence$Reader" (118 : Nat) ({ cls := "JumpFence$PointOrder", name := "<init>", desc := "(III)V" } : Jvm.MethodName)) ∈ lw_all := lw_g (lw_at lw_m5 31 rfl) rfl
theorem q1106 : (Jvm.Cond.classLink "JumpFence$Reader" (121 : Nat) "JumpFence$JumpOrder") ∈ lw_all := lw_g (lw_at lw_m5 45 rfl) rfl
theorem q1108 : (Jvm.Cond.methodLink "JumpFence$Reader" (123 : Nat) ({ cls := "JumpFence$JumpOrder", name := "<init>", desc := "(II)V" } : Jvm.MethodName)) ∈ lw_all := lw_g (lw_at lw_m5 47 rfl) rfl
theorem q1117 : (Jvm.Cond.methodLink "JumpFence$Reader" (124 : Nat) ({ cls := "JumpFence$Reader", name := "ifs", desc := "(I)LJumpFence$Order;" } : Jvm.MethodName)) ∈ lw_all := lw_g (lw_at lw_m5 56 rfl) rfl
theorem q1118 : (Jvm.Cond.privateMethod ({ cls := "JumpFence$Reader", name := "ifs", desc := "(I)LJumpFence$Order;" } : Jvm.MethodName)) ∈ lw_tbl := lw_at lw_m5 57 rfl
theorem q1119 : (Jvm.Cond.instanceMethod ({ cls := "JumpFence$Reader", name := "ifs", desc := "(I)LJumpFence$Order;" } : Jvm.MethodName)) ∈ lw_all := lw_g (lw_at lw_m5 58 rfl) rfl
theorem q1120 : (Jvm.Cond.code ({ cls := "JumpFence$Reader", name := "ifs", desc := "(I)LJumpFence$Order;" } : Jvm.MethodName) prog_13_method_14_code (5 : Nat) (Option.some (Jvm.ClassFile.FieldType.object "JumpFence$Order"))) ∈ lw_all := lw_g (lw_at lw_m5 59 rfl) rfl
theorem q1121 : (Jvm.Cond.classLink "JumpFence$Reader" (161 : Nat) "JumpFence$IfOrder") ∈ lw_all := lw_g (lw_at lw_m5 60 rfl) rfl
theorem q1123 : (Jvm.Cond.methodLink "JumpFence$Reader" (163 : Nat) ({ cls := "JumpFence$IfOrder", name := "<init>", desc := "(ILJumpFence$Atom;ILJumpFence$Atom;I)V" } : Jvm.MethodName)) ∈ lw_all := lw_g (lw_at lw_m5 62 rfl) rfl
theorem q1145 : (Jvm.Cond.classLink "JumpFence$Reader" (127 : Nat) "JumpFence$ThroughOrder") ∈ lw_all := lw_g (lw_at lw_m5 84 rfl) rfl
theorem q1147 : (Jvm.Cond.methodLink "JumpFence$Reader" (129 : Nat) ({ cls := "JumpFence$Reader", name := "kind", desc := "()I" } : Jvm.MethodName)) ∈ lw_all := lw_g (lw_at lw_m5 86 rfl) rfl
theorem q1148 : (Jvm.Cond.privateMethod ({ cls := "JumpFence$Reader", name := "kind", desc := "()I" } : Jvm.MethodName)) ∈ lw_tbl := lw_at lw_m5 87 rfl
theorem q1149 : (Jvm.Cond.instanceMethod ({ cls := "JumpFence$Reader", name := "kind", desc := "()I" } : Jvm.MethodName)) ∈ lw_all := lw_g (lw_at lw_m5 88 rfl) rfl
theorem q1150 : (Jvm.Cond.code ({ cls := "JumpFence$Reader", name := "kind", desc := "()I" } : Jvm.MethodName) prog_13_method_12_code (1 : Nat) (Option.some Jvm.ClassFile.FieldType.int)) ∈ lw_all := lw_g (lw_at lw_m5 89 rfl) rfl
theorem q1151 : (Jvm.Cond.stringRef "JumpFence$Reader" (155 : Nat) "kind") ∈ lw_tbl := lw_at lw_m5 90 rfl
theorem q1152 : (Jvm.Cond.methodLink "JumpFence$Reader" (132 : Nat) ({ cls := "JumpFence$ThroughOrder", name := "<init>", desc := "(III)V" } : Jvm.MethodName)) ∈ lw_all := lw_g (lw_at lw_m5 91 rfl) rfl
theorem q1164 : (Jvm.Cond.classLink "JumpFence$Reader" (133 : Nat) "JumpFence$CallOrder") ∈ lw_all := lw_g (lw_at lw_m5 103 rfl) rfl
theorem q1166 : (Jvm.Cond.methodLink "JumpFence$Reader" (135 : Nat) ({ cls := "JumpFence$CallOrder", name := "<init>", desc := "(II)V" } : Jvm.MethodName)) ∈ lw_all := lw_g (lw_at lw_m5 105 rfl) rfl
theorem q1175 : (Jvm.Cond.classLink "JumpFence$Reader" (136 : Nat) "JumpFence$ByOrder") ∈ lw_all := lw_g (lw_at lw_m5 114 rfl) rfl
theorem q1177 : (Jvm.Cond.methodLink "JumpFence$Reader" (138 : Nat) ({ cls := "JumpFence$ByOrder", name := "<init>", desc := "(III)V" } : Jvm.MethodName)) ∈ lw_all := lw_g (lw_at lw_m5 116 rfl) rfl
theorem q1184 : (Jvm.Cond.classLink "JumpFence$Reader" (139 : Nat) "JumpFence$BackOrder") ∈ lw_all := lw_g (lw_at lw_m5 123 rfl) rfl
theorem q1186 : (Jvm.Cond.methodLink "JumpFence$Reader" (141 : Nat) ({ cls := "JumpFence$BackOrder", name := "<init>", desc := "(I)V" } : Jvm.MethodName)) ∈ lw_all := lw_g (lw_at lw_m5 125 rfl) rfl
theorem q1192 : (Jvm.Cond.classLink "JumpFence$Reader" (143 : Nat) "JumpFence$DoorOrder") ∈ lw_all := lw_g (lw_at lw_m5 131 rfl) rfl
theorem q1194 : (Jvm.Cond.methodLink "JumpFence$Reader" (149 : Nat) ({ cls := "JumpFence$DoorOrder", name := "<init>", desc := "(ILJumpFence$Atom;)V" } : Jvm.MethodName)) ∈ lw_all := lw_g (lw_at lw_m5 133 rfl) rfl
theorem q1204 : (Jvm.Cond.classLink "JumpFence$Reader" (152 : Nat) "JumpFence$StopOrder") ∈ lw_all := lw_g (lw_at lw_m5 143 rfl) rfl
theorem q1206 : (Jvm.Cond.methodLink "JumpFence$Reader" (154 : Nat) ({ cls := "JumpFence$StopOrder", name := "<init>", desc := "(I)V" } : Jvm.MethodName)) ∈ lw_all := lw_g (lw_at lw_m5 145 rfl) rfl
theorem q2117 : (Jvm.Cond.castable "JumpFence$Reader" "java/lang/Object") ∈ lw_tbl := lw_at lw_m9 96 rfl
theorem in_X2 : ∀ w ∈ wsX20, w ∈ lw_all := lw_in wsX20 [251, 253, 255, 257, 259, 261, 263, 265] (by decide +kernel) (by decide +kernel)

/-! JumpFence$Wrong -/
def RX3 : String := "JumpFence$Wrong"
def TX3 : u_T := fun k => match k with
  | 0 => ("java/lang/Throwable", "cause", "Ljava/lang/Throwable;", false)
  | 1 => ("java/lang/Throwable", "stackTrace", "[Ljava/lang/StackTraceElement;", false)
  | 2 => ("java/lang/Throwable", "suppressedExceptions", "Ljava/util/List;", false)
  | 3 => ("java/lang/Throwable", "detailMessage", "Ljava/lang/String;", false)
  | 4 => ("java/lang/Throwable", "backtrace", "Ljava/lang/Object;", false)
  | 5 => ("java/lang/Throwable", "depth", "I", false)
  | _ => ("JumpFence$Wrong", "place", "I", false)
def tyX3 : Nat → FieldType := fun k => match k with
  | 0 => .object "java/lang/Throwable"
  | 1 => .array (.object "java/lang/StackTraceElement")
  | 2 => .object "java/util/List"
  | 3 => .object "java/lang/String"
  | 4 => .object "java/lang/Object"
  | 5 => .int
  | _ => .int
abbrev wsX30 : List Cond := u_ws RX3 TX3 7
theorem nmX3 : ∀ a, a < 7 → ∀ b, b < 7 → a ≠ b → (TX3 a).2.1 ≠ (TX3 b).2.1 := by decide +kernel
theorem tyX3_ok : ∀ k, k < 7 → parseFieldDescriptor (TX3 k).2.2.1 = some (tyX3 k) := by decide +kernel
abbrev cX3_init : ByteArray := prog_17_method_1_code
def yX3_init : MethodName := ⟨RX3, "<init>", "()V"⟩
theorem q107 : (Jvm.Cond.initialized "JumpFence$Wrong") ∈ lw_all := lw_g (lw_at lw_m1 6 rfl) rfl
theorem q166 : (Jvm.Cond.instantiable "JumpFence$Wrong" (7 : Nat)) ∈ lw_all := lw_g (lw_at lw_m1 65 rfl) rfl
theorem q167 : (Jvm.Cond.castable "JumpFence$Wrong" "JumpFence$Wrong") ∈ lw_tbl := lw_at lw_m1 66 rfl
theorem q174 : (Jvm.Cond.selects "JumpFence$Wrong" ({ cls := "java/lang/Throwable", name := "fillInStackTrace", desc := "(I)Ljava/lang/Throwable;" } : Jvm.MethodName) ({ cls := "java/lang/Throwable", name := "fillInStackTrace", desc := "(I)Ljava/lang/Throwable;" } : Jvm.MethodName)) ∈ lw_all := lw_g (lw_at lw_m1 73 rfl) rfl
theorem q175 : (Jvm.Cond.selects "JumpFence$Wrong" ({ cls := "java/lang/Throwable", name := "fillInStackTrace", desc := "()Ljava/lang/Throwable;" } : Jvm.MethodName) ({ cls := "java/lang/Throwable", name := "fillInStackTrace", desc := "()Ljava/lang/Throwable;" } : Jvm.MethodName)) ∈ lw_all := lw_g (lw_at lw_m1 74 rfl) rfl
theorem q176 : (Jvm.Cond.lays "JumpFence$Wrong" "java/lang/Throwable" "cause" "Ljava/lang/Throwable;") ∈ lw_all := lw_g (lw_at lw_m1 75 rfl) rfl
theorem q178 : (Jvm.Cond.lays "JumpFence$Wrong" "java/lang/Throwable" "stackTrace" "[Ljava/lang/StackTraceElement;") ∈ lw_all := lw_g (lw_at lw_m1 77 rfl) rfl
theorem q180 : (Jvm.Cond.lays "JumpFence$Wrong" "java/lang/Throwable" "suppressedExceptions" "Ljava/util/List;") ∈ lw_all := lw_g (lw_at lw_m1 79 rfl) rfl
theorem q182 : (Jvm.Cond.lays "JumpFence$Wrong" "java/lang/Throwable" "detailMessage" "Ljava/lang/String;") ∈ lw_all := lw_g (lw_at lw_m1 81 rfl) rfl
theorem q184 : (Jvm.Cond.lays "JumpFence$Wrong" "java/lang/Throwable" "backtrace" "Ljava/lang/Object;") ∈ lw_all := lw_g (lw_at lw_m1 83 rfl) rfl
theorem q211 : (Jvm.Cond.instanceMethod ({ cls := "JumpFence$Wrong", name := "<init>", desc := "()V" } : Jvm.MethodName)) ∈ lw_all := lw_g (lw_at lw_m1 110 rfl) rfl
theorem q212 : (Jvm.Cond.code ({ cls := "JumpFence$Wrong", name := "<init>", desc := "()V" } : Jvm.MethodName) prog_17_method_1_code (1 : Nat) (Option.none : Option Jvm.ClassFile.FieldType)) ∈ lw_all := lw_g (lw_at lw_m1 111 rfl) rfl
theorem q213 : (Jvm.Cond.methodLink "JumpFence$Wrong" (1 : Nat) ({ cls := "java/lang/RuntimeException", name := "<init>", desc := "(Ljava/lang/String;Ljava/lang/Throwable;ZZ)V" } : Jvm.MethodName)) ∈ lw_all := lw_g (lw_at lw_m1 112 rfl) rfl
theorem q229 : (Jvm.Cond.lays "JumpFence$Wrong" "JumpFence$Wrong" "place" "I") ∈ lw_all := lw_g (lw_at lw_m1 128 rfl) rfl
theorem q230 : (Jvm.Cond.soleField "JumpFence$Wrong" "place") ∈ lw_all := lw_g (lw_at lw_m1 129 rfl) rfl
theorem q235 : (Jvm.Cond.lays "JumpFence$Wrong" "java/lang/Throwable" "depth" "I") ∈ lw_all := lw_g (lw_at lw_m1 134 rfl) rfl
theorem q238 : (Jvm.Cond.superclass "JumpFence$Wrong" "java/lang/RuntimeException") ∈ lw_all := lw_g (lw_at lw_m1 137 rfl) rfl
theorem q2118 : (Jvm.Cond.castable "JumpFence$Wrong" "java/lang/Object") ∈ lw_tbl := lw_at lw_m9 97 rfl
theorem in_X3 : ∀ w ∈ wsX30, w ∈ lw_all := lw_in wsX30 [176, 178, 180, 182, 184, 235, 229] (by decide +kernel) (by decide +kernel)

/-! JumpFence$Program -/
def RX4 : String := "JumpFence$Program"
def TX4 : u_T := fun k => match k with
  | 0 => ("JumpFence$Program", "orders", "[LJumpFence$Order;", true)
  | 1 => ("JumpFence$Program", "grades", "[I", true)
  | 2 => ("JumpFence$Program", "ticks", "[I", true)
  | 3 => ("JumpFence$Program", "powers", "[I", true)
  | 4 => ("JumpFence$Program", "harms", "[I", true)
  | 5 => ("JumpFence$Program", "bendSteps", "[I", true)
  | 6 => ("JumpFence$Program", "bendCell", "[I", true)
  | 7 => ("JumpFence$Program", "bendTo", "[I", true)
  | 8 => ("JumpFence$Program", "rows", "[Z", true)
  | 9 => ("JumpFence$Program", "holds", "[J", true)
  | 10 => ("JumpFence$Program", "kinds", "[J", true)
  | 11 => ("JumpFence$Program", "flows", "[J", true)
  | 12 => ("JumpFence$Program", "from", "[J", true)
  | 13 => ("JumpFence$Program", "many", "I", false)
  | 14 => ("JumpFence$Program", "powerMany", "I", false)
  | 15 => ("JumpFence$Program", "harmMany", "I", false)
  | 16 => ("JumpFence$Program", "bendMany", "I", false)
  | 17 => ("JumpFence$Program", "odd", "I", false)
  | _ => ("JumpFence$Program", "behind", "J", false)
def tyX4 : Nat → FieldType := fun k => match k with
  | 0 => .array (.object "JumpFence$Order")
  | 1 => .array .int
  | 2 => .array .int
  | 3 => .array .int
  | 4 => .array .int
  | 5 => .array .int
  | 6 => .array .int
  | 7 => .array .int
  | 8 => .array .boolean
  | 9 => .array .long
  | 10 => .array .long
  | 11 => .array .long
  | 12 => .array .long
  | 13 => .int
  | 14 => .int
  | 15 => .int
  | 16 => .int
  | 17 => .int
  | _ => .long
abbrev wsX40 : List Cond := u_ws RX4 TX4 19
set_option maxRecDepth 100000 in
theorem nmX4 : ∀ a, a < 19 → ∀ b, b < 19 → a ≠ b → (TX4 a).2.1 ≠ (TX4 b).2.1 := by decide +kernel
set_option maxRecDepth 100000 in
theorem tyX4_ok : ∀ k, k < 19 → parseFieldDescriptor (TX4 k).2.2.1 = some (tyX4 k) := by decide +kernel
abbrev cX4_init : ByteArray := prog_12_method_1_code
def yX4_init : MethodName := ⟨RX4, "<init>", "()V"⟩
abbrev cX4_lets : ByteArray := prog_12_method_9_code
def yX4_lets : MethodName := ⟨RX4, "lets", "(II)J"⟩
abbrev cX4_all : ByteArray := prog_12_method_3_code
def yX4_all : MethodName := ⟨RX4, "all", "()J"⟩
abbrev cX4_be : ByteArray := prog_12_method_2_code
def yX4_be : MethodName := ⟨RX4, "be", "(LJumpFence$Program;)V"⟩
abbrev cX4_learns : ByteArray := prog_12_method_4_code
def yX4_learns : MethodName := ⟨RX4, "learns", "()V"⟩
abbrev cX4_cells : ByteArray := prog_12_method_5_code
def yX4_cells : MethodName := ⟨RX4, "cells", "()V"⟩
abbrev cX4_moves : ByteArray := prog_12_method_6_code
def yX4_moves : MethodName := ⟨RX4, "moves", "(LJumpFence$Order;)Z"⟩
abbrev cX4_walks : ByteArray := prog_12_method_7_code
def yX4_walks : MethodName := ⟨RX4, "walks", "(I)J"⟩
abbrev cX4_backs : ByteArray := prog_12_method_8_code
def yX4_backs : MethodName := ⟨RX4, "backs", "(I)J"⟩
abbrev cX4_doors : ByteArray := prog_12_method_12_code
def yX4_doors : MethodName := ⟨RX4, "doors", "(I)J"⟩
abbrev cX4_may : ByteArray := prog_12_method_10_code
def yX4_may : MethodName := ⟨RX4, "may", "(I[II)J"⟩
abbrev cX4_closed : ByteArray := prog_12_method_11_code
def yX4_closed : MethodName := ⟨RX4, "closed", "([II)J"⟩
theorem q108 : (Jvm.Cond.initialized "JumpFence$Program") ∈ lw_all := lw_g (lw_at lw_m1 7 rfl) rfl
theorem q269 : (Jvm.Cond.instantiable "JumpFence$Program" (19 : Nat)) ∈ lw_all := lw_g (lw_at lw_m1 168 rfl) rfl
theorem q271 : (Jvm.Cond.instanceMethod ({ cls := "JumpFence$Program", name := "<init>", desc := "()V" } : Jvm.MethodName)) ∈ lw_all := lw_g (lw_at lw_m1 170 rfl) rfl
theorem q272 : (Jvm.Cond.code ({ cls := "JumpFence$Program", name := "<init>", desc := "()V" } : Jvm.MethodName) prog_12_method_1_code (1 : Nat) (Option.none : Option Jvm.ClassFile.FieldType)) ∈ lw_all := lw_g (lw_at lw_m1 171 rfl) rfl
theorem q273 : (Jvm.Cond.methodLink "JumpFence$Program" (3 : Nat) ({ cls := "java/lang/Object", name := "<init>", desc := "()V" } : Jvm.MethodName)) ∈ lw_all := lw_g (lw_at lw_m1 172 rfl) rfl
theorem q274 : (Jvm.Cond.classLink "JumpFence$Program" (9 : Nat) "JumpFence$Order") ∈ lw_all := lw_g (lw_at lw_m1 173 rfl) rfl
theorem q275 : (Jvm.Cond.fieldLink "JumpFence$Program" (11 : Nat) "JumpFence$Program" "orders" "[LJumpFence$Order;") ∈ lw_all := lw_g (lw_at lw_m1 174 rfl) rfl
theorem q278 : (Jvm.Cond.fieldLink "JumpFence$Program" (17 : Nat) "JumpFence$Program" "grades" "[I") ∈ lw_all := lw_g (lw_at lw_m1 177 rfl) rfl
theorem q281 : (Jvm.Cond.fieldLink "JumpFence$Program" (21 : Nat) "JumpFence$Program" "ticks" "[I") ∈ lw_all := lw_g (lw_at lw_m1 180 rfl) rfl
theorem q284 : (Jvm.Cond.fieldLink "JumpFence$Program" (24 : Nat) "JumpFence$Program" "powers" "[I") ∈ lw_all := lw_g (lw_at lw_m1 183 rfl) rfl
theorem q286 : (Jvm.Cond.fieldLink "JumpFence$Program" (27 : Nat) "JumpFence$Program" "harms" "[I") ∈ lw_all := lw_g (lw_at lw_m1 185 rfl) rfl
theorem q288 : (Jvm.Cond.fieldLink "JumpFence$Program" (30 : Nat) "JumpFence$Program" "bendSteps" "[I") ∈ lw_all := lw_g (lw_at lw_m1 187 rfl) rfl
theorem q291 : (Jvm.Cond.fieldLink "JumpFence$Program" (33 : Nat) "JumpFence$Program" "bendCell" "[I") ∈ lw_all := lw_g (lw_at lw_m1 190 rfl) rfl
theorem q294 : (Jvm.Cond.fieldLink "JumpFence$Program" (36 : Nat) "JumpFence$Program" "bendTo" "[I") ∈ lw_all := lw_g (lw_at lw_m1 193 rfl) rfl
theorem q297 : (Jvm.Cond.fieldLink "JumpFence$Program" (39 : Nat) "JumpFence$Program" "rows" "[Z") ∈ lw_all := lw_g (lw_at lw_m1 196 rfl) rfl
theorem q299 : (Jvm.Cond.fieldLink "JumpFence$Program" (43 : Nat) "JumpFence$Program" "holds" "[J") ∈ lw_all := lw_g (lw_at lw_m1 198 rfl) rfl
theorem q302 : (Jvm.Cond.fieldLink "JumpFence$Program" (47 : Nat) "JumpFence$Program" "kinds" "[J") ∈ lw_all := lw_g (lw_at lw_m1 201 rfl) rfl
theorem q304 : (Jvm.Cond.fieldLink "JumpFence$Program" (50 : Nat) "JumpFence$Program" "flows" "[J") ∈ lw_all := lw_g (lw_at lw_m1 203 rfl) rfl
theorem q307 : (Jvm.Cond.fieldLink "JumpFence$Program" (53 : Nat) "JumpFence$Program" "from" "[J") ∈ lw_all := lw_g (lw_at lw_m1 206 rfl) rfl
theorem q308 : (Jvm.Cond.fieldLink "JumpFence$Program" (62 : Nat) "JumpFence$Program" "many" "I") ∈ lw_all := lw_g (lw_at lw_m1 207 rfl) rfl
theorem q311 : (Jvm.Cond.fieldLink "JumpFence$Program" (66 : Nat) "JumpFence$Program" "powerMany" "I") ∈ lw_all := lw_g (lw_at lw_m1 210 rfl) rfl
theorem q313 : (Jvm.Cond.fieldLink "JumpFence$Program" (69 : Nat) "JumpFence$Program" "harmMany" "I") ∈ lw_all := lw_g (lw_at lw_m1 212 rfl) rfl
theorem q315 : (Jvm.Cond.fieldLink "JumpFence$Program" (72 : Nat) "JumpFence$Program" "bendMany" "I") ∈ lw_all := lw_g (lw_at lw_m1 214 rfl) rfl
theorem q318 : (Jvm.Cond.fieldLink "JumpFence$Program" (110 : Nat) "JumpFence$Program" "odd" "I") ∈ lw_all := lw_g (lw_at lw_m1 217 rfl) rfl
theorem q321 : (Jvm.Cond.fieldLink "JumpFence$Program" (81 : Nat) "JumpFence$Program" "behind" "J") ∈ lw_all := lw_g (lw_at lw_m1 220 rfl) rfl
theorem q323 : (Jvm.Cond.laysFinal "JumpFence$Program" "JumpFence$Program" "orders" "[LJumpFence$Order;") ∈ lw_all := lw_g (lw_at lw_m1 222 rfl) rfl
theorem q324 : (Jvm.Cond.soleField "JumpFence$Program" "orders") ∈ lw_all := lw_g (lw_at lw_m1 223 rfl) rfl
theorem q325 : (Jvm.Cond.laysFinal "JumpFence$Program" "JumpFence$Program" "grades" "[I") ∈ lw_all := lw_g (lw_at lw_m1 224 rfl) rfl
theorem q326 : (Jvm.Cond.soleField "JumpFence$Program" "grades") ∈ lw_all := lw_g (lw_at lw_m1 225 rfl) rfl
theorem q327 : (Jvm.Cond.laysFinal "JumpFence$Program" "JumpFence$Program" "ticks" "[I") ∈ lw_all := lw_g (lw_at lw_m1 226 rfl) rfl
theorem q328 : (Jvm.Cond.soleField "JumpFence$Program" "ticks") ∈ lw_all := lw_g (lw_at lw_m1 227 rfl) rfl
theorem q329 : (Jvm.Cond.laysFinal "JumpFence$Program" "JumpFence$Program" "powers" "[I") ∈ lw_all := lw_g (lw_at lw_m1 228 rfl) rfl
theorem q330 : (Jvm.Cond.soleField "JumpFence$Program" "powers") ∈ lw_all := lw_g (lw_at lw_m1 229 rfl) rfl
theorem q331 : (Jvm.Cond.laysFinal "JumpFence$Program" "JumpFence$Program" "harms" "[I") ∈ lw_all := lw_g (lw_at lw_m1 230 rfl) rfl
theorem q332 : (Jvm.Cond.soleField "JumpFence$Program" "harms") ∈ lw_all := lw_g (lw_at lw_m1 231 rfl) rfl
theorem q333 : (Jvm.Cond.laysFinal "JumpFence$Program" "JumpFence$Program" "bendSteps" "[I") ∈ lw_all := lw_g (lw_at lw_m1 232 rfl) rfl
theorem q334 : (Jvm.Cond.soleField "JumpFence$Program" "bendSteps") ∈ lw_all := lw_g (lw_at lw_m1 233 rfl) rfl
theorem q335 : (Jvm.Cond.laysFinal "JumpFence$Program" "JumpFence$Program" "bendCell" "[I") ∈ lw_all := lw_g (lw_at lw_m1 234 rfl) rfl
theorem q336 : (Jvm.Cond.soleField "JumpFence$Program" "bendCell") ∈ lw_all := lw_g (lw_at lw_m1 235 rfl) rfl
theorem q337 : (Jvm.Cond.laysFinal "JumpFence$Program" "JumpFence$Program" "bendTo" "[I") ∈ lw_all := lw_g (lw_at lw_m1 236 rfl) rfl
theorem q338 : (Jvm.Cond.soleField "JumpFence$Program" "bendTo") ∈ lw_all := lw_g (lw_at lw_m1 237 rfl) rfl
theorem q339 : (Jvm.Cond.laysFinal "JumpFence$Program" "JumpFence$Program" "rows" "[Z") ∈ lw_all := lw_g (lw_at lw_m1 238 rfl) rfl
theorem q340 : (Jvm.Cond.soleField "JumpFence$Program" "rows") ∈ lw_all := lw_g (lw_at lw_m1 239 rfl) rfl
theorem q341 : (Jvm.Cond.laysFinal "JumpFence$Program" "JumpFence$Program" "holds" "[J") ∈ lw_all := lw_g (lw_at lw_m2 0 rfl) rfl
theorem q342 : (Jvm.Cond.soleField "JumpFence$Program" "holds") ∈ lw_all := lw_g (lw_at lw_m2 1 rfl) rfl
theorem q343 : (Jvm.Cond.laysFinal "JumpFence$Program" "JumpFence$Program" "kinds" "[J") ∈ lw_all := lw_g (lw_at lw_m2 2 rfl) rfl
theorem q344 : (Jvm.Cond.soleField "JumpFence$Program" "kinds") ∈ lw_all := lw_g (lw_at lw_m2 3 rfl) rfl
theorem q345 : (Jvm.Cond.laysFinal "JumpFence$Program" "JumpFence$Program" "flows" "[J") ∈ lw_all := lw_g (lw_at lw_m2 4 rfl) rfl
theorem q346 : (Jvm.Cond.soleField "JumpFence$Program" "flows") ∈ lw_all := lw_g (lw_at lw_m2 5 rfl) rfl
theorem q347 : (Jvm.Cond.laysFinal "JumpFence$Program" "JumpFence$Program" "from" "[J") ∈ lw_all := lw_g (lw_at lw_m2 6 rfl) rfl
theorem q348 : (Jvm.Cond.soleField "JumpFence$Program" "from") ∈ lw_all := lw_g (lw_at lw_m2 7 rfl) rfl
theorem q349 : (Jvm.Cond.lays "JumpFence$Program" "JumpFence$Program" "many" "I") ∈ lw_all := lw_g (lw_at lw_m2 8 rfl) rfl
theorem q350 : (Jvm.Cond.soleField "JumpFence$Program" "many") ∈ lw_all := lw_g (lw_at lw_m2 9 rfl) rfl
theorem q351 : (Jvm.Cond.lays "JumpFence$Program" "JumpFence$Program" "powerMany" "I") ∈ lw_all := lw_g (lw_at lw_m2 10 rfl) rfl
theorem q352 : (Jvm.Cond.soleField "JumpFence$Program" "powerMany") ∈ lw_all := lw_g (lw_at lw_m2 11 rfl) rfl
theorem q353 : (Jvm.Cond.lays "JumpFence$Program" "JumpFence$Program" "harmMany" "I") ∈ lw_all := lw_g (lw_at lw_m2 12 rfl) rfl
theorem q354 : (Jvm.Cond.soleField "JumpFence$Program" "harmMany") ∈ lw_all := lw_g (lw_at lw_m2 13 rfl) rfl
theorem q355 : (Jvm.Cond.lays "JumpFence$Program" "JumpFence$Program" "bendMany" "I") ∈ lw_all := lw_g (lw_at lw_m2 14 rfl) rfl
theorem q356 : (Jvm.Cond.soleField "JumpFence$Program" "bendMany") ∈ lw_all := lw_g (lw_at lw_m2 15 rfl) rfl
theorem q357 : (Jvm.Cond.lays "JumpFence$Program" "JumpFence$Program" "odd" "I") ∈ lw_all := lw_g (lw_at lw_m2 16 rfl) rfl
theorem q358 : (Jvm.Cond.soleField "JumpFence$Program" "odd") ∈ lw_all := lw_g (lw_at lw_m2 17 rfl) rfl
theorem q359 : (Jvm.Cond.lays "JumpFence$Program" "JumpFence$Program" "behind" "J") ∈ lw_all := lw_g (lw_at lw_m2 18 rfl) rfl
theorem q360 : (Jvm.Cond.soleField "JumpFence$Program" "behind") ∈ lw_all := lw_g (lw_at lw_m2 19 rfl) rfl
theorem q361 : (Jvm.Cond.superclass "JumpFence$Program" "java/lang/Object") ∈ lw_all := lw_g (lw_at lw_m2 20 rfl) rfl
theorem q599 : (Jvm.Cond.instanceMethod ({ cls := "JumpFence$Program", name := "lets", desc := "(II)J" } : Jvm.MethodName)) ∈ lw_all := lw_g (lw_at lw_m3 18 rfl) rfl
theorem q600 : (Jvm.Cond.selects "JumpFence$Program" ({ cls := "JumpFence$Program", name := "lets", desc := "(II)J" } : Jvm.MethodName) ({ cls := "JumpFence$Program", name := "lets", desc := "(II)J" } : Jvm.MethodName)) ∈ lw_all := lw_g (lw_at lw_m3 19 rfl) rfl
theorem q601 : (Jvm.Cond.code ({ cls := "JumpFence$Program", name := "lets", desc := "(II)J" } : Jvm.MethodName) prog_12_method_9_code (3 : Nat) (Option.some Jvm.ClassFile.FieldType.long)) ∈ lw_all := lw_g (lw_at lw_m3 20 rfl) rfl
theorem q602 : (Jvm.Cond.methodLink "JumpFence$Program" (93 : Nat) ({ cls := "JumpFence$Program", name := "all", desc := "()J" } : Jvm.MethodName)) ∈ lw_all := lw_g (lw_at lw_m3 21 rfl) rfl
theorem q603 : (Jvm.Cond.instanceMethod ({ cls := "JumpFence$Program", name := "all", desc := "()J" } : Jvm.MethodName)) ∈ lw_all := lw_g (lw_at lw_m3 22 rfl) rfl
theorem q604 : (Jvm.Cond.selects "JumpFence$Program" ({ cls := "JumpFence$Program", name := "all", desc := "()J" } : Jvm.MethodName) ({ cls := "JumpFence$Program", name := "all", desc := "()J" } : Jvm.MethodName)) ∈ lw_all := lw_g (lw_at lw_m3 23 rfl) rfl
theorem q605 : (Jvm.Cond.code ({ cls := "JumpFence$Program", name := "all", desc := "()J" } : Jvm.MethodName) prog_12_method_3_code (1 : Nat) (Option.some Jvm.ClassFile.FieldType.long)) ∈ lw_all := lw_g (lw_at lw_m3 24 rfl) rfl
theorem q730 : (Jvm.Cond.instanceMethod ({ cls := "JumpFence$Program", name := "be", desc := "(LJumpFence$Program;)V" } : Jvm.MethodName)) ∈ lw_all := lw_g (lw_at lw_m3 149 rfl) rfl
theorem q731 : (Jvm.Cond.selects "JumpFence$Program" ({ cls := "JumpFence$Program", name := "be", desc := "(LJumpFence$Program;)V" } : Jvm.MethodName) ({ cls := "JumpFence$Program", name := "be", desc := "(LJumpFence$Program;)V" } : Jvm.MethodName)) ∈ lw_all := lw_g (lw_at lw_m3 150 rfl) rfl
theorem q732 : (Jvm.Cond.code ({ cls := "JumpFence$Program", name := "be", desc := "(LJumpFence$Program;)V" } : Jvm.MethodName) prog_12_method_2_code (2 : Nat) (Option.none : Option Jvm.ClassFile.FieldType)) ∈ lw_all := lw_g (lw_at lw_m3 151 rfl) rfl
theorem q733 : (Jvm.Cond.methodLink "JumpFence$Program" (56 : Nat) ({ cls := "java/lang/System", name := "arraycopy", desc := "(Ljava/lang/Object;ILjava/lang/Object;II)V" } : Jvm.MethodName)) ∈ lw_all := lw_g (lw_at lw_m3 152 rfl) rfl
theorem q736 : (Jvm.Cond.methodLink "JumpFence$Program" (75 : Nat) ({ cls := "JumpFence$Program", name := "learns", desc := "()V" } : Jvm.MethodName)) ∈ lw_all := lw_g (lw_at lw_m3 155 rfl) rfl
theorem q737 : (Jvm.Cond.instanceMethod ({ cls := "JumpFence$Program", name := "learns", desc := "()V" } : Jvm.MethodName)) ∈ lw_all := lw_g (lw_at lw_m3 156 rfl) rfl
theorem q738 : (Jvm.Cond.selects "JumpFence$Program" ({ cls := "JumpFence$Program", name := "learns", desc := "()V" } : Jvm.MethodName) ({ cls := "JumpFence$Program", name := "learns", desc := "()V" } : Jvm.MethodName)) ∈ lw_all := lw_g (lw_at lw_m3 157 rfl) rfl
theorem q739 : (Jvm.Cond.code ({ cls := "JumpFence$Program", name := "learns", desc := "()V" } : Jvm.MethodName) prog_12_method_4_code (3 : Nat) (Option.none : Option Jvm.ClassFile.FieldType)) ∈ lw_all := lw_g (lw_at lw_m3 158 rfl) rfl
theorem q740 : (Jvm.Cond.methodLink "JumpFence$Program" (78 : Nat) ({ cls := "JumpFence$Program", name := "cells", desc := "()V" } : Jvm.MethodName)) ∈ lw_all := lw_g (lw_at lw_m3 159 rfl) rfl
theorem q741 : (Jvm.Cond.privateMethod ({ cls := "JumpFence$Program", name := "cells", desc := "()V" } : Jvm.MethodName)) ∈ lw_tbl := lw_at lw_m3 160 rfl
theorem q742 : (Jvm.Cond.instanceMethod ({ cls := "JumpFence$Program", name := "cells", desc := "()V" } : Jvm.MethodName)) ∈ lw_all := lw_g (lw_at lw_m3 161 rfl) rfl
theorem q743 : (Jvm.Cond.code ({ cls := "JumpFence$Program", name := "cells", desc := "()V" } : Jvm.MethodName) prog_12_method_5_code (3 : Nat) (Option.none : Option Jvm.ClassFile.FieldType)) ∈ lw_all := lw_g (lw_at lw_m3 162 rfl) rfl
theorem q744 : (Jvm.Cond.methodLink "JumpFence$Program" (119 : Nat) ({ cls := "JumpFence$Program", name := "moves", desc := "(LJumpFence$Order;)Z" } : Jvm.MethodName)) ∈ lw_all := lw_g (lw_at lw_m3 163 rfl) rfl
theorem q745 : (Jvm.Cond.privateMethod ({ cls := "JumpFence$Program", name := "moves", desc := "(LJumpFence$Order;)Z" } : Jvm.MethodName)) ∈ lw_tbl := lw_at lw_m3 164 rfl
theorem q746 : (Jvm.Cond.instanceMethod ({ cls := "JumpFence$Program", name := "moves", desc := "(LJumpFence$Order;)Z" } : Jvm.MethodName)) ∈ lw_all := lw_g (lw_at lw_m3 165 rfl) rfl
theorem q747 : (Jvm.Cond.code ({ cls := "JumpFence$Program", name := "moves", desc := "(LJumpFence$Order;)Z" } : Jvm.MethodName) prog_12_method_6_code (6 : Nat) (Option.some Jvm.ClassFile.FieldType.boolean)) ∈ lw_all := lw_g (lw_at lw_m3 166 rfl) rfl
theorem q748 : (Jvm.Cond.methodLink "JumpFence$Program" (97 : Nat) ({ cls := "JumpFence$Order", name := "word", desc := "()I" } : Jvm.MethodName)) ∈ lw_all := lw_g (lw_at lw_m3 167 rfl) rfl
theorem q749 : (Jvm.Cond.classLink "JumpFence$Program" (123 : Nat) "JumpFence$PointOrder") ∈ lw_all := lw_g (lw_at lw_m3 168 rfl) rfl
theorem q750 : (Jvm.Cond.methodLinkNest "JumpFence$Program" (89 : Nat) ({ cls := "JumpFence", name := "bit", desc := "(I)J" } : Jvm.MethodName) "JumpFence") ∈ lw_tbl := lw_at lw_m3 169 rfl
theorem q751 : (Jvm.Cond.classLink "JumpFence$Program" (131 : Nat) "JumpFence$SetOrder") ∈ lw_all := lw_g (lw_at lw_m3 170 rfl) rfl
theorem q752 : (Jvm.Cond.methodLink "JumpFence$Program" (134 : Nat) ({ cls := "JumpFence$SetOrder", name := "only", desc := "()I" } : Jvm.MethodName)) ∈ lw_all := lw_g (lw_at lw_m3 171 rfl) rfl
theorem q756 : (Jvm.Cond.methodLink "JumpFence$Program" (85 : Nat) ({ cls := "JumpFence$Order", name := "puts", desc := "()Z" } : Jvm.MethodName)) ∈ lw_all := lw_g (lw_at lw_m3 175 rfl) rfl
theorem q774 : (Jvm.Cond.methodLink "JumpFence$Program" (104 : Nat) ({ cls := "JumpFence$Order", name := "kind", desc := "()I" } : Jvm.MethodName)) ∈ lw_all := lw_g (lw_at lw_m3 193 rfl) rfl
theorem q790 : (Jvm.Cond.methodLink "JumpFence$Program" (107 : Nat) ({ cls := "JumpFence$Order", name := "cell", desc := "()I" } : Jvm.MethodName)) ∈ lw_all := lw_g (lw_at lw_m3 209 rfl) rfl
theorem q791 : (Jvm.Cond.methodLink "JumpFence$Program" (113 : Nat) ({ cls := "JumpFence$Program", name := "walks", desc := "(I)J" } : Jvm.MethodName)) ∈ lw_all := lw_g (lw_at lw_m3 210 rfl) rfl
theorem q792 : (Jvm.Cond.privateMethod ({ cls := "JumpFence$Program", name := "walks", desc := "(I)J" } : Jvm.MethodName)) ∈ lw_tbl := lw_at lw_m3 211 rfl
theorem q793 : (Jvm.Cond.instanceMethod ({ cls := "JumpFence$Program", name := "walks", desc := "(I)J" } : Jvm.MethodName)) ∈ lw_all := lw_g (lw_at lw_m3 212 rfl) rfl
theorem q794 : (Jvm.Cond.code ({ cls := "JumpFence$Program", name := "walks", desc := "(I)J" } : Jvm.MethodName) prog_12_method_7_code (7 : Nat) (Option.some Jvm.ClassFile.FieldType.long)) ∈ lw_all := lw_g (lw_at lw_m3 213 rfl) rfl
theorem q795 : (Jvm.Cond.methodLink "JumpFence$Program" (137 : Nat) ({ cls := "JumpFence$Order", name := "within", desc := "(LJumpFence$Program;I)J" } : Jvm.MethodName)) ∈ lw_all := lw_g (lw_at lw_m3 214 rfl) rfl
theorem q825 : (Jvm.Cond.methodLink "JumpFence$Program" (116 : Nat) ({ cls := "JumpFence$Program", name := "backs", desc := "(I)J" } : Jvm.MethodName)) ∈ lw_all := lw_g (lw_at lw_m4 4 rfl) rfl
theorem q826 : (Jvm.Cond.privateMethod ({ cls := "JumpFence$Program", name := "backs", desc := "(I)J" } : Jvm.MethodName)) ∈ lw_tbl := lw_at lw_m4 5 rfl
theorem q827 : (Jvm.Cond.instanceMethod ({ cls := "JumpFence$Program", name := "backs", desc := "(I)J" } : Jvm.MethodName)) ∈ lw_all := lw_g (lw_at lw_m4 6 rfl) rfl
theorem q828 : (Jvm.Cond.code ({ cls := "JumpFence$Program", name := "backs", desc := "(I)J" } : Jvm.MethodName) prog_12_method_8_code (8 : Nat) (Option.some Jvm.ClassFile.FieldType.long)) ∈ lw_all := lw_g (lw_at lw_m4 7 rfl) rfl
theorem q829 : (Jvm.Cond.methodLink "JumpFence$Program" (141 : Nat) ({ cls := "JumpFence$Order", name := "place", desc := "()I" } : Jvm.MethodName)) ∈ lw_all := lw_g (lw_at lw_m4 8 rfl) rfl
theorem q874 : (Jvm.Cond.instanceMethod ({ cls := "JumpFence$Program", name := "doors", desc := "(I)J" } : Jvm.MethodName)) ∈ lw_all := lw_g (lw_at lw_m4 53 rfl) rfl
theorem q875 : (Jvm.Cond.selects "JumpFence$Program" ({ cls := "JumpFence$Program", name := "doors", desc := "(I)J" } : Jvm.MethodName) ({ cls := "JumpFence$Program", name := "doors", desc := "(I)J" } : Jvm.MethodName)) ∈ lw_all := lw_g (lw_at lw_m4 54 rfl) rfl
theorem q876 : (Jvm.Cond.code ({ cls := "JumpFence$Program", name := "doors", desc := "(I)J" } : Jvm.MethodName) prog_12_method_12_code (5 : Nat) (Option.some Jvm.ClassFile.FieldType.long)) ∈ lw_all := lw_g (lw_at lw_m4 55 rfl) rfl
theorem q877 : (Jvm.Cond.classLink "JumpFence$Program" (150 : Nat) "JumpFence$DoorOrder") ∈ lw_all := lw_g (lw_at lw_m4 56 rfl) rfl
theorem q878 : (Jvm.Cond.methodLink "JumpFence$Program" (152 : Nat) ({ cls := "JumpFence$DoorOrder", name := "mayDo", desc := "(I)Z" } : Jvm.MethodName)) ∈ lw_all := lw_g (lw_at lw_m4 57 rfl) rfl
theorem q883 : (Jvm.Cond.instanceMethod ({ cls := "JumpFence$Program", name := "may", desc := "(I[II)J" } : Jvm.MethodName)) ∈ lw_all := lw_g (lw_at lw_m4 62 rfl) rfl
theorem q884 : (Jvm.Cond.selects "JumpFence$Program" ({ cls := "JumpFence$Program", name := "may", desc := "(I[II)J" } : Jvm.MethodName) ({ cls := "JumpFence$Program", name := "may", desc := "(I[II)J" } : Jvm.MethodName)) ∈ lw_all := lw_g (lw_at lw_m4 63 rfl) rfl
theorem q885 : (Jvm.Cond.code ({ cls := "JumpFence$Program", name := "may", desc := "(I[II)J" } : Jvm.MethodName) prog_12_method_10_code (4 : Nat) (Option.some Jvm.ClassFile.FieldType.long)) ∈ lw_all := lw_g (lw_at lw_m4 64 rfl) rfl
theorem q886 : (Jvm.Cond.methodLink "JumpFence$Program" (143 : Nat) ({ cls := "JumpFence$Order", name := "may", desc := "(LJumpFence$Program;I[IIZ)J" } : Jvm.MethodName)) ∈ lw_all := lw_g (lw_at lw_m4 65 rfl) rfl
theorem q1067 : (Jvm.Cond.fieldLinkNest "JumpFence$Program" (133 : Nat) "JumpFence$SetOrder" "to" "I" "JumpFence") ∈ lw_tbl := lw_at lw_m5 6 rfl
theorem q1072 : (Jvm.Cond.fieldLinkNest "JumpFence$Program" (101 : Nat) "JumpFence$Order" "entry" "I" "JumpFence") ∈ lw_tbl := lw_at lw_m5 11 rfl
theorem q1097 : (Jvm.Cond.fieldLinkNest "JumpFence$Program" (125 : Nat) "JumpFence$PointOrder" "to" "I" "JumpFence") ∈ lw_tbl := lw_at lw_m5 36 rfl
theorem q1099 : (Jvm.Cond.fieldLinkNest "JumpFence$Program" (128 : Nat) "JumpFence$PointOrder" "place" "I" "JumpFence") ∈ lw_tbl := lw_at lw_m5 38 rfl
theorem q1472 : (Jvm.Cond.instanceMethod ({ cls := "JumpFence$Program", name := "closed", desc := "([II)J" } : Jvm.MethodName)) ∈ lw_all := lw_g (lw_at lw_m6 171 rfl) rfl
theorem q1473 : (Jvm.Cond.selects "JumpFence$Program" ({ cls := "JumpFence$Program", name := "closed", desc := "([II)J" } : Jvm.MethodName) ({ cls := "JumpFence$Program", name := "closed", desc := "([II)J" } : Jvm.MethodName)) ∈ lw_all := lw_g (lw_at lw_m6 172 rfl) rfl
theorem q1474 : (Jvm.Cond.code ({ cls := "JumpFence$Program", name := "closed", desc := "([II)J" } : Jvm.MethodName) prog_12_method_11_code (8 : Nat) (Option.some Jvm.ClassFile.FieldType.long)) ∈ lw_all := lw_g (lw_at lw_m6 173 rfl) rfl
theorem q1475 : (Jvm.Cond.methodLink "JumpFence$Program" (147 : Nat) ({ cls := "JumpFence$Program", name := "may", desc := "(I[II)J" } : Jvm.MethodName)) ∈ lw_all := lw_g (lw_at lw_m6 174 rfl) rfl
theorem q2119 : (Jvm.Cond.castable "JumpFence$Program" "java/lang/Object") ∈ lw_tbl := lw_at lw_m9 98 rfl
theorem in_X4 : ∀ w ∈ wsX40, w ∈ lw_all := lw_in wsX40 [323, 325, 327, 329, 331, 333, 335, 337, 339, 341, 343, 345, 347, 349, 351, 353, 355, 357, 359] (by decide +kernel) (by decide +kernel)

/-! JumpFence$Machine -/
def RX5 : String := "JumpFence$Machine"
def TX5 : u_T := fun k => match k with
  | 0 => ("JumpFence$Machine", "p", "LJumpFence$Program;", true)
  | 1 => ("JumpFence$Machine", "cells", "[I", true)
  | 2 => ("JumpFence$Machine", "cellBend", "[I", true)
  | 3 => ("JumpFence$Machine", "row", "[I", true)
  | 4 => ("JumpFence$Machine", "second", "[I", true)
  | 5 => ("JumpFence$Machine", "rowBend", "[I", true)
  | 6 => ("JumpFence$Machine", "order", "[I", true)
  | 7 => ("JumpFence$Machine", "words", "[I", true)
  | 8 => ("JumpFence$Machine", "deep", "I", false)
  | 9 => ("JumpFence$Machine", "at", "I", false)
  | 10 => ("JumpFence$Machine", "steps", "I", false)
  | 11 => ("JumpFence$Machine", "ticks", "I", false)
  | 12 => ("JumpFence$Machine", "said", "I", false)
  | 13 => ("JumpFence$Machine", "jumps", "I", false)
  | 14 => ("JumpFence$Machine", "ends", "I", false)
  | 15 => ("JumpFence$Machine", "lead", "I", false)
  | 16 => ("JumpFence$Machine", "stopped", "I", false)
  | 17 => ("JumpFence$Machine", "firstBad", "I", false)
  | _ => ("JumpFence$Machine", "guards", "Z", false)
def tyX5 : Nat → FieldType := fun k => match k with
  | 0 => .object "JumpFence$Program"
  | 1 => .array .int
  | 2 => .array .int
  | 3 => .array .int
  | 4 => .array .int
  | 5 => .array .int
  | 6 => .array .int
  | 7 => .array .int
  | 8 => .int
  | 9 => .int
  | 10 => .int
  | 11 => .int
  | 12 => .int
  | 13 => .int
  | 14 => .int
  | 15 => .int
  | 16 => .int
  | 17 => .int
  | _ => .boolean
abbrev wsX50 : List Cond := u_ws RX5 TX5 19
set_option maxRecDepth 100000 in
theorem nmX5 : ∀ a, a < 19 → ∀ b, b < 19 → a ≠ b → (TX5 a).2.1 ≠ (TX5 b).2.1 := by decide +kernel
set_option maxRecDepth 100000 in
theorem tyX5_ok : ∀ k, k < 19 → parseFieldDescriptor (TX5 k).2.2.1 = some (tyX5 k) := by decide +kernel
abbrev cX5_init : ByteArray := prog_9_method_1_code
def yX5_init : MethodName := ⟨RX5, "<init>", "(LJumpFence$Program;)V"⟩
abbrev cX5_runs : ByteArray := prog_9_method_11_code
def yX5_runs : MethodName := ⟨RX5, "runs", "(ZZ)V"⟩
abbrev cX5_begins : ByteArray := prog_9_method_2_code
def yX5_begins : MethodName := ⟨RX5, "begins", "()V"⟩
abbrev cX5_bends : ByteArray := prog_9_method_9_code
def yX5_bends : MethodName := ⟨RX5, "bends", "()V"⟩
abbrev cX5_step : ByteArray := prog_9_method_10_code
def yX5_step : MethodName := ⟨RX5, "step", "()Z"⟩
abbrev cX5_trap : ByteArray := prog_9_method_3_code
def yX5_trap : MethodName := ⟨RX5, "trap", "()I"⟩
abbrev cX5_lands : ByteArray := prog_9_method_8_code
def yX5_lands : MethodName := ⟨RX5, "lands", "(II)I"⟩
abbrev cX5_isLet : ByteArray := prog_9_method_7_code
def yX5_isLet : MethodName := ⟨RX5, "isLet", "(II)Z"⟩
abbrev cX5_puts : ByteArray := prog_9_method_5_code
def yX5_puts : MethodName := ⟨RX5, "puts", "(I)V"⟩
abbrev cX5_says : ByteArray := prog_9_method_6_code
def yX5_says : MethodName := ⟨RX5, "says", "(I)V"⟩
abbrev cX5_writes : ByteArray := prog_9_method_4_code
def yX5_writes : MethodName := ⟨RX5, "writes", "(II)V"⟩
theorem q109 : (Jvm.Cond.initialized "JumpFence$Machine") ∈ lw_all := lw_g (lw_at lw_m1 8 rfl) rfl
theorem q276 : (Jvm.Cond.fieldLinkNest "JumpFence$Machine" (73 : Nat) "JumpFence$Program" "orders" "[LJumpFence$Order;" "JumpFence") ∈ lw_tbl := lw_at lw_m1 175 rfl
theorem q279 : (Jvm.Cond.fieldLinkNest "JumpFence$Machine" (68 : Nat) "JumpFence$Program" "grades" "[I" "JumpFence") ∈ lw_tbl := lw_at lw_m1 178 rfl
theorem q282 : (Jvm.Cond.fieldLinkNest "JumpFence$Machine" (101 : Nat) "JumpFence$Program" "ticks" "[I" "JumpFence") ∈ lw_tbl := lw_at lw_m1 181 rfl
theorem q289 : (Jvm.Cond.fieldLinkNest "JumpFence$Machine" (106 : Nat) "JumpFence$Program" "bendSteps" "[I" "JumpFence") ∈ lw_tbl := lw_at lw_m1 188 rfl
theorem q292 : (Jvm.Cond.fieldLinkNest "JumpFence$Machine" (109 : Nat) "JumpFence$Program" "bendCell" "[I" "JumpFence") ∈ lw_tbl := lw_at lw_m1 191 rfl
theorem q295 : (Jvm.Cond.fieldLinkNest "JumpFence$Machine" (112 : Nat) "JumpFence$Program" "bendTo" "[I" "JumpFence") ∈ lw_tbl := lw_at lw_m1 194 rfl
theorem q309 : (Jvm.Cond.fieldLinkNest "JumpFence$Machine" (83 : Nat) "JumpFence$Program" "many" "I" "JumpFence") ∈ lw_tbl := lw_at lw_m1 208 rfl
theorem q316 : (Jvm.Cond.fieldLinkNest "JumpFence$Machine" (103 : Nat) "JumpFence$Program" "bendMany" "I" "JumpFence") ∈ lw_tbl := lw_at lw_m1 215 rfl
theorem q366 : (Jvm.Cond.instantiable "JumpFence$Machine" (19 : Nat)) ∈ lw_all := lw_g (lw_at lw_m2 25 rfl) rfl
theorem q368 : (Jvm.Cond.instanceMethod ({ cls := "JumpFence$Machine", name := "<init>", desc := "(LJumpFence$Program;)V" } : Jvm.MethodName)) ∈ lw_all := lw_g (lw_at lw_m2 27 rfl) rfl
theorem q369 : (Jvm.Cond.code ({ cls := "JumpFence$Machine", name := "<init>", desc := "(LJumpFence$Program;)V" } : Jvm.MethodName) prog_9_method_1_code (2 : Nat) (Option.none : Option Jvm.ClassFile.FieldType)) ∈ lw_all := lw_g (lw_at lw_m2 28 rfl) rfl
theorem q370 : (Jvm.Cond.methodLink "JumpFence$Machine" (3 : Nat) ({ cls := "java/lang/Object", name := "<init>", desc := "()V" } : Jvm.MethodName)) ∈ lw_all := lw_g (lw_at lw_m2 29 rfl) rfl
theorem q371 : (Jvm.Cond.fieldLink "JumpFence$Machine" (33 : Nat) "JumpFence$Machine" "p" "LJumpFence$Program;") ∈ lw_all := lw_g (lw_at lw_m2 30 rfl) rfl
theorem q372 : (Jvm.Cond.fieldLink "JumpFence$Machine" (9 : Nat) "JumpFence$Machine" "cells" "[I") ∈ lw_all := lw_g (lw_at lw_m2 31 rfl) rfl
theorem q376 : (Jvm.Cond.fieldLink "JumpFence$Machine" (15 : Nat) "JumpFence$Machine" "cellBend" "[I") ∈ lw_all := lw_g (lw_at lw_m2 35 rfl) rfl
theorem q377 : (Jvm.Cond.fieldLink "JumpFence$Machine" (18 : Nat) "JumpFence$Machine" "row" "[I") ∈ lw_all := lw_g (lw_at lw_m2 36 rfl) rfl
theorem q380 : (Jvm.Cond.fieldLink "JumpFence$Machine" (21 : Nat) "JumpFence$Machine" "second" "[I") ∈ lw_all := lw_g (lw_at lw_m2 39 rfl) rfl
theorem q382 : (Jvm.Cond.fieldLink "JumpFence$Machine" (24 : Nat) "JumpFence$Machine" "rowBend" "[I") ∈ lw_all := lw_g (lw_at lw_m2 41 rfl) rfl
theorem q383 : (Jvm.Cond.fieldLink "JumpFence$Machine" (27 : Nat) "JumpFence$Machine" "order" "[I") ∈ lw_all := lw_g (lw_at lw_m2 42 rfl) rfl
theorem q385 : (Jvm.Cond.fieldLink "JumpFence$Machine" (30 : Nat) "JumpFence$Machine" "words" "[I") ∈ lw_all := lw_g (lw_at lw_m2 44 rfl) rfl
theorem q387 : (Jvm.Cond.fieldLink "JumpFence$Machine" (37 : Nat) "JumpFence$Machine" "deep" "I") ∈ lw_all := lw_g (lw_at lw_m2 46 rfl) rfl
theorem q392 : (Jvm.Cond.fieldLink "JumpFence$Machine" (41 : Nat) "JumpFence$Machine" "at" "I") ∈ lw_all := lw_g (lw_at lw_m2 51 rfl) rfl
theorem q394 : (Jvm.Cond.fieldLink "JumpFence$Machine" (44 : Nat) "JumpFence$Machine" "steps" "I") ∈ lw_all := lw_g (lw_at lw_m2 53 rfl) rfl
theorem q396 : (Jvm.Cond.fieldLink "JumpFence$Machine" (47 : Nat) "JumpFence$Machine" "ticks" "I") ∈ lw_all := lw_g (lw_at lw_m2 55 rfl) rfl
theorem q398 : (Jvm.Cond.fieldLink "JumpFence$Machine" (50 : Nat) "JumpFence$Machine" "said" "I") ∈ lw_all := lw_g (lw_at lw_m2 57 rfl) rfl
theorem q400 : (Jvm.Cond.fieldLink "JumpFence$Machine" (53 : Nat) "JumpFence$Machine" "jumps" "I") ∈ lw_all := lw_g (lw_at lw_m2 59 rfl) rfl
theorem q402 : (Jvm.Cond.fieldLink "JumpFence$Machine" (56 : Nat) "JumpFence$Machine" "ends" "I") ∈ lw_all := lw_g (lw_at lw_m2 61 rfl) rfl
theorem q407 : (Jvm.Cond.fieldLink "JumpFence$Machine" (59 : Nat) "JumpFence$Machine" "lead" "I") ∈ lw_all := lw_g (lw_at lw_m2 66 rfl) rfl
theorem q409 : (Jvm.Cond.fieldLink "JumpFence$Machine" (62 : Nat) "JumpFence$Machine" "stopped" "I") ∈ lw_all := lw_g (lw_at lw_m2 68 rfl) rfl
theorem q411 : (Jvm.Cond.fieldLink "JumpFence$Machine" (65 : Nat) "JumpFence$Machine" "firstBad" "I") ∈ lw_all := lw_g (lw_at lw_m2 70 rfl) rfl
theorem q413 : (Jvm.Cond.fieldLink "JumpFence$Machine" (94 : Nat) "JumpFence$Machine" "guards" "Z") ∈ lw_all := lw_g (lw_at lw_m2 72 rfl) rfl
theorem q415 : (Jvm.Cond.laysFinal "JumpFence$Machine" "JumpFence$Machine" "p" "LJumpFence$Program;") ∈ lw_all := lw_g (lw_at lw_m2 74 rfl) rfl
theorem q416 : (Jvm.Cond.soleField "JumpFence$Machine" "p") ∈ lw_all := lw_g (lw_at lw_m2 75 rfl) rfl
theorem q417 : (Jvm.Cond.laysFinal "JumpFence$Machine" "JumpFence$Machine" "cells" "[I") ∈ lw_all := lw_g (lw_at lw_m2 76 rfl) rfl
theorem q418 : (Jvm.Cond.soleField "JumpFence$Machine" "cells") ∈ lw_all := lw_g (lw_at lw_m2 77 rfl) rfl
theorem q419 : (Jvm.Cond.laysFinal "JumpFence$Machine" "JumpFence$Machine" "cellBend" "[I") ∈ lw_all := lw_g (lw_at lw_m2 78 rfl) rfl
theorem q420 : (Jvm.Cond.soleField "JumpFence$Machine" "cellBend") ∈ lw_all := lw_g (lw_at lw_m2 79 rfl) rfl
theorem q421 : (Jvm.Cond.laysFinal "JumpFence$Machine" "JumpFence$Machine" "row" "[I") ∈ lw_all := lw_g (lw_at lw_m2 80 rfl) rfl
theorem q422 : (Jvm.Cond.soleField "JumpFence$Machine" "row") ∈ lw_all := lw_g (lw_at lw_m2 81 rfl) rfl
theorem q423 : (Jvm.Cond.laysFinal "JumpFence$Machine" "JumpFence$Machine" "second" "[I") ∈ lw_all := lw_g (lw_at lw_m2 82 rfl) rfl
theorem q424 : (Jvm.Cond.soleField "JumpFence$Machine" "second") ∈ lw_all := lw_g (lw_at lw_m2 83 rfl) rfl
theorem q425 : (Jvm.Cond.laysFinal "JumpFence$Machine" "JumpFence$Machine" "rowBend" "[I") ∈ lw_all := lw_g (lw_at lw_m2 84 rfl) rfl
theorem q426 : (Jvm.Cond.soleField "JumpFence$Machine" "rowBend") ∈ lw_all := lw_g (lw_at lw_m2 85 rfl) rfl
theorem q427 : (Jvm.Cond.laysFinal "JumpFence$Machine" "JumpFence$Machine" "order" "[I") ∈ lw_all := lw_g (lw_at lw_m2 86 rfl) rfl
theorem q428 : (Jvm.Cond.soleField "JumpFence$Machine" "order") ∈ lw_all := lw_g (lw_at lw_m2 87 rfl) rfl
theorem q429 : (Jvm.Cond.laysFinal "JumpFence$Machine" "JumpFence$Machine" "words" "[I") ∈ lw_all := lw_g (lw_at lw_m2 88 rfl) rfl
theorem q430 : (Jvm.Cond.soleField "JumpFence$Machine" "words") ∈ lw_all := lw_g (lw_at lw_m2 89 rfl) rfl
theorem q431 : (Jvm.Cond.lays "JumpFence$Machine" "JumpFence$Machine" "deep" "I") ∈ lw_all := lw_g (lw_at lw_m2 90 rfl) rfl
theorem q432 : (Jvm.Cond.soleField "JumpFence$Machine" "deep") ∈ lw_all := lw_g (lw_at lw_m2 91 rfl) rfl
theorem q433 : (Jvm.Cond.lays "JumpFence$Machine" "JumpFence$Machine" "at" "I") ∈ lw_all := lw_g (lw_at lw_m2 92 rfl) rfl
theorem q434 : (Jvm.Cond.soleField "JumpFence$Machine" "at") ∈ lw_all := lw_g (lw_at lw_m2 93 rfl) rfl
theorem q435 : (Jvm.Cond.lays "JumpFence$Machine" "JumpFence$Machine" "steps" "I") ∈ lw_all := lw_g (lw_at lw_m2 94 rfl) rfl
theorem q436 : (Jvm.Cond.soleField "JumpFence$Machine" "steps") ∈ lw_all := lw_g (lw_at lw_m2 95 rfl) rfl
theorem q437 : (Jvm.Cond.lays "JumpFence$Machine" "JumpFence$Machine" "ticks" "I") ∈ lw_all := lw_g (lw_at lw_m2 96 rfl) rfl
theorem q438 : (Jvm.Cond.soleField "JumpFence$Machine" "ticks") ∈ lw_all := lw_g (lw_at lw_m2 97 rfl) rfl
theorem q439 : (Jvm.Cond.lays "JumpFence$Machine" "JumpFence$Machine" "said" "I") ∈ lw_all := lw_g (lw_at lw_m2 98 rfl) rfl
theorem q440 : (Jvm.Cond.soleField "JumpFence$Machine" "said") ∈ lw_all := lw_g (lw_at lw_m2 99 rfl) rfl
theorem q441 : (Jvm.Cond.lays "JumpFence$Machine" "JumpFence$Machine" "jumps" "I") ∈ lw_all := lw_g (lw_at lw_m2 100 rfl) rfl
theorem q442 : (Jvm.Cond.soleField "JumpFence$Machine" "jumps") ∈ lw_all := lw_g (lw_at lw_m2 101 rfl) rfl
theorem q443 : (Jvm.Cond.lays "JumpFence$Machine" "JumpFence$Machine" "ends" "I") ∈ lw_all := lw_g (lw_at lw_m2 102 rfl) rfl
theorem q444 : (Jvm.Cond.soleField "JumpFence$Machine" "ends") ∈ lw_all := lw_g (lw_at lw_m2 103 rfl) rfl
theorem q445 : (Jvm.Cond.lays "JumpFence$Machine" "JumpFence$Machine" "lead" "I") ∈ lw_all := lw_g (lw_at lw_m2 104 rfl) rfl
theorem q446 : (Jvm.Cond.soleField "JumpFence$Machine" "lead") ∈ lw_all := lw_g (lw_at lw_m2 105 rfl) rfl
theorem q447 : (Jvm.Cond.lays "JumpFence$Machine" "JumpFence$Machine" "stopped" "I") ∈ lw_all := lw_g (lw_at lw_m2 106 rfl) rfl
theorem q448 : (Jvm.Cond.soleField "JumpFence$Machine" "stopped") ∈ lw_all := lw_g (lw_at lw_m2 107 rfl) rfl
theorem q449 : (Jvm.Cond.lays "JumpFence$Machine" "JumpFence$Machine" "firstBad" "I") ∈ lw_all := lw_g (lw_at lw_m2 108 rfl) rfl
theorem q450 : (Jvm.Cond.soleField "JumpFence$Machine" "firstBad") ∈ lw_all := lw_g (lw_at lw_m2 109 rfl) rfl
theorem q451 : (Jvm.Cond.lays "JumpFence$Machine" "JumpFence$Machine" "guards" "Z") ∈ lw_all := lw_g (lw_at lw_m2 110 rfl) rfl
theorem q452 : (Jvm.Cond.soleField "JumpFence$Machine" "guards") ∈ lw_all := lw_g (lw_at lw_m2 111 rfl) rfl
theorem q453 : (Jvm.Cond.superclass "JumpFence$Machine" "java/lang/Object") ∈ lw_all := lw_g (lw_at lw_m2 112 rfl) rfl
theorem q531 : (Jvm.Cond.instanceMethod ({ cls := "JumpFence$Machine", name := "runs", desc := "(ZZ)V" } : Jvm.MethodName)) ∈ lw_all := lw_g (lw_at lw_m2 190 rfl) rfl
theorem q532 : (Jvm.Cond.selects "JumpFence$Machine" ({ cls := "JumpFence$Machine", name := "runs", desc := "(ZZ)V" } : Jvm.MethodName) ({ cls := "JumpFence$Machine", name := "runs", desc := "(ZZ)V" } : Jvm.MethodName)) ∈ lw_all := lw_g (lw_at lw_m2 191 rfl) rfl
theorem q533 : (Jvm.Cond.code ({ cls := "JumpFence$Machine", name := "runs", desc := "(ZZ)V" } : Jvm.MethodName) prog_9_method_11_code (4 : Nat) (Option.none : Option Jvm.ClassFile.FieldType)) ∈ lw_all := lw_g (lw_at lw_m2 192 rfl) rfl
theorem q534 : (Jvm.Cond.methodLink "JumpFence$Machine" (122 : Nat) ({ cls := "JumpFence$Machine", name := "begins", desc := "()V" } : Jvm.MethodName)) ∈ lw_all := lw_g (lw_at lw_m2 193 rfl) rfl
theorem q535 : (Jvm.Cond.instanceMethod ({ cls := "JumpFence$Machine", name := "begins", desc := "()V" } : Jvm.MethodName)) ∈ lw_all := lw_g (lw_at lw_m2 194 rfl) rfl
theorem q536 : (Jvm.Cond.selects "JumpFence$Machine" ({ cls := "JumpFence$Machine", name := "begins", desc := "()V" } : Jvm.MethodName) ({ cls := "JumpFence$Machine", name := "begins", desc := "()V" } : Jvm.MethodName)) ∈ lw_all := lw_g (lw_at lw_m2 195 rfl) rfl
theorem q537 : (Jvm.Cond.code ({ cls := "JumpFence$Machine", name := "begins", desc := "()V" } : Jvm.MethodName) prog_9_method_2_code (2 : Nat) (Option.none : Option Jvm.ClassFile.FieldType)) ∈ lw_all := lw_g (lw_at lw_m2 196 rfl) rfl
theorem q538 : (Jvm.Cond.methodLink "JumpFence$Machine" (125 : Nat) ({ cls := "JumpFence$Machine", name := "bends", desc := "()V" } : Jvm.MethodName)) ∈ lw_all := lw_g (lw_at lw_m2 197 rfl) rfl
theorem q539 : (Jvm.Cond.privateMethod ({ cls := "JumpFence$Machine", name := "bends", desc := "()V" } : Jvm.MethodName)) ∈ lw_tbl := lw_at lw_m2 198 rfl
theorem q540 : (Jvm.Cond.instanceMethod ({ cls := "JumpFence$Machine", name := "bends", desc := "()V" } : Jvm.MethodName)) ∈ lw_all := lw_g (lw_at lw_m2 199 rfl) rfl
theorem q541 : (Jvm.Cond.code ({ cls := "JumpFence$Machine", name := "bends", desc := "()V" } : Jvm.MethodName) prog_9_method_9_code (2 : Nat) (Option.none : Option Jvm.ClassFile.FieldType)) ∈ lw_all := lw_g (lw_at lw_m2 200 rfl) rfl
theorem q542 : (Jvm.Cond.methodLink "JumpFence$Machine" (128 : Nat) ({ cls := "JumpFence$Machine", name := "step", desc := "()Z" } : Jvm.MethodName)) ∈ lw_all := lw_g (lw_at lw_m2 201 rfl) rfl
theorem q543 : (Jvm.Cond.instanceMethod ({ cls := "JumpFence$Machine", name := "step", desc := "()Z" } : Jvm.MethodName)) ∈ lw_all := lw_g (lw_at lw_m2 202 rfl) rfl
theorem q544 : (Jvm.Cond.selects "JumpFence$Machine" ({ cls := "JumpFence$Machine", name := "step", desc := "()Z" } : Jvm.MethodName) ({ cls := "JumpFence$Machine", name := "step", desc := "()Z" } : Jvm.MethodName)) ∈ lw_all := lw_g (lw_at lw_m2 203 rfl) rfl
theorem q545 : (Jvm.Cond.code ({ cls := "JumpFence$Machine", name := "step", desc := "()Z" } : Jvm.MethodName) prog_9_method_10_code (3 : Nat) (Option.some Jvm.ClassFile.FieldType.boolean)) ∈ lw_all := lw_g (lw_at lw_m2 204 rfl) rfl
theorem q546 : (Jvm.Cond.methodLink "JumpFence$Machine" (115 : Nat) ({ cls := "JumpFence$Machine", name := "trap", desc := "()I" } : Jvm.MethodName)) ∈ lw_all := lw_g (lw_at lw_m2 205 rfl) rfl
theorem q547 : (Jvm.Cond.instanceMethod ({ cls := "JumpFence$Machine", name := "trap", desc := "()I" } : Jvm.MethodName)) ∈ lw_all := lw_g (lw_at lw_m2 206 rfl) rfl
theorem q548 : (Jvm.Cond.selects "JumpFence$Machine" ({ cls := "JumpFence$Machine", name := "trap", desc := "()I" } : Jvm.MethodName) ({ cls := "JumpFence$Machine", name := "trap", desc := "()I" } : Jvm.MethodName)) ∈ lw_all := lw_g (lw_at lw_m2 207 rfl) rfl
theorem q549 : (Jvm.Cond.code ({ cls := "JumpFence$Machine", name := "trap", desc := "()I" } : Jvm.MethodName) prog_9_method_3_code (1 : Nat) (Option.some Jvm.ClassFile.FieldType.int)) ∈ lw_all := lw_g (lw_at lw_m2 208 rfl) rfl
theorem q550 : (Jvm.Cond.methodLink "JumpFence$Machine" (118 : Nat) ({ cls := "JumpFence$Order", name := "does", desc := "(LJumpFence$Machine;I)I" } : Jvm.MethodName)) ∈ lw_all := lw_g (lw_at lw_m2 209 rfl) rfl
theorem q558 : (Jvm.Cond.instanceMethod ({ cls := "JumpFence$Machine", name := "lands", desc := "(II)I" } : Jvm.MethodName)) ∈ lw_all := lw_g (lw_at lw_m2 217 rfl) rfl
theorem q559 : (Jvm.Cond.selects "JumpFence$Machine" ({ cls := "JumpFence$Machine", name := "lands", desc := "(II)I" } : Jvm.MethodName) ({ cls := "JumpFence$Machine", name := "lands", desc := "(II)I" } : Jvm.MethodName)) ∈ lw_all := lw_g (lw_at lw_m2 218 rfl) rfl
theorem q560 : (Jvm.Cond.code ({ cls := "JumpFence$Machine", name := "lands", desc := "(II)I" } : Jvm.MethodName) prog_9_method_8_code (3 : Nat) (Option.some Jvm.ClassFile.FieldType.int)) ∈ lw_all := lw_g (lw_at lw_m2 219 rfl) rfl
theorem q561 : (Jvm.Cond.methodLink "JumpFence$Machine" (90 : Nat) ({ cls := "JumpFence$Machine", name := "isLet", desc := "(II)Z" } : Jvm.MethodName)) ∈ lw_all := lw_g (lw_at lw_m2 220 rfl) rfl
theorem q562 : (Jvm.Cond.privateMethod ({ cls := "JumpFence$Machine", name := "isLet", desc := "(II)Z" } : Jvm.MethodName)) ∈ lw_tbl := lw_at lw_m2 221 rfl
theorem q563 : (Jvm.Cond.instanceMethod ({ cls := "JumpFence$Machine", name := "isLet", desc := "(II)Z" } : Jvm.MethodName)) ∈ lw_all := lw_g (lw_at lw_m2 222 rfl) rfl
theorem q564 : (Jvm.Cond.code ({ cls := "JumpFence$Machine", name := "isLet", desc := "(II)Z" } : Jvm.MethodName) prog_9_method_7_code (5 : Nat) (Option.some Jvm.ClassFile.FieldType.boolean)) ∈ lw_all := lw_g (lw_at lw_m2 223 rfl) rfl
theorem q565 : (Jvm.Cond.methodLink "JumpFence$Machine" (77 : Nat) ({ cls := "JumpFence$Order", name := "word", desc := "()I" } : Jvm.MethodName)) ∈ lw_all := lw_g (lw_at lw_m2 224 rfl) rfl
theorem q598 : (Jvm.Cond.methodLink "JumpFence$Machine" (86 : Nat) ({ cls := "JumpFence$Program", name := "lets", desc := "(II)J" } : Jvm.MethodName)) ∈ lw_all := lw_g (lw_at lw_m3 17 rfl) rfl
theorem q606 : (Jvm.Cond.methodLink "JumpFence$Machine" (98 : Nat) ({ cls := "JumpFence$Order", name := "cell", desc := "()I" } : Jvm.MethodName)) ∈ lw_all := lw_g (lw_at lw_m3 25 rfl) rfl
theorem q632 : (Jvm.Cond.instanceMethod ({ cls := "JumpFence$Machine", name := "puts", desc := "(I)V" } : Jvm.MethodName)) ∈ lw_all := lw_g (lw_at lw_m3 51 rfl) rfl
theorem q633 : (Jvm.Cond.selects "JumpFence$Machine" ({ cls := "JumpFence$Machine", name := "puts", desc := "(I)V" } : Jvm.MethodName) ({ cls := "JumpFence$Machine", name := "puts", desc := "(I)V" } : Jvm.MethodName)) ∈ lw_all := lw_g (lw_at lw_m3 52 rfl) rfl
theorem q634 : (Jvm.Cond.code ({ cls := "JumpFence$Machine", name := "puts", desc := "(I)V" } : Jvm.MethodName) prog_9_method_5_code (2 : Nat) (Option.none : Option Jvm.ClassFile.FieldType)) ∈ lw_all := lw_g (lw_at lw_m3 53 rfl) rfl
theorem q648 : (Jvm.Cond.instanceMethod ({ cls := "JumpFence$Machine", name := "says", desc := "(I)V" } : Jvm.MethodName)) ∈ lw_all := lw_g (lw_at lw_m3 67 rfl) rfl
theorem q649 : (Jvm.Cond.selects "JumpFence$Machine" ({ cls := "JumpFence$Machine", name := "says", desc := "(I)V" } : Jvm.MethodName) ({ cls := "JumpFence$Machine", name := "says", desc := "(I)V" } : Jvm.MethodName)) ∈ lw_all := lw_g (lw_at lw_m3 68 rfl) rfl
theorem q650 : (Jvm.Cond.code ({ cls := "JumpFence$Machine", name := "says", desc := "(I)V" } : Jvm.MethodName) prog_9_method_6_code (2 : Nat) (Option.none : Option Jvm.ClassFile.FieldType)) ∈ lw_all := lw_g (lw_at lw_m3 69 rfl) rfl
theorem q665 : (Jvm.Cond.instanceMethod ({ cls := "JumpFence$Machine", name := "writes", desc := "(II)V" } : Jvm.MethodName)) ∈ lw_all := lw_g (lw_at lw_m3 84 rfl) rfl
theorem q666 : (Jvm.Cond.selects "JumpFence$Machine" ({ cls := "JumpFence$Machine", name := "writes", desc := "(II)V" } : Jvm.MethodName) ({ cls := "JumpFence$Machine", name := "writes", desc := "(II)V" } : Jvm.MethodName)) ∈ lw_all := lw_g (lw_at lw_m3 85 rfl) rfl
theorem q667 : (Jvm.Cond.code ({ cls := "JumpFence$Machine", name := "writes", desc := "(II)V" } : Jvm.MethodName) prog_9_method_4_code (3 : Nat) (Option.none : Option Jvm.ClassFile.FieldType)) ∈ lw_all := lw_g (lw_at lw_m3 86 rfl) rfl
theorem q2120 : (Jvm.Cond.castable "JumpFence$Machine" "java/lang/Object") ∈ lw_tbl := lw_at lw_m9 99 rfl
theorem in_X5 : ∀ w ∈ wsX50, w ∈ lw_all := lw_in wsX50 [415, 417, 419, 421, 423, 425, 427, 429, 431, 433, 435, 437, 439, 441, 443, 445, 447, 449, 451] (by decide +kernel) (by decide +kernel)

/-! JumpFenceModel -/
def RX6 : String := "JumpFenceModel"
def TX6 : u_T := fun k => match k with
  | 0 => ("JumpFenceModel", "thrown", "I", false)
  | 1 => ("JumpFenceModel", "world", "[I", true)
  | 2 => ("JumpFenceModel", "image", "[I", true)
  | 3 => ("JumpFenceModel", "hasImage", "Z", false)
  | 4 => ("JumpFenceModel", "tape", "[B", true)
  | 5 => ("JumpFenceModel", "taped", "I", false)
  | 6 => ("JumpFenceModel", "point", "I", false)
  | 7 => ("JumpFenceModel", "end", "I", false)
  | 8 => ("JumpFenceModel", "begin", "I", false)
  | 9 => ("JumpFenceModel", "faultAt", "I", false)
  | 10 => ("JumpFenceModel", "five", "[I", true)
  | 11 => ("JumpFenceModel", "draft", "[I", true)
  | 12 => ("JumpFenceModel", "holds", "[J", true)
  | 13 => ("JumpFenceModel", "odd", "[Z", true)
  | 14 => ("JumpFenceModel", "kindLets", "[J", true)
  | 15 => ("JumpFenceModel", "flowLets", "[J", true)
  | 16 => ("JumpFenceModel", "cell", "[I", true)
  | 17 => ("JumpFenceModel", "cellBy", "[I", true)
  | 18 => ("JumpFenceModel", "row", "[I", true)
  | 19 => ("JumpFenceModel", "rowBy", "[I", true)
  | 20 => ("JumpFenceModel", "second", "[I", true)
  | 21 => ("JumpFenceModel", "rowMany", "I", false)
  | 22 => ("JumpFenceModel", "did", "[I", true)
  | 23 => ("JumpFenceModel", "said", "[I", true)
  | 24 => ("JumpFenceModel", "steps", "I", false)
  | 25 => ("JumpFenceModel", "saidMany", "I", false)
  | 26 => ("JumpFenceModel", "ended", "I", false)
  | 27 => ("JumpFenceModel", "next", "I", false)
  | 28 => ("JumpFenceModel", "spentTicks", "I", false)
  | 29 => ("JumpFenceModel", "jumps", "I", false)
  | 30 => ("JumpFenceModel", "lead", "I", false)
  | 31 => ("JumpFenceModel", "stopped", "I", false)
  | 32 => ("JumpFenceModel", "firstBad", "I", false)
  | 33 => ("JumpFenceModel", "letsNow", "[J", true)
  | 34 => ("JumpFenceModel", "gradeOf", "[I", true)
  | 35 => ("JumpFenceModel", "may", "[J", true)
  | 36 => ("JumpFenceModel", "path", "[I", true)
  | 37 => ("JumpFenceModel", "far", "[I", true)
  | 38 => ("JumpFenceModel", "pathMany", "I", false)
  | 39 => ("JumpFenceModel", "chosen", "[I", true)
  | 40 => ("JumpFenceModel", "chosenBest", "[I", true)
  | 41 => ("JumpFenceModel", "jumpAt", "[I", true)
  | 42 => ("JumpFenceModel", "jumpMany", "I", false)
  | 43 => ("JumpFenceModel", "leastTicks", "I", false)
  | 44 => ("JumpFenceModel", "guardLets", "[J", true)
  | 45 => ("JumpFenceModel", "guards", "I", false)
  | 46 => ("JumpFenceModel", "mark", "[I", true)
  | 47 => ("JumpFenceModel", "heapLets", "[J", true)
  | 48 => ("JumpFenceModel", "heapMany", "[I", true)
  | _ => ("JumpFenceModel", "leastMore", "I", false)
def tyX6 : Nat → FieldType := fun k => match k with
  | 0 => .int
  | 1 => .array .int
  | 2 => .array .int
  | 3 => .boolean
  | 4 => .array .byte
  | 5 => .int
  | 6 => .int
  | 7 => .int
  | 8 => .int
  | 9 => .int
  | 10 => .array .int
  | 11 => .array .int
  | 12 => .array .long
  | 13 => .array .boolean
  | 14 => .array .long
  | 15 => .array .long
  | 16 => .array .int
  | 17 => .array .int
  | 18 => .array .int
  | 19 => .array .int
  | 20 => .array .int
  | 21 => .int
  | 22 => .array .int
  | 23 => .array .int
  | 24 => .int
  | 25 => .int
  | 26 => .int
  | 27 => .int
  | 28 => .int
  | 29 => .int
  | 30 => .int
  | 31 => .int
  | 32 => .int
  | 33 => .array .long
  | 34 => .array .int
  | 35 => .array .long
  | 36 => .array .int
  | 37 => .array .int
  | 38 => .int
  | 39 => .array .int
  | 40 => .array .int
  | 41 => .array .int
  | 42 => .int
  | 43 => .int
  | 44 => .array .long
  | 45 => .int
  | 46 => .array .int
  | 47 => .array .long
  | 48 => .array .int
  | _ => .int
abbrev wsX60 : List Cond := u_ws RX6 TX6 50
set_option maxRecDepth 100000 in
theorem nmX6 : ∀ a, a < 50 → ∀ b, b < 50 → a ≠ b → (TX6 a).2.1 ≠ (TX6 b).2.1 := by decide +kernel
set_option maxRecDepth 100000 in
theorem tyX6_ok : ∀ k, k < 50 → parseFieldDescriptor (TX6 k).2.2.1 = some (tyX6 k) := by decide +kernel
abbrev cX6_thrown : ByteArray := prog_19_method_1_code
def yX6_thrown : MethodName := ⟨RX6, "thrown", "()I"⟩
abbrev cX6_init : ByteArray := prog_19_method_4_code
def yX6_init : MethodName := ⟨RX6, "<init>", "()V"⟩
abbrev cX6_image : ByteArray := prog_19_method_5_code
def yX6_image : MethodName := ⟨RX6, "image", "()V"⟩
abbrev cX6_back : ByteArray := prog_19_method_6_code
def yX6_back : MethodName := ⟨RX6, "back", "()Z"⟩
abbrev cX6_feed : ByteArray := prog_19_method_15_code
def yX6_feed : MethodName := ⟨RX6, "feed", "(IIIII)I"⟩
abbrev cX6_end : ByteArray := prog_19_method_16_code
def yX6_end : MethodName := ⟨RX6, "end", "(I)Z"⟩
abbrev cX6_fault : ByteArray := prog_19_method_26_code
def yX6_fault : MethodName := ⟨RX6, "fault", "()I"⟩
abbrev cX6_load : ByteArray := prog_19_method_36_code
def yX6_load : MethodName := ⟨RX6, "load", "()I"⟩
abbrev cX6_uses : ByteArray := prog_19_method_17_code
def yX6_uses : MethodName := ⟨RX6, "uses", "()V"⟩
abbrev cX6_readAll : ByteArray := prog_19_method_35_code
def yX6_readAll : MethodName := ⟨RX6, "readAll", "()I"⟩
abbrev cX6_blanks : ByteArray := prog_19_method_19_code
def yX6_blanks : MethodName := ⟨RX6, "blanks", "()V"⟩
abbrev cX6_isAt : ByteArray := prog_19_method_18_code
def yX6_isAt : MethodName := ⟨RX6, "isAt", "(II)Z"⟩
abbrev cX6_readOrder : ByteArray := prog_19_method_34_code
def yX6_readOrder : MethodName := ⟨RX6, "readOrder", "(I)Z"⟩
abbrev cX6_letters : ByteArray := prog_19_method_20_code
def yX6_letters : MethodName := ⟨RX6, "letters", "()V"⟩
abbrev cX6_orders : ByteArray := prog_19_method_7_code
def yX6_orders : MethodName := ⟨RX6, "orders", "()I"⟩
abbrev cX6_isWord : ByteArray := prog_19_method_21_code
def yX6_isWord : MethodName := ⟨RX6, "isWord", "(Ljava/lang/String;)Z"⟩
abbrev cX6_number : ByteArray := prog_19_method_25_code
def yX6_number : MethodName := ⟨RX6, "number", "(I)I"⟩
abbrev cX6_tells : ByteArray := prog_19_method_27_code
def yX6_tells : MethodName := ⟨RX6, "tells", "(II)Z"⟩
abbrev cX6_wordAt : ByteArray := prog_19_method_33_code
def yX6_wordAt : MethodName := ⟨RX6, "wordAt", "()I"⟩
abbrev cX6_readAtom : ByteArray := prog_19_method_29_code
def yX6_readAtom : MethodName := ⟨RX6, "readAtom", "()I"⟩
abbrev cX6_readIf : ByteArray := prog_19_method_32_code
def yX6_readIf : MethodName := ⟨RX6, "readIf", "(I)Z"⟩
abbrev cX6_readSign : ByteArray := prog_19_method_30_code
def yX6_readSign : MethodName := ⟨RX6, "readSign", "(Z)I"⟩
abbrev cX6_sign : ByteArray := prog_19_method_24_code
def yX6_sign : MethodName := ⟨RX6, "sign", "(I)Z"⟩
abbrev cX6_needs : ByteArray := prog_19_method_23_code
def yX6_needs : MethodName := ⟨RX6, "needs", "(Ljava/lang/String;)Z"⟩
abbrev cX6_readCell : ByteArray := prog_19_method_28_code
def yX6_readCell : MethodName := ⟨RX6, "readCell", "()I"⟩
abbrev cX6_readSum : ByteArray := prog_19_method_31_code
def yX6_readSum : MethodName := ⟨RX6, "readSum", "(I)Z"⟩
abbrev cX6_passes : ByteArray := prog_19_method_22_code
def yX6_passes : MethodName := ⟨RX6, "passes", "(Ljava/lang/String;)Z"⟩
abbrev cX6_throwsIf : ByteArray := prog_19_method_2_code
def yX6_throwsIf : MethodName := ⟨RX6, "throwsIf", "(ZI)Z"⟩
abbrev cX6_order : ByteArray := prog_19_method_37_code
def yX6_order : MethodName := ⟨RX6, "order", "(II)I"⟩
abbrev cX6_noOrder : ByteArray := prog_19_method_10_code
def yX6_noOrder : MethodName := ⟨RX6, "noOrder", "(I)Z"⟩
abbrev cX6_in : ByteArray := prog_19_method_3_code
def yX6_in : MethodName := ⟨RX6, "in", "(III)Z"⟩
abbrev cX6_of : ByteArray := prog_19_method_8_code
def yX6_of : MethodName := ⟨RX6, "of", "(II)I"⟩
abbrev cX6_grade : ByteArray := prog_19_method_38_code
def yX6_grade : MethodName := ⟨RX6, "grade", "(II)Z"⟩
abbrev cX6_isJump : ByteArray := prog_19_method_11_code
def yX6_isJump : MethodName := ⟨RX6, "isJump", "(I)Z"⟩
abbrev cX6_wordOf : ByteArray := prog_19_method_9_code
def yX6_wordOf : MethodName := ⟨RX6, "wordOf", "(I)I"⟩
abbrev cX6_ticks : ByteArray := prog_19_method_39_code
def yX6_ticks : MethodName := ⟨RX6, "ticks", "(II)V"⟩
abbrev cX6_landings : ByteArray := prog_19_method_49_code
def yX6_landings : MethodName := ⟨RX6, "landings", "(IZ)J"⟩
abbrev cX6_noJump : ByteArray := prog_19_method_48_code
def yX6_noJump : MethodName := ⟨RX6, "noJump", "(I)Z"⟩
abbrev cX6_flows : ByteArray := prog_19_method_40_code
def yX6_flows : MethodName := ⟨RX6, "flows", "()V"⟩
abbrev cX6_byKind : ByteArray := prog_19_method_43_code
def yX6_byKind : MethodName := ⟨RX6, "byKind", "(I)J"⟩
abbrev cX6_behind : ByteArray := prog_19_method_42_code
def yX6_behind : MethodName := ⟨RX6, "behind", "()J"⟩
abbrev cX6_isCall : ByteArray := prog_19_method_12_code
def yX6_isCall : MethodName := ⟨RX6, "isCall", "(I)Z"⟩
abbrev cX6_ofKind : ByteArray := prog_19_method_41_code
def yX6_ofKind : MethodName := ⟨RX6, "ofKind", "(I)J"⟩
abbrev cX6_byFlow : ByteArray := prog_19_method_46_code
def yX6_byFlow : MethodName := ⟨RX6, "byFlow", "(I)J"⟩
abbrev cX6_throughFlow : ByteArray := prog_19_method_44_code
def yX6_throughFlow : MethodName := ⟨RX6, "throughFlow", "(I)J"⟩
abbrev cX6_all : ByteArray := prog_19_method_14_code
def yX6_all : MethodName := ⟨RX6, "all", "()J"⟩
abbrev cX6_comesTo : ByteArray := prog_19_method_45_code
def yX6_comesTo : MethodName := ⟨RX6, "comesTo", "(I)J"⟩
abbrev cX6_lets : ByteArray := prog_19_method_50_code
def yX6_lets : MethodName := ⟨RX6, "lets", "(I)J"⟩
abbrev cX6_letsBy : ByteArray := prog_19_method_47_code
def yX6_letsBy : MethodName := ⟨RX6, "letsBy", "(II)J"⟩
abbrev cX6_holds : ByteArray := prog_19_method_52_code
def yX6_holds : MethodName := ⟨RX6, "holds", "(I)J"⟩
abbrev cX6_noCell : ByteArray := prog_19_method_51_code
def yX6_noCell : MethodName := ⟨RX6, "noCell", "(I)Z"⟩
abbrev cX6_odd : ByteArray := prog_19_method_53_code
def yX6_odd : MethodName := ⟨RX6, "odd", "(I)Z"⟩
abbrev cX6_bend : ByteArray := prog_19_method_54_code
def yX6_bend : MethodName := ⟨RX6, "bend", "(III)I"⟩
abbrev cX6_straight : ByteArray := prog_19_method_55_code
def yX6_straight : MethodName := ⟨RX6, "straight", "()I"⟩
abbrev cX6_run : ByteArray := prog_19_method_68_code
def yX6_run : MethodName := ⟨RX6, "run", "(ZI)I"⟩
abbrev cX6_runs : ByteArray := prog_19_method_67_code
def yX6_runs : MethodName := ⟨RX6, "runs", "(ZZ)V"⟩
abbrev cX6_begins : ByteArray := prog_19_method_66_code
def yX6_begins : MethodName := ⟨RX6, "begins", "()V"⟩
abbrev cX6_bendsNow : ByteArray := prog_19_method_65_code
def yX6_bendsNow : MethodName := ⟨RX6, "bendsNow", "()V"⟩
abbrev cX6_isTrapped : ByteArray := prog_19_method_59_code
def yX6_isTrapped : MethodName := ⟨RX6, "isTrapped", "(I)Z"⟩
abbrev cX6_sumOf : ByteArray := prog_19_method_57_code
def yX6_sumOf : MethodName := ⟨RX6, "sumOf", "(I)J"⟩
abbrev cX6_valueOf : ByteArray := prog_19_method_56_code
def yX6_valueOf : MethodName := ⟨RX6, "valueOf", "(I)I"⟩
abbrev cX6_isGuarded : ByteArray := prog_19_method_61_code
def yX6_isGuarded : MethodName := ⟨RX6, "isGuarded", "(I)Z"⟩
abbrev cX6_landingOf : ByteArray := prog_19_method_60_code
def yX6_landingOf : MethodName := ⟨RX6, "landingOf", "(I)I"⟩
abbrev cX6_has : ByteArray := prog_19_method_13_code
def yX6_has : MethodName := ⟨RX6, "has", "(JI)Z"⟩
abbrev cX6_does : ByteArray := prog_19_method_64_code
def yX6_does : MethodName := ⟨RX6, "does", "(I)I"⟩
abbrev cX6_writes : ByteArray := prog_19_method_63_code
def yX6_writes : MethodName := ⟨RX6, "writes", "(II)V"⟩
abbrev cX6_isSo : ByteArray := prog_19_method_58_code
def yX6_isSo : MethodName := ⟨RX6, "isSo", "(I)Z"⟩
abbrev cX6_keepsPlace : ByteArray := prog_19_method_62_code
def yX6_keepsPlace : MethodName := ⟨RX6, "keepsPlace", "(I)V"⟩
abbrev cX6_step : ByteArray := prog_19_method_69_code
def yX6_step : MethodName := ⟨RX6, "step", "(ZI)I"⟩
abbrev cX6_said : ByteArray := prog_19_method_70_code
def yX6_said : MethodName := ⟨RX6, "said", "(ZI)I"⟩
abbrev cX6_cell : ByteArray := prog_19_method_71_code
def yX6_cell : MethodName := ⟨RX6, "cell", "(ZI)I"⟩
abbrev cX6_power : ByteArray := prog_19_method_72_code
def yX6_power : MethodName := ⟨RX6, "power", "(IZ)I"⟩
abbrev cX6_harm : ByteArray := prog_19_method_73_code
def yX6_harm : MethodName := ⟨RX6, "harm", "(I)I"⟩
abbrev cX6_closed : ByteArray := prog_19_method_84_code
def yX6_closed : MethodName := ⟨RX6, "closed", "(I)J"⟩
abbrev cX6_noPower : ByteArray := prog_19_method_74_code
def yX6_noPower : MethodName := ⟨RX6, "noPower", "(I)Z"⟩
abbrev cX6_gradesNow : ByteArray := prog_19_method_81_code
def yX6_gradesNow : MethodName := ⟨RX6, "gradesNow", "()V"⟩
abbrev cX6_ways : ByteArray := prog_19_method_80_code
def yX6_ways : MethodName := ⟨RX6, "ways", "(I)V"⟩
abbrev cX6_mayFrom : ByteArray := prog_19_method_79_code
def yX6_mayFrom : MethodName := ⟨RX6, "mayFrom", "(II)J"⟩
abbrev cX6_bendsRow : ByteArray := prog_19_method_78_code
def yX6_bendsRow : MethodName := ⟨RX6, "bendsRow", "(I)Z"⟩
abbrev cX6_bendsCell : ByteArray := prog_19_method_76_code
def yX6_bendsCell : MethodName := ⟨RX6, "bendsCell", "(II)Z"⟩
abbrev cX6_closedSet : ByteArray := prog_19_method_82_code
def yX6_closedSet : MethodName := ⟨RX6, "closedSet", "()J"⟩
abbrev cX6_reach : ByteArray := prog_19_method_90_code
def yX6_reach : MethodName := ⟨RX6, "reach", "(II)I"⟩
abbrev cX6_noHarm : ByteArray := prog_19_method_75_code
def yX6_noHarm : MethodName := ⟨RX6, "noHarm", "(I)Z"⟩
abbrev cX6_reachOf : ByteArray := prog_19_method_89_code
def yX6_reachOf : MethodName := ⟨RX6, "reachOf", "(II)I"⟩
abbrev cX6_finds : ByteArray := prog_19_method_85_code
def yX6_finds : MethodName := ⟨RX6, "finds", "(II)V"⟩
abbrev cX6_doorsOf : ByteArray := prog_19_method_83_code
def yX6_doorsOf : MethodName := ⟨RX6, "doorsOf", "(I)J"⟩
abbrev cX6_isTried : ByteArray := prog_19_method_88_code
def yX6_isTried : MethodName := ⟨RX6, "isTried", "(II)Z"⟩
abbrev cX6_bendsAt : ByteArray := prog_19_method_87_code
def yX6_bendsAt : MethodName := ⟨RX6, "bendsAt", "(III)V"⟩
abbrev cX6_bendsAtom : ByteArray := prog_19_method_77_code
def yX6_bendsAtom : MethodName := ⟨RX6, "bendsAtom", "(II)Z"⟩
abbrev cX6_bendsIf : ByteArray := prog_19_method_86_code
def yX6_bendsIf : MethodName := ⟨RX6, "bendsIf", "(IIZ)V"⟩
abbrev cX6_row : ByteArray := prog_19_method_91_code
def yX6_row : MethodName := ⟨RX6, "row", "(III)I"⟩
abbrev cX6_least : ByteArray := prog_19_method_94_code
def yX6_least : MethodName := ⟨RX6, "least", "(III)I"⟩
abbrev cX6_chooses : ByteArray := prog_19_method_93_code
def yX6_chooses : MethodName := ⟨RX6, "chooses", "(IIIJ)V"⟩
abbrev cX6_ticksOf : ByteArray := prog_19_method_92_code
def yX6_ticksOf : MethodName := ⟨RX6, "ticksOf", "(I)I"⟩
abbrev cX6_marks : ByteArray := prog_19_method_96_code
def yX6_marks : MethodName := ⟨RX6, "marks", "()I"⟩
abbrev cX6_gathers : ByteArray := prog_19_method_95_code
def yX6_gathers : MethodName := ⟨RX6, "gathers", "()V"⟩
abbrev cX6_joined : ByteArray := prog_19_method_98_code
def yX6_joined : MethodName := ⟨RX6, "joined", "(I)I"⟩
abbrev cX6_parts : ByteArray := prog_19_method_97_code
def yX6_parts : MethodName := ⟨RX6, "parts", "(III)V"⟩
abbrev cX6_fence : ByteArray := prog_19_method_99_code
def yX6_fence : MethodName := ⟨RX6, "fence", "(IIJI)I"⟩
abbrev cX6_late : ByteArray := prog_19_method_100_code
def yX6_late : MethodName := ⟨RX6, "late", "(I)I"⟩
abbrev cX6_judge : ByteArray := prog_19_method_101_code
def yX6_judge : MethodName := ⟨RX6, "judge", "()I"⟩
abbrev cX6_count : ByteArray := prog_19_method_103_code
def yX6_count : MethodName := ⟨RX6, "count", "(I)I"⟩
abbrev cX6_reaches : ByteArray := prog_19_method_102_code
def yX6_reaches : MethodName := ⟨RX6, "reaches", "(I)I"⟩
theorem q110 : (Jvm.Cond.initialized "JumpFenceModel") ∈ lw_all := lw_g (lw_at lw_m1 9 rfl) rfl
theorem q1528 : (Jvm.Cond.instanceMethod ({ cls := "JumpFenceModel", name := "thrown", desc := "()I" } : Jvm.MethodName)) ∈ lw_all := lw_g (lw_at lw_m6 227 rfl) rfl
theorem q1529 : (Jvm.Cond.selects "JumpFenceModel" ({ cls := "JumpFenceModel", name := "thrown", desc := "()I" } : Jvm.MethodName) ({ cls := "JumpFenceModel", name := "thrown", desc := "()I" } : Jvm.MethodName)) ∈ lw_all := lw_g (lw_at lw_m6 228 rfl) rfl
theorem q1530 : (Jvm.Cond.code ({ cls := "JumpFenceModel", name := "thrown", desc := "()I" } : Jvm.MethodName) prog_19_method_1_code (1 : Nat) (Option.some Jvm.ClassFile.FieldType.int)) ∈ lw_all := lw_g (lw_at lw_m6 229 rfl) rfl
theorem q1532 : (Jvm.Cond.instantiable "JumpFenceModel" (50 : Nat)) ∈ lw_all := lw_g (lw_at lw_m6 231 rfl) rfl
theorem q1534 : (Jvm.Cond.instanceMethod ({ cls := "JumpFenceModel", name := "<init>", desc := "()V" } : Jvm.MethodName)) ∈ lw_all := lw_g (lw_at lw_m6 233 rfl) rfl
theorem q1535 : (Jvm.Cond.code ({ cls := "JumpFenceModel", name := "<init>", desc := "()V" } : Jvm.MethodName) prog_19_method_4_code (1 : Nat) (Option.none : Option Jvm.ClassFile.FieldType)) ∈ lw_all := lw_g (lw_at lw_m6 234 rfl) rfl
theorem q1536 : (Jvm.Cond.methodLink "JumpFenceModel" (7 : Nat) ({ cls := "java/lang/Object", name := "<init>", desc := "()V" } : Jvm.MethodName)) ∈ lw_all := lw_g (lw_at lw_m6 235 rfl) rfl
theorem q1537 : (Jvm.Cond.fieldLink "JumpFenceModel" (3 : Nat) "JumpFenceModel" "thrown" "I") ∈ lw_all := lw_g (lw_at lw_m6 236 rfl) rfl
theorem q1538 : (Jvm.Cond.fieldLink "JumpFenceModel" (13 : Nat) "JumpFenceModel" "world" "[I") ∈ lw_all := lw_g (lw_at lw_m6 237 rfl) rfl
theorem q1539 : (Jvm.Cond.fieldLink "JumpFenceModel" (17 : Nat) "JumpFenceModel" "image" "[I") ∈ lw_all := lw_g (lw_at lw_m6 238 rfl) rfl
theorem q1540 : (Jvm.Cond.fieldLink "JumpFenceModel" (104 : Nat) "JumpFenceModel" "hasImage" "Z") ∈ lw_all := lw_g (lw_at lw_m6 239 rfl) rfl
theorem q1541 : (Jvm.Cond.fieldLink "JumpFenceModel" (20 : Nat) "JumpFenceModel" "tape" "[B") ∈ lw_all := lw_g (lw_at lw_m7 0 rfl) rfl
theorem q1542 : (Jvm.Cond.fieldLink "JumpFenceModel" (124 : Nat) "JumpFenceModel" "taped" "I") ∈ lw_all := lw_g (lw_at lw_m7 1 rfl) rfl
theorem q1543 : (Jvm.Cond.fieldLink "JumpFenceModel" (130 : Nat) "JumpFenceModel" "point" "I") ∈ lw_all := lw_g (lw_at lw_m7 2 rfl) rfl
theorem q1544 : (Jvm.Cond.fieldLink "JumpFenceModel" (127 : Nat) "JumpFenceModel" "end" "I") ∈ lw_all := lw_g (lw_at lw_m7 3 rfl) rfl
theorem q1545 : (Jvm.Cond.fieldLink "JumpFenceModel" (137 : Nat) "JumpFenceModel" "begin" "I") ∈ lw_all := lw_g (lw_at lw_m7 4 rfl) rfl
theorem q1546 : (Jvm.Cond.fieldLink "JumpFenceModel" (24 : Nat) "JumpFenceModel" "faultAt" "I") ∈ lw_all := lw_g (lw_at lw_m7 5 rfl) rfl
theorem q1547 : (Jvm.Cond.fieldLink "JumpFenceModel" (27 : Nat) "JumpFenceModel" "five" "[I") ∈ lw_all := lw_g (lw_at lw_m7 6 rfl) rfl
theorem q1548 : (Jvm.Cond.fieldLink "JumpFenceModel" (30 : Nat) "JumpFenceModel" "draft" "[I") ∈ lw_all := lw_g (lw_at lw_m7 7 rfl) rfl
theorem q1549 : (Jvm.Cond.fieldLink "JumpFenceModel" (33 : Nat) "JumpFenceModel" "holds" "[J") ∈ lw_all := lw_g (lw_at lw_m7 8 rfl) rfl
theorem q1550 : (Jvm.Cond.fieldLink "JumpFenceModel" (37 : Nat) "JumpFenceModel" "odd" "[Z") ∈ lw_all := lw_g (lw_at lw_m7 9 rfl) rfl
theorem q1551 : (Jvm.Cond.fieldLink "JumpFenceModel" (41 : Nat) "JumpFenceModel" "kindLets" "[J") ∈ lw_all := lw_g (lw_at lw_m7 10 rfl) rfl
theorem q1552 : (Jvm.Cond.fieldLink "JumpFenceModel" (44 : Nat) "JumpFenceModel" "flowLets" "[J") ∈ lw_all := lw_g (lw_at lw_m7 11 rfl) rfl
theorem q1553 : (Jvm.Cond.fieldLink "JumpFenceModel" (47 : Nat) "JumpFenceModel" "cell" "[I") ∈ lw_all := lw_g (lw_at lw_m7 12 rfl) rfl
theorem q1554 : (Jvm.Cond.fieldLink "JumpFenceModel" (50 : Nat) "JumpFenceModel" "cellBy" "[I") ∈ lw_all := lw_g (lw_at lw_m7 13 rfl) rfl
theorem q1555 : (Jvm.Cond.fieldLink "JumpFenceModel" (53 : Nat) "JumpFenceModel" "row" "[I") ∈ lw_all := lw_g (lw_at lw_m7 14 rfl) rfl
theorem q1556 : (Jvm.Cond.fieldLink "JumpFenceModel" (56 : Nat) "JumpFenceModel" "rowBy" "[I") ∈ lw_all := lw_g (lw_at lw_m7 15 rfl) rfl
theorem q1557 : (Jvm.Cond.fieldLink "JumpFenceModel" (59 : Nat) "JumpFenceModel" "second" "[I") ∈ lw_all := lw_g (lw_at lw_m7 16 rfl) rfl
theorem q1558 : (Jvm.Cond.fieldLink "JumpFenceModel" (289 : Nat) "JumpFenceModel" "rowMany" "I") ∈ lw_all := lw_g (lw_at lw_m7 17 rfl) rfl
theorem q1559 : (Jvm.Cond.fieldLink "JumpFenceModel" (62 : Nat) "JumpFenceModel" "did" "[I") ∈ lw_all := lw_g (lw_at lw_m7 18 rfl) rfl
theorem q1560 : (Jvm.Cond.fieldLink "JumpFenceModel" (65 : Nat) "JumpFenceModel" "said" "[I") ∈ lw_all := lw_g (lw_at lw_m7 19 rfl) rfl
theorem q1561 : (Jvm.Cond.fieldLink "JumpFenceModel" (313 : Nat) "JumpFenceModel" "steps" "I") ∈ lw_all := lw_g (lw_at lw_m7 20 rfl) rfl
theorem q1562 : (Jvm.Cond.fieldLink "JumpFenceModel" (310 : Nat) "JumpFenceModel" "saidMany" "I") ∈ lw_all := lw_g (lw_at lw_m7 21 rfl) rfl
theorem q1563 : (Jvm.Cond.fieldLink "JumpFenceModel" (340 : Nat) "JumpFenceModel" "ended" "I") ∈ lw_all := lw_g (lw_at lw_m7 22 rfl) rfl
theorem q1564 : (Jvm.Cond.fieldLink "JumpFenceModel" (316 : Nat) "JumpFenceModel" "next" "I") ∈ lw_all := lw_g (lw_at lw_m7 23 rfl) rfl
theorem q1565 : (Jvm.Cond.fieldLink "JumpFenceModel" (319 : Nat) "JumpFenceModel" "spentTicks" "I") ∈ lw_all := lw_g (lw_at lw_m7 24 rfl) rfl
theorem q1566 : (Jvm.Cond.fieldLink "JumpFenceModel" (322 : Nat) "JumpFenceModel" "jumps" "I") ∈ lw_all := lw_g (lw_at lw_m7 25 rfl) rfl
theorem q1567 : (Jvm.Cond.fieldLink "JumpFenceModel" (325 : Nat) "JumpFenceModel" "lead" "I") ∈ lw_all := lw_g (lw_at lw_m7 26 rfl) rfl
theorem q1568 : (Jvm.Cond.fieldLink "JumpFenceModel" (328 : Nat) "JumpFenceModel" "stopped" "I") ∈ lw_all := lw_g (lw_at lw_m7 27 rfl) rfl
theorem q1569 : (Jvm.Cond.fieldLink "JumpFenceModel" (331 : Nat) "JumpFenceModel" "firstBad" "I") ∈ lw_all := lw_g (lw_at lw_m7 28 rfl) rfl
theorem q1570 : (Jvm.Cond.fieldLink "JumpFenceModel" (68 : Nat) "JumpFenceModel" "letsNow" "[J") ∈ lw_all := lw_g (lw_at lw_m7 29 rfl) rfl
theorem q1571 : (Jvm.Cond.fieldLink "JumpFenceModel" (71 : Nat) "JumpFenceModel" "gradeOf" "[I") ∈ lw_all := lw_g (lw_at lw_m7 30 rfl) rfl
theorem q1572 : (Jvm.Cond.fieldLink "JumpFenceModel" (74 : Nat) "JumpFenceModel" "may" "[J") ∈ lw_all := lw_g (lw_at lw_m7 31 rfl) rfl
theorem q1573 : (Jvm.Cond.fieldLink "JumpFenceModel" (77 : Nat) "JumpFenceModel" "path" "[I") ∈ lw_all := lw_g (lw_at lw_m7 32 rfl) rfl
theorem q1574 : (Jvm.Cond.fieldLink "JumpFenceModel" (80 : Nat) "JumpFenceModel" "far" "[I") ∈ lw_all := lw_g (lw_at lw_m7 33 rfl) rfl
theorem q1575 : (Jvm.Cond.fieldLink "JumpFenceModel" (382 : Nat) "JumpFenceModel" "pathMany" "I") ∈ lw_all := lw_g (lw_at lw_m7 34 rfl) rfl
theorem q1576 : (Jvm.Cond.fieldLink "JumpFenceModel" (83 : Nat) "JumpFenceModel" "chosen" "[I") ∈ lw_all := lw_g (lw_at lw_m7 35 rfl) rfl
theorem q1577 : (Jvm.Cond.fieldLink "JumpFenceModel" (86 : Nat) "JumpFenceModel" "chosenBest" "[I") ∈ lw_all := lw_g (lw_at lw_m7 36 rfl) rfl
theorem q1578 : (Jvm.Cond.fieldLink "JumpFenceModel" (89 : Nat) "JumpFenceModel" "jumpAt" "[I") ∈ lw_all := lw_g (lw_at lw_m7 37 rfl) rfl
theorem q1579 : (Jvm.Cond.fieldLink "JumpFenceModel" (411 : Nat) "JumpFenceModel" "jumpMany" "I") ∈ lw_all := lw_g (lw_at lw_m7 38 rfl) rfl
theorem q1580 : (Jvm.Cond.fieldLink "JumpFenceModel" (408 : Nat) "JumpFenceModel" "leastTicks" "I") ∈ lw_all := lw_g (lw_at lw_m7 39 rfl) rfl
theorem q1581 : (Jvm.Cond.fieldLink "JumpFenceModel" (92 : Nat) "JumpFenceModel" "guardLets" "[J") ∈ lw_all := lw_g (lw_at lw_m7 40 rfl) rfl
theorem q1582 : (Jvm.Cond.fieldLink "JumpFenceModel" (421 : Nat) "JumpFenceModel" "guards" "I") ∈ lw_all := lw_g (lw_at lw_m7 41 rfl) rfl
theorem q1583 : (Jvm.Cond.fieldLink "JumpFenceModel" (95 : Nat) "JumpFenceModel" "mark" "[I") ∈ lw_all := lw_g (lw_at lw_m7 42 rfl) rfl
theorem q1584 : (Jvm.Cond.fieldLink "JumpFenceModel" (98 : Nat) "JumpFenceModel" "heapLets" "[J") ∈ lw_all := lw_g (lw_at lw_m7 43 rfl) rfl
theorem q1585 : (Jvm.Cond.fieldLink "JumpFenceModel" (101 : Nat) "JumpFenceModel" "heapMany" "[I") ∈ lw_all := lw_g (lw_at lw_m7 44 rfl) rfl
theorem q1586 : (Jvm.Cond.fieldLink "JumpFenceModel" (438 : Nat) "JumpFenceModel" "leastMore" "I") ∈ lw_all := lw_g (lw_at lw_m7 45 rfl) rfl
theorem q1587 : (Jvm.Cond.lays "JumpFenceModel" "JumpFenceModel" "thrown" "I") ∈ lw_all := lw_g (lw_at lw_m7 46 rfl) rfl
theorem q1588 : (Jvm.Cond.soleField "JumpFenceModel" "thrown") ∈ lw_all := lw_g (lw_at lw_m7 47 rfl) rfl
theorem q1589 : (Jvm.Cond.laysFinal "JumpFenceModel" "JumpFenceModel" "world" "[I") ∈ lw_all := lw_g (lw_at lw_m7 48 rfl) rfl
theorem q1590 : (Jvm.Cond.soleField "JumpFenceModel" "world") ∈ lw_all := lw_g (lw_at lw_m7 49 rfl) rfl
theorem q1591 : (Jvm.Cond.laysFinal "JumpFenceModel" "JumpFenceModel" "image" "[I") ∈ lw_all := lw_g (lw_at lw_m7 50 rfl) rfl
theorem q1592 : (Jvm.Cond.soleField "JumpFenceModel" "image") ∈ lw_all := lw_g (lw_at lw_m7 51 rfl) rfl
theorem q1593 : (Jvm.Cond.lays "JumpFenceModel" "JumpFenceModel" "hasImage" "Z") ∈ lw_all := lw_g (lw_at lw_m7 52 rfl) rfl
theorem q1594 : (Jvm.Cond.soleField "JumpFenceModel" "hasImage") ∈ lw_all := lw_g (lw_at lw_m7 53 rfl) rfl
theorem q1595 : (Jvm.Cond.laysFinal "JumpFenceModel" "JumpFenceModel" "tape" "[B") ∈ lw_all := lw_g (lw_at lw_m7 54 rfl) rfl
theorem q1596 : (Jvm.Cond.soleField "JumpFenceModel" "tape") ∈ lw_all := lw_g (lw_at lw_m7 55 rfl) rfl
theorem q1597 : (Jvm.Cond.lays "JumpFenceModel" "JumpFenceModel" "taped" "I") ∈ lw_all := lw_g (lw_at lw_m7 56 rfl) rfl
theorem q1598 : (Jvm.Cond.soleField "JumpFenceModel" "taped") ∈ lw_all := lw_g (lw_at lw_m7 57 rfl) rfl
theorem q1599 : (Jvm.Cond.lays "JumpFenceModel" "JumpFenceModel" "point" "I") ∈ lw_all := lw_g (lw_at lw_m7 58 rfl) rfl
theorem q1600 : (Jvm.Cond.soleField "JumpFenceModel" "point") ∈ lw_all := lw_g (lw_at lw_m7 59 rfl) rfl
theorem q1601 : (Jvm.Cond.lays "JumpFenceModel" "JumpFenceModel" "end" "I") ∈ lw_all := lw_g (lw_at lw_m7 60 rfl) rfl
theorem q1602 : (Jvm.Cond.soleField "JumpFenceModel" "end") ∈ lw_all := lw_g (lw_at lw_m7 61 rfl) rfl
theorem q1603 : (Jvm.Cond.lays "JumpFenceModel" "JumpFenceModel" "begin" "I") ∈ lw_all := lw_g (lw_at lw_m7 62 rfl) rfl
theorem q1604 : (Jvm.Cond.soleField "JumpFenceModel" "begin") ∈ lw_all := lw_g (lw_at lw_m7 63 rfl) rfl
theorem q1605 : (Jvm.Cond.lays "JumpFenceModel" "JumpFenceModel" "faultAt" "I") ∈ lw_all := lw_g (lw_at lw_m7 64 rfl) rfl
theorem q1606 : (Jvm.Cond.soleField "JumpFenceModel" "faultAt") ∈ lw_all := lw_g (lw_at lw_m7 65 rfl) rfl
theorem q1607 : (Jvm.Cond.laysFinal "JumpFenceModel" "JumpFenceModel" "five" "[I") ∈ lw_all := lw_g (lw_at lw_m7 66 rfl) rfl
theorem q1608 : (Jvm.Cond.soleField "JumpFenceModel" "five") ∈ lw_all := lw_g (lw_at lw_m7 67 rfl) rfl
theorem q1609 : (Jvm.Cond.laysFinal "JumpFenceModel" "JumpFenceModel" "draft" "[I") ∈ lw_all := lw_g (lw_at lw_m7 68 rfl) rfl
theorem q1610 : (Jvm.Cond.soleField "JumpFenceModel" "draft") ∈ lw_all := lw_g (lw_at lw_m7 69 rfl) rfl
theorem q1611 : (Jvm.Cond.laysFinal "JumpFenceModel" "JumpFenceModel" "holds" "[J") ∈ lw_all := lw_g (lw_at lw_m7 70 rfl) rfl
theorem q1612 : (Jvm.Cond.soleField "JumpFenceModel" "holds") ∈ lw_all := lw_g (lw_at lw_m7 71 rfl) rfl
theorem q1613 : (Jvm.Cond.laysFinal "JumpFenceModel" "JumpFenceModel" "odd" "[Z") ∈ lw_all := lw_g (lw_at lw_m7 72 rfl) rfl
theorem q1614 : (Jvm.Cond.soleField "JumpFenceModel" "odd") ∈ lw_all := lw_g (lw_at lw_m7 73 rfl) rfl
theorem q1615 : (Jvm.Cond.laysFinal "JumpFenceModel" "JumpFenceModel" "kindLets" "[J") ∈ lw_all := lw_g (lw_at lw_m7 74 rfl) rfl
theorem q1616 : (Jvm.Cond.soleField "JumpFenceModel" "kindLets") ∈ lw_all := lw_g (lw_at lw_m7 75 rfl) rfl
theorem q1617 : (Jvm.Cond.laysFinal "JumpFenceModel" "JumpFenceModel" "flowLets" "[J") ∈ lw_all := lw_g (lw_at lw_m7 76 rfl) rfl
theorem q1618 : (Jvm.Cond.soleField "JumpFenceModel" "flowLets") ∈ lw_all := lw_g (lw_at lw_m7 77 rfl) rfl
theorem q1619 : (Jvm.Cond.laysFinal "JumpFenceModel" "JumpFenceModel" "cell" "[I") ∈ lw_all := lw_g (lw_at lw_m7 78 rfl) rfl
theorem q1620 : (Jvm.Cond.soleField "JumpFenceModel" "cell") ∈ lw_all := lw_g (lw_at lw_m7 79 rfl) rfl
theorem q1621 : (Jvm.Cond.laysFinal "JumpFenceModel" "JumpFenceModel" "cellBy" "[I") ∈ lw_all := lw_g (lw_at lw_m7 80 rfl) rfl
theorem q1622 : (Jvm.Cond.soleField "JumpFenceModel" "cellBy") ∈ lw_all := lw_g (lw_at lw_m7 81 rfl) rfl
theorem q1623 : (Jvm.Cond.laysFinal "JumpFenceModel" "JumpFenceModel" "row" "[I") ∈ lw_all := lw_g (lw_at lw_m7 82 rfl) rfl
theorem q1624 : (Jvm.Cond.soleField "JumpFenceModel" "row") ∈ lw_all := lw_g (lw_at lw_m7 83 rfl) rfl
theorem q1625 : (Jvm.Cond.laysFinal "JumpFenceModel" "JumpFenceModel" "rowBy" "[I") ∈ lw_all := lw_g (lw_at lw_m7 84 rfl) rfl
theorem q1626 : (Jvm.Cond.soleField "JumpFenceModel" "rowBy") ∈ lw_all := lw_g (lw_at lw_m7 85 rfl) rfl
theorem q1627 : (Jvm.Cond.laysFinal "JumpFenceModel" "JumpFenceModel" "second" "[I") ∈ lw_all := lw_g (lw_at lw_m7 86 rfl) rfl
theorem q1628 : (Jvm.Cond.soleField "JumpFenceModel" "second") ∈ lw_all := lw_g (lw_at lw_m7 87 rfl) rfl
theorem q1629 : (Jvm.Cond.lays "JumpFenceModel" "JumpFenceModel" "rowMany" "I") ∈ lw_all := lw_g (lw_at lw_m7 88 rfl) rfl
theorem q1630 : (Jvm.Cond.soleField "JumpFenceModel" "rowMany") ∈ lw_all := lw_g (lw_at lw_m7 89 rfl) rfl
theorem q1631 : (Jvm.Cond.laysFinal "JumpFenceModel" "JumpFenceModel" "did" "[I") ∈ lw_all := lw_g (lw_at lw_m7 90 rfl) rfl
theorem q1632 : (Jvm.Cond.soleField "JumpFenceModel" "did") ∈ lw_all := lw_g (lw_at lw_m7 91 rfl) rfl
theorem q1633 : (Jvm.Cond.laysFinal "JumpFenceModel" "JumpFenceModel" "said" "[I") ∈ lw_all := lw_g (lw_at lw_m7 92 rfl) rfl
theorem q1634 : (Jvm.Cond.soleField "JumpFenceModel" "said") ∈ lw_all := lw_g (lw_at lw_m7 93 rfl) rfl
theorem q1635 : (Jvm.Cond.lays "JumpFenceModel" "JumpFenceModel" "steps" "I") ∈ lw_all := lw_g (lw_at lw_m7 94 rfl) rfl
theorem q1636 : (Jvm.Cond.soleField "JumpFenceModel" "steps") ∈ lw_all := lw_g (lw_at lw_m7 95 rfl) rfl
theorem q1637 : (Jvm.Cond.lays "JumpFenceModel" "JumpFenceModel" "saidMany" "I") ∈ lw_all := lw_g (lw_at lw_m7 96 rfl) rfl
theorem q1638 : (Jvm.Cond.soleField "JumpFenceModel" "saidMany") ∈ lw_all := lw_g (lw_at lw_m7 97 rfl) rfl
theorem q1639 : (Jvm.Cond.lays "JumpFenceModel" "JumpFenceModel" "ended" "I") ∈ lw_all := lw_g (lw_at lw_m7 98 rfl) rfl
theorem q1640 : (Jvm.Cond.soleField "JumpFenceModel" "ended") ∈ lw_all := lw_g (lw_at lw_m7 99 rfl) rfl
theorem q1641 : (Jvm.Cond.lays "JumpFenceModel" "JumpFenceModel" "next" "I") ∈ lw_all := lw_g (lw_at lw_m7 100 rfl) rfl
theorem q1642 : (Jvm.Cond.soleField "JumpFenceModel" "next") ∈ lw_all := lw_g (lw_at lw_m7 101 rfl) rfl
theorem q1643 : (Jvm.Cond.lays "JumpFenceModel" "JumpFenceModel" "spentTicks" "I") ∈ lw_all := lw_g (lw_at lw_m7 102 rfl) rfl
theorem q1644 : (Jvm.Cond.soleField "JumpFenceModel" "spentTicks") ∈ lw_all := lw_g (lw_at lw_m7 103 rfl) rfl
theorem q1645 : (Jvm.Cond.lays "JumpFenceModel" "JumpFenceModel" "jumps" "I") ∈ lw_all := lw_g (lw_at lw_m7 104 rfl) rfl
theorem q1646 : (Jvm.Cond.soleField "JumpFenceModel" "jumps") ∈ lw_all := lw_g (lw_at lw_m7 105 rfl) rfl
theorem q1647 : (Jvm.Cond.lays "JumpFenceModel" "JumpFenceModel" "lead" "I") ∈ lw_all := lw_g (lw_at lw_m7 106 rfl) rfl
theorem q1648 : (Jvm.Cond.soleField "JumpFenceModel" "lead") ∈ lw_all := lw_g (lw_at lw_m7 107 rfl) rfl
theorem q1649 : (Jvm.Cond.lays "JumpFenceModel" "JumpFenceModel" "stopped" "I") ∈ lw_all := lw_g (lw_at lw_m7 108 rfl) rfl
theorem q1650 : (Jvm.Cond.soleField "JumpFenceModel" "stopped") ∈ lw_all := lw_g (lw_at lw_m7 109 rfl) rfl
theorem q1651 : (Jvm.Cond.lays "JumpFenceModel" "JumpFenceModel" "firstBad" "I") ∈ lw_all := lw_g (lw_at lw_m7 110 rfl) rfl
theorem q1652 : (Jvm.Cond.soleField "JumpFenceModel" "firstBad") ∈ lw_all := lw_g (lw_at lw_m7 111 rfl) rfl
theorem q1653 : (Jvm.Cond.laysFinal "JumpFenceModel" "JumpFenceModel" "letsNow" "[J") ∈ lw_all := lw_g (lw_at lw_m7 112 rfl) rfl
theorem q1654 : (Jvm.Cond.soleField "JumpFenceModel" "letsNow") ∈ lw_all := lw_g (lw_at lw_m7 113 rfl) rfl
theorem q1655 : (Jvm.Cond.laysFinal "JumpFenceModel" "JumpFenceModel" "gradeOf" "[I") ∈ lw_all := lw_g (lw_at lw_m7 114 rfl) rfl
theorem q1656 : (Jvm.Cond.soleField "JumpFenceModel" "gradeOf") ∈ lw_all := lw_g (lw_at lw_m7 115 rfl) rfl
theorem q1657 : (Jvm.Cond.laysFinal "JumpFenceModel" "JumpFenceModel" "may" "[J") ∈ lw_all := lw_g (lw_at lw_m7 116 rfl) rfl
theorem q1658 : (Jvm.Cond.soleField "JumpFenceModel" "may") ∈ lw_all := lw_g (lw_at lw_m7 117 rfl) rfl
theorem q1659 : (Jvm.Cond.laysFinal "JumpFenceModel" "JumpFenceModel" "path" "[I") ∈ lw_all := lw_g (lw_at lw_m7 118 rfl) rfl
theorem q1660 : (Jvm.Cond.soleField "JumpFenceModel" "path") ∈ lw_all := lw_g (lw_at lw_m7 119 rfl) rfl
theorem q1661 : (Jvm.Cond.laysFinal "JumpFenceModel" "JumpFenceModel" "far" "[I") ∈ lw_all := lw_g (lw_at lw_m7 120 rfl) rfl
theorem q1662 : (Jvm.Cond.soleField "JumpFenceModel" "far") ∈ lw_all := lw_g (lw_at lw_m7 121 rfl) rfl
theorem q1663 : (Jvm.Cond.lays "JumpFenceModel" "JumpFenceModel" "pathMany" "I") ∈ lw_all := lw_g (lw_at lw_m7 122 rfl) rfl
theorem q1664 : (Jvm.Cond.soleField "JumpFenceModel" "pathMany") ∈ lw_all := lw_g (lw_at lw_m7 123 rfl) rfl
theorem q1665 : (Jvm.Cond.laysFinal "JumpFenceModel" "JumpFenceModel" "chosen" "[I") ∈ lw_all := lw_g (lw_at lw_m7 124 rfl) rfl
theorem q1666 : (Jvm.Cond.soleField "JumpFenceModel" "chosen") ∈ lw_all := lw_g (lw_at lw_m7 125 rfl) rfl
theorem q1667 : (Jvm.Cond.laysFinal "JumpFenceModel" "JumpFenceModel" "chosenBest" "[I") ∈ lw_all := lw_g (lw_at lw_m7 126 rfl) rfl
theorem q1668 : (Jvm.Cond.soleField "JumpFenceModel" "chosenBest") ∈ lw_all := lw_g (lw_at lw_m7 127 rfl) rfl
theorem q1669 : (Jvm.Cond.laysFinal "JumpFenceModel" "JumpFenceModel" "jumpAt" "[I") ∈ lw_all := lw_g (lw_at lw_m7 128 rfl) rfl
theorem q1670 : (Jvm.Cond.soleField "JumpFenceModel" "jumpAt") ∈ lw_all := lw_g (lw_at lw_m7 129 rfl) rfl
theorem q1671 : (Jvm.Cond.lays "JumpFenceModel" "JumpFenceModel" "jumpMany" "I") ∈ lw_all := lw_g (lw_at lw_m7 130 rfl) rfl
theorem q1672 : (Jvm.Cond.soleField "JumpFenceModel" "jumpMany") ∈ lw_all := lw_g (lw_at lw_m7 131 rfl) rfl
theorem q1673 : (Jvm.Cond.lays "JumpFenceModel" "JumpFenceModel" "leastTicks" "I") ∈ lw_all := lw_g (lw_at lw_m7 132 rfl) rfl
theorem q1674 : (Jvm.Cond.soleField "JumpFenceModel" "leastTicks") ∈ lw_all := lw_g (lw_at lw_m7 133 rfl) rfl
theorem q1675 : (Jvm.Cond.laysFinal "JumpFenceModel" "JumpFenceModel" "guardLets" "[J") ∈ lw_all := lw_g (lw_at lw_m7 134 rfl) rfl
theorem q1676 : (Jvm.Cond.soleField "JumpFenceModel" "guardLets") ∈ lw_all := lw_g (lw_at lw_m7 135 rfl) rfl
theorem q1677 : (Jvm.Cond.lays "JumpFenceModel" "JumpFenceModel" "guards" "I") ∈ lw_all := lw_g (lw_at lw_m7 136 rfl) rfl
theorem q1678 : (Jvm.Cond.soleField "JumpFenceModel" "guards") ∈ lw_all := lw_g (lw_at lw_m7 137 rfl) rfl
theorem q1679 : (Jvm.Cond.laysFinal "JumpFenceModel" "JumpFenceModel" "mark" "[I") ∈ lw_all := lw_g (lw_at lw_m7 138 rfl) rfl
theorem q1680 : (Jvm.Cond.soleField "JumpFenceModel" "mark") ∈ lw_all := lw_g (lw_at lw_m7 139 rfl) rfl
theorem q1681 : (Jvm.Cond.laysFinal "JumpFenceModel" "JumpFenceModel" "heapLets" "[J") ∈ lw_all := lw_g (lw_at lw_m7 140 rfl) rfl
theorem q1682 : (Jvm.Cond.soleField "JumpFenceModel" "heapLets") ∈ lw_all := lw_g (lw_at lw_m7 141 rfl) rfl
theorem q1683 : (Jvm.Cond.laysFinal "JumpFenceModel" "JumpFenceModel" "heapMany" "[I") ∈ lw_all := lw_g (lw_at lw_m7 142 rfl) rfl
theorem q1684 : (Jvm.Cond.soleField "JumpFenceModel" "heapMany") ∈ lw_all := lw_g (lw_at lw_m7 143 rfl) rfl
theorem q1685 : (Jvm.Cond.lays "JumpFenceModel" "JumpFenceModel" "leastMore" "I") ∈ lw_all := lw_g (lw_at lw_m7 144 rfl) rfl
theorem q1686 : (Jvm.Cond.soleField "JumpFenceModel" "leastMore") ∈ lw_all := lw_g (lw_at lw_m7 145 rfl) rfl
theorem q1687 : (Jvm.Cond.superclass "JumpFenceModel" "java/lang/Object") ∈ lw_all := lw_g (lw_at lw_m7 146 rfl) rfl
theorem q1689 : (Jvm.Cond.instanceMethod ({ cls := "JumpFenceModel", name := "image", desc := "()V" } : Jvm.MethodName)) ∈ lw_all := lw_g (lw_at lw_m7 148 rfl) rfl
theorem q1690 : (Jvm.Cond.selects "JumpFenceModel" ({ cls := "JumpFenceModel", name := "image", desc := "()V" } : Jvm.MethodName) ({ cls := "JumpFenceModel", name := "image", desc := "()V" } : Jvm.MethodName)) ∈ lw_all := lw_g (lw_at lw_m7 149 rfl) rfl
theorem q1691 : (Jvm.Cond.code ({ cls := "JumpFenceModel", name := "image", desc := "()V" } : Jvm.MethodName) prog_19_method_5_code (2 : Nat) (Option.none : Option Jvm.ClassFile.FieldType)) ∈ lw_all := lw_g (lw_at lw_m7 150 rfl) rfl
theorem q1693 : (Jvm.Cond.instanceMethod ({ cls := "JumpFenceModel", name := "back", desc := "()Z" } : Jvm.MethodName)) ∈ lw_all := lw_g (lw_at lw_m7 152 rfl) rfl
theorem q1694 : (Jvm.Cond.selects "JumpFenceModel" ({ cls := "JumpFenceModel", name := "back", desc := "()Z" } : Jvm.MethodName) ({ cls := "JumpFenceModel", name := "back", desc := "()Z" } : Jvm.MethodName)) ∈ lw_all := lw_g (lw_at lw_m7 153 rfl) rfl
theorem q1695 : (Jvm.Cond.code ({ cls := "JumpFenceModel", name := "back", desc := "()Z" } : Jvm.MethodName) prog_19_method_6_code (2 : Nat) (Option.some Jvm.ClassFile.FieldType.boolean)) ∈ lw_all := lw_g (lw_at lw_m7 154 rfl) rfl
theorem q1697 : (Jvm.Cond.instanceMethod ({ cls := "JumpFenceModel", name := "feed", desc := "(IIIII)I" } : Jvm.MethodName)) ∈ lw_all := lw_g (lw_at lw_m7 156 rfl) rfl
theorem q1698 : (Jvm.Cond.selects "JumpFenceModel" ({ cls := "JumpFenceModel", name := "feed", desc := "(IIIII)I" } : Jvm.MethodName) ({ cls := "JumpFenceModel", name := "feed", desc := "(IIIII)I" } : Jvm.MethodName)) ∈ lw_all := lw_g (lw_at lw_m7 157 rfl) rfl
theorem q1699 : (Jvm.Cond.code ({ cls := "JumpFenceModel", name := "feed", desc := "(IIIII)I" } : Jvm.MethodName) prog_19_method_15_code (7 : Nat) (Option.some Jvm.ClassFile.FieldType.int)) ∈ lw_all := lw_g (lw_at lw_m7 158 rfl) rfl
theorem q1701 : (Jvm.Cond.instanceMethod ({ cls := "JumpFenceModel", name := "end", desc := "(I)Z" } : Jvm.MethodName)) ∈ lw_all := lw_g (lw_at lw_m7 160 rfl) rfl
theorem q1702 : (Jvm.Cond.selects "JumpFenceModel" ({ cls := "JumpFenceModel", name := "end", desc := "(I)Z" } : Jvm.MethodName) ({ cls := "JumpFenceModel", name := "end", desc := "(I)Z" } : Jvm.MethodName)) ∈ lw_all := lw_g (lw_at lw_m7 161 rfl) rfl
theorem q1703 : (Jvm.Cond.code ({ cls := "JumpFenceModel", name := "end", desc := "(I)Z" } : Jvm.MethodName) prog_19_method_16_code (2 : Nat) (Option.some Jvm.ClassFile.FieldType.boolean)) ∈ lw_all := lw_g (lw_at lw_m7 162 rfl) rfl
theorem q1705 : (Jvm.Cond.instanceMethod ({ cls := "JumpFenceModel", name := "fault", desc := "()I" } : Jvm.MethodName)) ∈ lw_all := lw_g (lw_at lw_m7 164 rfl) rfl
theorem q1706 : (Jvm.Cond.selects "JumpFenceModel" ({ cls := "JumpFenceModel", name := "fault", desc := "()I" } : Jvm.MethodName) ({ cls := "JumpFenceModel", name := "fault", desc := "()I" } : Jvm.MethodName)) ∈ lw_all := lw_g (lw_at lw_m7 165 rfl) rfl
theorem q1707 : (Jvm.Cond.code ({ cls := "JumpFenceModel", name := "fault", desc := "()I" } : Jvm.MethodName) prog_19_method_26_code (1 : Nat) (Option.some Jvm.ClassFile.FieldType.int)) ∈ lw_all := lw_g (lw_at lw_m7 166 rfl) rfl
theorem q1709 : (Jvm.Cond.instanceMethod ({ cls := "JumpFenceModel", name := "load", desc := "()I" } : Jvm.MethodName)) ∈ lw_all := lw_g (lw_at lw_m7 168 rfl) rfl
theorem q1710 : (Jvm.Cond.selects "JumpFenceModel" ({ cls := "JumpFenceModel", name := "load", desc := "()I" } : Jvm.MethodName) ({ cls := "JumpFenceModel", name := "load", desc := "()I" } : Jvm.MethodName)) ∈ lw_all := lw_g (lw_at lw_m7 169 rfl) rfl
theorem q1711 : (Jvm.Cond.code ({ cls := "JumpFenceModel", name := "load", desc := "()I" } : Jvm.MethodName) prog_19_method_36_code (3 : Nat) (Option.some Jvm.ClassFile.FieldType.int)) ∈ lw_all := lw_g (lw_at lw_m7 170 rfl) rfl
theorem q1712 : (Jvm.Cond.methodLink "JumpFenceModel" (224 : Nat) ({ cls := "JumpFenceModel", name := "uses", desc := "()V" } : Jvm.MethodName)) ∈ lw_all := lw_g (lw_at lw_m7 171 rfl) rfl
theorem q1713 : (Jvm.Cond.privateMethod ({ cls := "JumpFenceModel", name := "uses", desc := "()V" } : Jvm.MethodName)) ∈ lw_tbl := lw_at lw_m7 172 rfl
theorem q1714 : (Jvm.Cond.instanceMethod ({ cls := "JumpFenceModel", name := "uses", desc := "()V" } : Jvm.MethodName)) ∈ lw_all := lw_g (lw_at lw_m7 173 rfl) rfl
theorem q1715 : (Jvm.Cond.code ({ cls := "JumpFenceModel", name := "uses", desc := "()V" } : Jvm.MethodName) prog_19_method_17_code (1 : Nat) (Option.none : Option Jvm.ClassFile.FieldType)) ∈ lw_all := lw_g (lw_at lw_m7 174 rfl) rfl
theorem q1716 : (Jvm.Cond.methodLink "JumpFenceModel" (227 : Nat) ({ cls := "JumpFenceModel", name := "readAll", desc := "()I" } : Jvm.MethodName)) ∈ lw_all := lw_g (lw_at lw_m7 175 rfl) rfl
theorem q1717 : (Jvm.Cond.privateMethod ({ cls := "JumpFenceModel", name := "readAll", desc := "()I" } : Jvm.MethodName)) ∈ lw_tbl := lw_at lw_m7 176 rfl
theorem q1718 : (Jvm.Cond.instanceMethod ({ cls := "JumpFenceModel", name := "readAll", desc := "()I" } : Jvm.MethodName)) ∈ lw_all := lw_g (lw_at lw_m7 177 rfl) rfl
theorem q1719 : (Jvm.Cond.code ({ cls := "JumpFenceModel", name := "readAll", desc := "()I" } : Jvm.MethodName) prog_19_method_35_code (2 : Nat) (Option.some Jvm.ClassFile.FieldType.int)) ∈ lw_all := lw_g (lw_at lw_m7 178 rfl) rfl
theorem q1720 : (Jvm.Cond.methodLink "JumpFenceModel" (140 : Nat) ({ cls := "JumpFenceModel", name := "blanks", desc := "()V" } : Jvm.MethodName)) ∈ lw_all := lw_g (lw_at lw_m7 179 rfl) rfl
theorem q1721 : (Jvm.Cond.privateMethod ({ cls := "JumpFenceModel", name := "blanks", desc := "()V" } : Jvm.MethodName)) ∈ lw_tbl := lw_at lw_m7 180 rfl
theorem q1722 : (Jvm.Cond.instanceMethod ({ cls := "JumpFenceModel", name := "blanks", desc := "()V" } : Jvm.MethodName)) ∈ lw_all := lw_g (lw_at lw_m7 181 rfl) rfl
theorem q1723 : (Jvm.Cond.code ({ cls := "JumpFenceModel", name := "blanks", desc := "()V" } : Jvm.MethodName) prog_19_method_19_code (1 : Nat) (Option.none : Option Jvm.ClassFile.FieldType)) ∈ lw_all := lw_g (lw_at lw_m7 182 rfl) rfl
theorem q1724 : (Jvm.Cond.methodLink "JumpFenceModel" (133 : Nat) ({ cls := "JumpFenceModel", name := "isAt", desc := "(II)Z" } : Jvm.MethodName)) ∈ lw_all := lw_g (lw_at lw_m7 183 rfl) rfl
theorem q1725 : (Jvm.Cond.privateMethod ({ cls := "JumpFenceModel", name := "isAt", desc := "(II)Z" } : Jvm.MethodName)) ∈ lw_tbl := lw_at lw_m7 184 rfl
theorem q1726 : (Jvm.Cond.instanceMethod ({ cls := "JumpFenceModel", name := "isAt", desc := "(II)Z" } : Jvm.MethodName)) ∈ lw_all := lw_g (lw_at lw_m7 185 rfl) rfl
theorem q1727 : (Jvm.Cond.code ({ cls := "JumpFenceModel", name := "isAt", desc := "(II)Z" } : Jvm.MethodName) prog_19_method_18_code (3 : Nat) (Option.some Jvm.ClassFile.FieldType.boolean)) ∈ lw_all := lw_g (lw_at lw_m7 186 rfl) rfl
theorem q1728 : (Jvm.Cond.methodLink "JumpFenceModel" (221 : Nat) ({ cls := "JumpFenceModel", name := "readOrder", desc := "(I)Z" } : Jvm.MethodName)) ∈ lw_all := lw_g (lw_at lw_m7 187 rfl) rfl
theorem q1729 : (Jvm.Cond.privateMethod ({ cls := "JumpFenceModel", name := "readOrder", desc := "(I)Z" } : Jvm.MethodName)) ∈ lw_tbl := lw_at lw_m7 188 rfl
theorem q1730 : (Jvm.Cond.instanceMethod ({ cls := "JumpFenceModel", name := "readOrder", desc := "(I)Z" } : Jvm.MethodName)) ∈ lw_all := lw_g (lw_at lw_m7 189 rfl) rfl
theorem q1731 : (Jvm.Cond.code ({ cls := "JumpFenceModel", name := "readOrder", desc := "(I)Z" } : Jvm.MethodName) prog_19_method_34_code (4 : Nat) (Option.some Jvm.ClassFile.FieldType.boolean)) ∈ lw_all := lw_g (lw_at lw_m7 190 rfl) rfl
theorem q1732 : (Jvm.Cond.methodLink "JumpFenceModel" (152 : Nat) ({ cls := "JumpFenceModel", name := "letters", desc := "()V" } : Jvm.MethodName)) ∈ lw_all := lw_g (lw_at lw_m7 191 rfl) rfl
theorem q1733 : (Jvm.Cond.privateMethod ({ cls := "JumpFenceModel", name := "letters", desc := "()V" } : Jvm.MethodName)) ∈ lw_tbl := lw_at lw_m7 192 rfl
theorem q1734 : (Jvm.Cond.instanceMethod ({ cls := "JumpFenceModel", name := "letters", desc := "()V" } : Jvm.MethodName)) ∈ lw_all := lw_g (lw_at lw_m7 193 rfl) rfl
theorem q1735 : (Jvm.Cond.code ({ cls := "JumpFenceModel", name := "letters", desc := "()V" } : Jvm.MethodName) prog_19_method_20_code (1 : Nat) (Option.none : Option Jvm.ClassFile.FieldType)) ∈ lw_all := lw_g (lw_at lw_m7 194 rfl) rfl
theorem q1736 : (Jvm.Cond.methodLink "JumpFenceModel" (112 : Nat) ({ cls := "JumpFenceModel", name := "orders", desc := "()I" } : Jvm.MethodName)) ∈ lw_all := lw_g (lw_at lw_m7 195 rfl) rfl
theorem q1737 : (Jvm.Cond.privateMethod ({ cls := "JumpFenceModel", name := "orders", desc := "()I" } : Jvm.MethodName)) ∈ lw_tbl := lw_at lw_m7 196 rfl
theorem q1738 : (Jvm.Cond.instanceMethod ({ cls := "JumpFenceModel", name := "orders", desc := "()I" } : Jvm.MethodName)) ∈ lw_all := lw_g (lw_at lw_m7 197 rfl) rfl
theorem q1739 : (Jvm.Cond.code ({ cls := "JumpFenceModel", name := "orders", desc := "()I" } : Jvm.MethodName) prog_19_method_7_code (1 : Nat) (Option.some Jvm.ClassFile.FieldType.int)) ∈ lw_all := lw_g (lw_at lw_m7 198 rfl) rfl
theorem q1740 : (Jvm.Cond.stringRef "JumpFenceModel" (200 : Nat) "entry") ∈ lw_tbl := lw_at lw_m7 199 rfl
theorem q1741 : (Jvm.Cond.methodLink "JumpFenceModel" (155 : Nat) ({ cls := "JumpFenceModel", name := "isWord", desc := "(Ljava/lang/String;)Z" } : Jvm.MethodName)) ∈ lw_all := lw_g (lw_at lw_m7 200 rfl) rfl
theorem q1742 : (Jvm.Cond.privateMethod ({ cls := "JumpFenceModel", name := "isWord", desc := "(Ljava/lang/String;)Z" } : Jvm.MethodName)) ∈ lw_tbl := lw_at lw_m7 201 rfl
theorem q1743 : (Jvm.Cond.instanceMethod ({ cls := "JumpFenceModel", name := "isWord", desc := "(Ljava/lang/String;)Z" } : Jvm.MethodName)) ∈ lw_all := lw_g (lw_at lw_m7 202 rfl) rfl
theorem q1744 : (Jvm.Cond.code ({ cls := "JumpFenceModel", name := "isWord", desc := "(Ljava/lang/String;)Z" } : Jvm.MethodName) prog_19_method_21_code (4 : Nat) (Option.some Jvm.ClassFile.FieldType.boolean)) ∈ lw_all := lw_g (lw_at lw_m7 203 rfl) rfl
theorem q1745 : (Jvm.Cond.methodLink "JumpFenceModel" (143 : Nat) ({ cls := "java/lang/String", name := "length", desc := "()I" } : Jvm.MethodName)) ∈ lw_all := lw_g (lw_at lw_m7 204 rfl) rfl
theorem q1746 : (Jvm.Cond.methodLink "JumpFenceModel" (148 : Nat) ({ cls := "java/lang/String", name := "charAt", desc := "(I)C" } : Jvm.MethodName)) ∈ lw_all := lw_g (lw_at lw_m7 205 rfl) rfl
theorem q1747 : (Jvm.Cond.methodLink "JumpFenceModel" (164 : Nat) ({ cls := "JumpFenceModel", name := "number", desc := "(I)I" } : Jvm.MethodName)) ∈ lw_all := lw_g (lw_at lw_m7 206 rfl) rfl
theorem q1748 : (Jvm.Cond.privateMethod ({ cls := "JumpFenceModel", name := "number", desc := "(I)I" } : Jvm.MethodName)) ∈ lw_tbl := lw_at lw_m7 207 rfl
theorem q1749 : (Jvm.Cond.instanceMethod ({ cls := "JumpFenceModel", name := "number", desc := "(I)I" } : Jvm.MethodName)) ∈ lw_all := lw_g (lw_at lw_m7 208 rfl) rfl
theorem q1750 : (Jvm.Cond.code ({ cls := "JumpFenceModel", name := "number", desc := "(I)I" } : Jvm.MethodName) prog_19_method_25_code (3 : Nat) (Option.some Jvm.ClassFile.FieldType.int)) ∈ lw_all := lw_g (lw_at lw_m7 209 rfl) rfl
theorem q1751 : (Jvm.Cond.methodLink "JumpFenceModel" (174 : Nat) ({ cls := "JumpFenceModel", name := "tells", desc := "(II)Z" } : Jvm.MethodName)) ∈ lw_all := lw_g (lw_at lw_m7 210 rfl) rfl
theorem q1752 : (Jvm.Cond.privateMethod ({ cls := "JumpFenceModel", name := "tells", desc := "(II)Z" } : Jvm.MethodName)) ∈ lw_tbl := lw_at lw_m7 211 rfl
theorem q1753 : (Jvm.Cond.instanceMethod ({ cls := "JumpFenceModel", name := "tells", desc := "(II)Z" } : Jvm.MethodName)) ∈ lw_all := lw_g (lw_at lw_m7 212 rfl) rfl
theorem q1754 : (Jvm.Cond.code ({ cls := "JumpFenceModel", name := "tells", desc := "(II)Z" } : Jvm.MethodName) prog_19_method_27_code (3 : Nat) (Option.some Jvm.ClassFile.FieldType.boolean)) ∈ lw_all := lw_g (lw_at lw_m7 213 rfl) rfl
theorem q1755 : (Jvm.Cond.methodLink "JumpFenceModel" (202 : Nat) ({ cls := "JumpFenceModel", name := "wordAt", desc := "()I" } : Jvm.MethodName)) ∈ lw_all := lw_g (lw_at lw_m7 214 rfl) rfl
theorem q1756 : (Jvm.Cond.privateMethod ({ cls := "JumpFenceModel", name := "wordAt", desc := "()I" } : Jvm.MethodName)) ∈ lw_tbl := lw_at lw_m7 215 rfl
theorem q1757 : (Jvm.Cond.instanceMethod ({ cls := "JumpFenceModel", name := "wordAt", desc := "()I" } : Jvm.MethodName)) ∈ lw_all := lw_g (lw_at lw_m7 216 rfl) rfl
theorem q1758 : (Jvm.Cond.code ({ cls := "JumpFenceModel", name := "wordAt", desc := "()I" } : Jvm.MethodName) prog_19_method_33_code (1 : Nat) (Option.some Jvm.ClassFile.FieldType.int)) ∈ lw_all := lw_g (lw_at lw_m7 217 rfl) rfl
theorem q1759 : (Jvm.Cond.stringRef "JumpFenceModel" (183 : Nat) "set") ∈ lw_tbl := lw_at lw_m7 218 rfl
theorem q1760 : (Jvm.Cond.stringRef "JumpFenceModel" (185 : Nat) "point") ∈ lw_tbl := lw_at lw_m7 219 rfl
theorem q1761 : (Jvm.Cond.stringRef "JumpFenceModel" (181 : Nat) "jump") ∈ lw_tbl := lw_at lw_m7 220 rfl
theorem q1762 : (Jvm.Cond.stringRef "JumpFenceModel" (186 : Nat) "if") ∈ lw_tbl := lw_at lw_m7 221 rfl
theorem q1763 : (Jvm.Cond.stringRef "JumpFenceModel" (188 : Nat) "through") ∈ lw_tbl := lw_at lw_m7 222 rfl
theorem q1764 : (Jvm.Cond.stringRef "JumpFenceModel" (190 : Nat) "call") ∈ lw_tbl := lw_at lw_m7 223 rfl
theorem q1765 : (Jvm.Cond.stringRef "JumpFenceModel" (192 : Nat) "by") ∈ lw_tbl := lw_at lw_m7 224 rfl
theorem q1766 : (Jvm.Cond.stringRef "JumpFenceModel" (194 : Nat) "back") ∈ lw_tbl := lw_at lw_m7 225 rfl
theorem q1767 : (Jvm.Cond.stringRef "JumpFenceModel" (196 : Nat) "door") ∈ lw_tbl := lw_at lw_m7 226 rfl
theorem q1768 : (Jvm.Cond.stringRef "JumpFenceModel" (198 : Nat) "stop") ∈ lw_tbl := lw_at lw_m7 227 rfl
theorem q1769 : (Jvm.Cond.methodLink "JumpFenceModel" (171 : Nat) ({ cls := "JumpFenceModel", name := "readAtom", desc := "()I" } : Jvm.MethodName)) ∈ lw_all := lw_g (lw_at lw_m7 228 rfl) rfl
theorem q1770 : (Jvm.Cond.privateMethod ({ cls := "JumpFenceModel", name := "readAtom", desc := "()I" } : Jvm.MethodName)) ∈ lw_tbl := lw_at lw_m7 229 rfl
theorem q1771 : (Jvm.Cond.instanceMethod ({ cls := "JumpFenceModel", name := "readAtom", desc := "()I" } : Jvm.MethodName)) ∈ lw_all := lw_g (lw_at lw_m7 230 rfl) rfl
theorem q1772 : (Jvm.Cond.code ({ cls := "JumpFenceModel", name := "readAtom", desc := "()I" } : Jvm.MethodName) prog_19_method_29_code (2 : Nat) (Option.some Jvm.ClassFile.FieldType.int)) ∈ lw_all := lw_g (lw_at lw_m7 231 rfl) rfl
theorem q1773 : (Jvm.Cond.stringRef "JumpFenceModel" (159 : Nat) "c") ∈ lw_tbl := lw_at lw_m7 232 rfl
theorem q1774 : (Jvm.Cond.methodLink "JumpFenceModel" (205 : Nat) ({ cls := "JumpFenceModel", name := "readIf", desc := "(I)Z" } : Jvm.MethodName)) ∈ lw_all := lw_g (lw_at lw_m7 233 rfl) rfl
theorem q1775 : (Jvm.Cond.privateMethod ({ cls := "JumpFenceModel", name := "readIf", desc := "(I)Z" } : Jvm.MethodName)) ∈ lw_tbl := lw_at lw_m7 234 rfl
theorem q1776 : (Jvm.Cond.instanceMethod ({ cls := "JumpFenceModel", name := "readIf", desc := "(I)Z" } : Jvm.MethodName)) ∈ lw_all := lw_g (lw_at lw_m7 235 rfl) rfl
theorem q1777 : (Jvm.Cond.code ({ cls := "JumpFenceModel", name := "readIf", desc := "(I)Z" } : Jvm.MethodName) prog_19_method_32_code (2 : Nat) (Option.some Jvm.ClassFile.FieldType.boolean)) ∈ lw_all := lw_g (lw_at lw_m7 236 rfl) rfl
theorem q1778 : (Jvm.Cond.methodLink "JumpFenceModel" (177 : Nat) ({ cls := "JumpFenceModel", name := "readSign", desc := "(Z)I" } : Jvm.MethodName)) ∈ lw_all := lw_g (lw_at lw_m7 237 rfl) rfl
theorem q1779 : (Jvm.Cond.privateMethod ({ cls := "JumpFenceModel", name := "readSign", desc := "(Z)I" } : Jvm.MethodName)) ∈ lw_tbl := lw_at lw_m7 238 rfl
theorem q1780 : (Jvm.Cond.instanceMethod ({ cls := "JumpFenceModel", name := "readSign", desc := "(Z)I" } : Jvm.MethodName)) ∈ lw_all := lw_g (lw_at lw_m7 239 rfl) rfl
theorem q1781 : (Jvm.Cond.code ({ cls := "JumpFenceModel", name := "readSign", desc := "(Z)I" } : Jvm.MethodName) prog_19_method_30_code (2 : Nat) (Option.some Jvm.ClassFile.FieldType.int)) ∈ lw_all := lw_g (lw_at lw_m8 0 rfl) rfl
theorem q1782 : (Jvm.Cond.methodLink "JumpFenceModel" (167 : Nat) ({ cls := "JumpFenceModel", name := "sign", desc := "(I)Z" } : Jvm.MethodName)) ∈ lw_all := lw_g (lw_at lw_m8 1 rfl) rfl
theorem q1783 : (Jvm.Cond.privateMethod ({ cls := "JumpFenceModel", name := "sign", desc := "(I)Z" } : Jvm.MethodName)) ∈ lw_tbl := lw_at lw_m8 2 rfl
theorem q1784 : (Jvm.Cond.instanceMethod ({ cls := "JumpFenceModel", name := "sign", desc := "(I)Z" } : Jvm.MethodName)) ∈ lw_all := lw_g (lw_at lw_m8 3 rfl) rfl
theorem q1785 : (Jvm.Cond.code ({ cls := "JumpFenceModel", name := "sign", desc := "(I)Z" } : Jvm.MethodName) prog_19_method_24_code (2 : Nat) (Option.some Jvm.ClassFile.FieldType.boolean)) ∈ lw_all := lw_g (lw_at lw_m8 4 rfl) rfl
theorem q1786 : (Jvm.Cond.methodLink "JumpFenceModel" (161 : Nat) ({ cls := "JumpFenceModel", name := "needs", desc := "(Ljava/lang/String;)Z" } : Jvm.MethodName)) ∈ lw_all := lw_g (lw_at lw_m8 5 rfl) rfl
theorem q1787 : (Jvm.Cond.privateMethod ({ cls := "JumpFenceModel", name := "needs", desc := "(Ljava/lang/String;)Z" } : Jvm.MethodName)) ∈ lw_tbl := lw_at lw_m8 6 rfl
theorem q1788 : (Jvm.Cond.instanceMethod ({ cls := "JumpFenceModel", name := "needs", desc := "(Ljava/lang/String;)Z" } : Jvm.MethodName)) ∈ lw_all := lw_g (lw_at lw_m8 7 rfl) rfl
theorem q1789 : (Jvm.Cond.code ({ cls := "JumpFenceModel", name := "needs", desc := "(Ljava/lang/String;)Z" } : Jvm.MethodName) prog_19_method_23_code (2 : Nat) (Option.some Jvm.ClassFile.FieldType.boolean)) ∈ lw_all := lw_g (lw_at lw_m8 8 rfl) rfl
theorem q1790 : (Jvm.Cond.methodLink "JumpFenceModel" (208 : Nat) ({ cls := "JumpFenceModel", name := "readCell", desc := "()I" } : Jvm.MethodName)) ∈ lw_all := lw_g (lw_at lw_m8 9 rfl) rfl
theorem q1791 : (Jvm.Cond.privateMethod ({ cls := "JumpFenceModel", name := "readCell", desc := "()I" } : Jvm.MethodName)) ∈ lw_tbl := lw_at lw_m8 10 rfl
theorem q1792 : (Jvm.Cond.instanceMethod ({ cls := "JumpFenceModel", name := "readCell", desc := "()I" } : Jvm.MethodName)) ∈ lw_all := lw_g (lw_at lw_m8 11 rfl) rfl
theorem q1793 : (Jvm.Cond.code ({ cls := "JumpFenceModel", name := "readCell", desc := "()I" } : Jvm.MethodName) prog_19_method_28_code (1 : Nat) (Option.some Jvm.ClassFile.FieldType.int)) ∈ lw_all := lw_g (lw_at lw_m8 12 rfl) rfl
theorem q1794 : (Jvm.Cond.methodLink "JumpFenceModel" (211 : Nat) ({ cls := "JumpFenceModel", name := "readSum", desc := "(I)Z" } : Jvm.MethodName)) ∈ lw_all := lw_g (lw_at lw_m8 13 rfl) rfl
theorem q1795 : (Jvm.Cond.privateMethod ({ cls := "JumpFenceModel", name := "readSum", desc := "(I)Z" } : Jvm.MethodName)) ∈ lw_tbl := lw_at lw_m8 14 rfl
theorem q1796 : (Jvm.Cond.instanceMethod ({ cls := "JumpFenceModel", name := "readSum", desc := "(I)Z" } : Jvm.MethodName)) ∈ lw_all := lw_g (lw_at lw_m8 15 rfl) rfl
theorem q1797 : (Jvm.Cond.code ({ cls := "JumpFenceModel", name := "readSum", desc := "(I)Z" } : Jvm.MethodName) prog_19_method_31_code (2 : Nat) (Option.some Jvm.ClassFile.FieldType.boolean)) ∈ lw_all := lw_g (lw_at lw_m8 16 rfl) rfl
theorem q1798 : (Jvm.Cond.stringRef "JumpFenceModel" (214 : Nat) "at") ∈ lw_tbl := lw_at lw_m8 17 rfl
theorem q1799 : (Jvm.Cond.stringRef "JumpFenceModel" (216 : Nat) "kind") ∈ lw_tbl := lw_at lw_m8 18 rfl
theorem q1800 : (Jvm.Cond.methodLink "JumpFenceModel" (218 : Nat) ({ cls := "JumpFenceModel", name := "passes", desc := "(Ljava/lang/String;)Z" } : Jvm.MethodName)) ∈ lw_all := lw_g (lw_at lw_m8 19 rfl) rfl
theorem q1801 : (Jvm.Cond.privateMethod ({ cls := "JumpFenceModel", name := "passes", desc := "(Ljava/lang/String;)Z" } : Jvm.MethodName)) ∈ lw_tbl := lw_at lw_m8 20 rfl
theorem q1802 : (Jvm.Cond.instanceMethod ({ cls := "JumpFenceModel", name := "passes", desc := "(Ljava/lang/String;)Z" } : Jvm.MethodName)) ∈ lw_all := lw_g (lw_at lw_m8 21 rfl) rfl
theorem q1803 : (Jvm.Cond.code ({ cls := "JumpFenceModel", name := "passes", desc := "(Ljava/lang/String;)Z" } : Jvm.MethodName) prog_19_method_22_code (2 : Nat) (Option.some Jvm.ClassFile.FieldType.boolean)) ∈ lw_all := lw_g (lw_at lw_m8 22 rfl) rfl
theorem q1804 : (Jvm.Cond.methodLink "JumpFenceModel" (230 : Nat) ({ cls := "JumpFenceModel", name := "throwsIf", desc := "(ZI)Z" } : Jvm.MethodName)) ∈ lw_all := lw_g (lw_at lw_m8 23 rfl) rfl
theorem q1805 : (Jvm.Cond.privateMethod ({ cls := "JumpFenceModel", name := "throwsIf", desc := "(ZI)Z" } : Jvm.MethodName)) ∈ lw_tbl := lw_at lw_m8 24 rfl
theorem q1806 : (Jvm.Cond.instanceMethod ({ cls := "JumpFenceModel", name := "throwsIf", desc := "(ZI)Z" } : Jvm.MethodName)) ∈ lw_all := lw_g (lw_at lw_m8 25 rfl) rfl
theorem q1807 : (Jvm.Cond.code ({ cls := "JumpFenceModel", name := "throwsIf", desc := "(ZI)Z" } : Jvm.MethodName) prog_19_method_2_code (3 : Nat) (Option.some Jvm.ClassFile.FieldType.boolean)) ∈ lw_all := lw_g (lw_at lw_m8 26 rfl) rfl
theorem q1809 : (Jvm.Cond.instanceMethod ({ cls := "JumpFenceModel", name := "order", desc := "(II)I" } : Jvm.MethodName)) ∈ lw_all := lw_g (lw_at lw_m8 28 rfl) rfl
theorem q1810 : (Jvm.Cond.selects "JumpFenceModel" ({ cls := "JumpFenceModel", name := "order", desc := "(II)I" } : Jvm.MethodName) ({ cls := "JumpFenceModel", name := "order", desc := "(II)I" } : Jvm.MethodName)) ∈ lw_all := lw_g (lw_at lw_m8 29 rfl) rfl
theorem q1811 : (Jvm.Cond.code ({ cls := "JumpFenceModel", name := "order", desc := "(II)I" } : Jvm.MethodName) prog_19_method_37_code (3 : Nat) (Option.some Jvm.ClassFile.FieldType.int)) ∈ lw_all := lw_g (lw_at lw_m8 30 rfl) rfl
theorem q1812 : (Jvm.Cond.methodLink "JumpFenceModel" (234 : Nat) ({ cls := "JumpFenceModel", name := "noOrder", desc := "(I)Z" } : Jvm.MethodName)) ∈ lw_all := lw_g (lw_at lw_m8 31 rfl) rfl
theorem q1813 : (Jvm.Cond.privateMethod ({ cls := "JumpFenceModel", name := "noOrder", desc := "(I)Z" } : Jvm.MethodName)) ∈ lw_tbl := lw_at lw_m8 32 rfl
theorem q1814 : (Jvm.Cond.instanceMethod ({ cls := "JumpFenceModel", name := "noOrder", desc := "(I)Z" } : Jvm.MethodName)) ∈ lw_all := lw_g (lw_at lw_m8 33 rfl) rfl
theorem q1815 : (Jvm.Cond.code ({ cls := "JumpFenceModel", name := "noOrder", desc := "(I)Z" } : Jvm.MethodName) prog_19_method_10_code (2 : Nat) (Option.some Jvm.ClassFile.FieldType.boolean)) ∈ lw_all := lw_g (lw_at lw_m8 34 rfl) rfl
theorem q1816 : (Jvm.Cond.methodLink "JumpFenceModel" (116 : Nat) ({ cls := "JumpFenceModel", name := "in", desc := "(III)Z" } : Jvm.MethodName)) ∈ lw_all := lw_g (lw_at lw_m8 35 rfl) rfl
theorem q1817 : (Jvm.Cond.static ({ cls := "JumpFenceModel", name := "in", desc := "(III)Z" } : Jvm.MethodName)) ∈ lw_all := lw_g (lw_at lw_m8 36 rfl) rfl
theorem q1818 : (Jvm.Cond.code ({ cls := "JumpFenceModel", name := "in", desc := "(III)Z" } : Jvm.MethodName) prog_19_method_3_code (3 : Nat) (Option.some Jvm.ClassFile.FieldType.boolean)) ∈ lw_all := lw_g (lw_at lw_m8 37 rfl) rfl
theorem q1819 : (Jvm.Cond.methodLink "JumpFenceModel" (108 : Nat) ({ cls := "JumpFenceModel", name := "of", desc := "(II)I" } : Jvm.MethodName)) ∈ lw_all := lw_g (lw_at lw_m8 38 rfl) rfl
theorem q1820 : (Jvm.Cond.privateMethod ({ cls := "JumpFenceModel", name := "of", desc := "(II)I" } : Jvm.MethodName)) ∈ lw_tbl := lw_at lw_m8 39 rfl
theorem q1821 : (Jvm.Cond.instanceMethod ({ cls := "JumpFenceModel", name := "of", desc := "(II)I" } : Jvm.MethodName)) ∈ lw_all := lw_g (lw_at lw_m8 40 rfl) rfl
theorem q1822 : (Jvm.Cond.code ({ cls := "JumpFenceModel", name := "of", desc := "(II)I" } : Jvm.MethodName) prog_19_method_8_code (3 : Nat) (Option.some Jvm.ClassFile.FieldType.int)) ∈ lw_all := lw_g (lw_at lw_m8 41 rfl) rfl
theorem q1824 : (Jvm.Cond.instanceMethod ({ cls := "JumpFenceModel", name := "grade", desc := "(II)Z" } : Jvm.MethodName)) ∈ lw_all := lw_g (lw_at lw_m8 43 rfl) rfl
theorem q1825 : (Jvm.Cond.selects "JumpFenceModel" ({ cls := "JumpFenceModel", name := "grade", desc := "(II)Z" } : Jvm.MethodName) ({ cls := "JumpFenceModel", name := "grade", desc := "(II)Z" } : Jvm.MethodName)) ∈ lw_all := lw_g (lw_at lw_m8 44 rfl) rfl
theorem q1826 : (Jvm.Cond.code ({ cls := "JumpFenceModel", name := "grade", desc := "(II)Z" } : Jvm.MethodName) prog_19_method_38_code (3 : Nat) (Option.some Jvm.ClassFile.FieldType.boolean)) ∈ lw_all := lw_g (lw_at lw_m8 45 rfl) rfl
theorem q1827 : (Jvm.Cond.methodLink "JumpFenceModel" (237 : Nat) ({ cls := "JumpFenceModel", name := "isJump", desc := "(I)Z" } : Jvm.MethodName)) ∈ lw_all := lw_g (lw_at lw_m8 46 rfl) rfl
theorem q1828 : (Jvm.Cond.privateMethod ({ cls := "JumpFenceModel", name := "isJump", desc := "(I)Z" } : Jvm.MethodName)) ∈ lw_tbl := lw_at lw_m8 47 rfl
theorem q1829 : (Jvm.Cond.instanceMethod ({ cls := "JumpFenceModel", name := "isJump", desc := "(I)Z" } : Jvm.MethodName)) ∈ lw_all := lw_g (lw_at lw_m8 48 rfl) rfl
theorem q1830 : (Jvm.Cond.code ({ cls := "JumpFenceModel", name := "isJump", desc := "(I)Z" } : Jvm.MethodName) prog_19_method_11_code (2 : Nat) (Option.some Jvm.ClassFile.FieldType.boolean)) ∈ lw_all := lw_g (lw_at lw_m8 49 rfl) rfl
theorem q1831 : (Jvm.Cond.methodLink "JumpFenceModel" (120 : Nat) ({ cls := "JumpFenceModel", name := "wordOf", desc := "(I)I" } : Jvm.MethodName)) ∈ lw_all := lw_g (lw_at lw_m8 50 rfl) rfl
theorem q1832 : (Jvm.Cond.privateMethod ({ cls := "JumpFenceModel", name := "wordOf", desc := "(I)I" } : Jvm.MethodName)) ∈ lw_tbl := lw_at lw_m8 51 rfl
theorem q1833 : (Jvm.Cond.instanceMethod ({ cls := "JumpFenceModel", name := "wordOf", desc := "(I)I" } : Jvm.MethodName)) ∈ lw_all := lw_g (lw_at lw_m8 52 rfl) rfl
theorem q1834 : (Jvm.Cond.code ({ cls := "JumpFenceModel", name := "wordOf", desc := "(I)I" } : Jvm.MethodName) prog_19_method_9_code (2 : Nat) (Option.some Jvm.ClassFile.FieldType.int)) ∈ lw_all := lw_g (lw_at lw_m8 53 rfl) rfl
theorem q1836 : (Jvm.Cond.instanceMethod ({ cls := "JumpFenceModel", name := "ticks", desc := "(II)V" } : Jvm.MethodName)) ∈ lw_all := lw_g (lw_at lw_m8 55 rfl) rfl
theorem q1837 : (Jvm.Cond.selects "JumpFenceModel" ({ cls := "JumpFenceModel", name := "ticks", desc := "(II)V" } : Jvm.MethodName) ({ cls := "JumpFenceModel", name := "ticks", desc := "(II)V" } : Jvm.MethodName)) ∈ lw_all := lw_g (lw_at lw_m8 56 rfl) rfl
theorem q1838 : (Jvm.Cond.code ({ cls := "JumpFenceModel", name := "ticks", desc := "(II)V" } : Jvm.MethodName) prog_19_method_39_code (3 : Nat) (Option.none : Option Jvm.ClassFile.FieldType)) ∈ lw_all := lw_g (lw_at lw_m8 57 rfl) rfl
theorem q1840 : (Jvm.Cond.instanceMethod ({ cls := "JumpFenceModel", name := "landings", desc := "(IZ)J" } : Jvm.MethodName)) ∈ lw_all := lw_g (lw_at lw_m8 59 rfl) rfl
theorem q1841 : (Jvm.Cond.selects "JumpFenceModel" ({ cls := "JumpFenceModel", name := "landings", desc := "(IZ)J" } : Jvm.MethodName) ({ cls := "JumpFenceModel", name := "landings", desc := "(IZ)J" } : Jvm.MethodName)) ∈ lw_all := lw_g (lw_at lw_m8 60 rfl) rfl
theorem q1842 : (Jvm.Cond.code ({ cls := "JumpFenceModel", name := "landings", desc := "(IZ)J" } : Jvm.MethodName) prog_19_method_49_code (3 : Nat) (Option.some Jvm.ClassFile.FieldType.long)) ∈ lw_all := lw_g (lw_at lw_m8 61 rfl) rfl
theorem q1843 : (Jvm.Cond.methodLink "JumpFenceModel" (266 : Nat) ({ cls := "JumpFenceModel", name := "noJump", desc := "(I)Z" } : Jvm.MethodName)) ∈ lw_all := lw_g (lw_at lw_m8 62 rfl) rfl
theorem q1844 : (Jvm.Cond.privateMethod ({ cls := "JumpFenceModel", name := "noJump", desc := "(I)Z" } : Jvm.MethodName)) ∈ lw_tbl := lw_at lw_m8 63 rfl
theorem q1845 : (Jvm.Cond.instanceMethod ({ cls := "JumpFenceModel", name := "noJump", desc := "(I)Z" } : Jvm.MethodName)) ∈ lw_all := lw_g (lw_at lw_m8 64 rfl) rfl
theorem q1846 : (Jvm.Cond.code ({ cls := "JumpFenceModel", name := "noJump", desc := "(I)Z" } : Jvm.MethodName) prog_19_method_48_code (2 : Nat) (Option.some Jvm.ClassFile.FieldType.boolean)) ∈ lw_all := lw_g (lw_at lw_m8 65 rfl) rfl
theorem q1847 : (Jvm.Cond.methodLink "JumpFenceModel" (269 : Nat) ({ cls := "JumpFenceModel", name := "flows", desc := "()V" } : Jvm.MethodName)) ∈ lw_all := lw_g (lw_at lw_m8 66 rfl) rfl
theorem q1848 : (Jvm.Cond.privateMethod ({ cls := "JumpFenceModel", name := "flows", desc := "()V" } : Jvm.MethodName)) ∈ lw_tbl := lw_at lw_m8 67 rfl
theorem q1849 : (Jvm.Cond.instanceMethod ({ cls := "JumpFenceModel", name := "flows", desc := "()V" } : Jvm.MethodName)) ∈ lw_all := lw_g (lw_at lw_m8 68 rfl) rfl
theorem q1850 : (Jvm.Cond.code ({ cls := "JumpFenceModel", name := "flows", desc := "()V" } : Jvm.MethodName) prog_19_method_40_code (5 : Nat) (Option.none : Option Jvm.ClassFile.FieldType)) ∈ lw_all := lw_g (lw_at lw_m8 69 rfl) rfl
theorem q1851 : (Jvm.Cond.methodLink "JumpFenceModel" (240 : Nat) ({ cls := "JumpFenceModel", name := "byKind", desc := "(I)J" } : Jvm.MethodName)) ∈ lw_all := lw_g (lw_at lw_m8 70 rfl) rfl
theorem q1852 : (Jvm.Cond.privateMethod ({ cls := "JumpFenceModel", name := "byKind", desc := "(I)J" } : Jvm.MethodName)) ∈ lw_tbl := lw_at lw_m8 71 rfl
theorem q1853 : (Jvm.Cond.instanceMethod ({ cls := "JumpFenceModel", name := "byKind", desc := "(I)J" } : Jvm.MethodName)) ∈ lw_all := lw_g (lw_at lw_m8 72 rfl) rfl
theorem q1854 : (Jvm.Cond.code ({ cls := "JumpFenceModel", name := "byKind", desc := "(I)J" } : Jvm.MethodName) prog_19_method_43_code (2 : Nat) (Option.some Jvm.ClassFile.FieldType.long)) ∈ lw_all := lw_g (lw_at lw_m8 73 rfl) rfl
theorem q1855 : (Jvm.Cond.methodLink "JumpFenceModel" (250 : Nat) ({ cls := "JumpFenceModel", name := "behind", desc := "()J" } : Jvm.MethodName)) ∈ lw_all := lw_g (lw_at lw_m8 74 rfl) rfl
theorem q1856 : (Jvm.Cond.privateMethod ({ cls := "JumpFenceModel", name := "behind", desc := "()J" } : Jvm.MethodName)) ∈ lw_tbl := lw_at lw_m8 75 rfl
theorem q1857 : (Jvm.Cond.instanceMethod ({ cls := "JumpFenceModel", name := "behind", desc := "()J" } : Jvm.MethodName)) ∈ lw_all := lw_g (lw_at lw_m8 76 rfl) rfl
theorem q1858 : (Jvm.Cond.code ({ cls := "JumpFenceModel", name := "behind", desc := "()J" } : Jvm.MethodName) prog_19_method_42_code (4 : Nat) (Option.some Jvm.ClassFile.FieldType.long)) ∈ lw_all := lw_g (lw_at lw_m8 77 rfl) rfl
theorem q1859 : (Jvm.Cond.methodLink "JumpFenceModel" (247 : Nat) ({ cls := "JumpFenceModel", name := "isCall", desc := "(I)Z" } : Jvm.MethodName)) ∈ lw_all := lw_g (lw_at lw_m8 78 rfl) rfl
theorem q1860 : (Jvm.Cond.privateMethod ({ cls := "JumpFenceModel", name := "isCall", desc := "(I)Z" } : Jvm.MethodName)) ∈ lw_tbl := lw_at lw_m8 79 rfl
theorem q1861 : (Jvm.Cond.instanceMethod ({ cls := "JumpFenceModel", name := "isCall", desc := "(I)Z" } : Jvm.MethodName)) ∈ lw_all := lw_g (lw_at lw_m8 80 rfl) rfl
theorem q1862 : (Jvm.Cond.code ({ cls := "JumpFenceModel", name := "isCall", desc := "(I)Z" } : Jvm.MethodName) prog_19_method_12_code (2 : Nat) (Option.some Jvm.ClassFile.FieldType.boolean)) ∈ lw_all := lw_g (lw_at lw_m8 81 rfl) rfl
theorem q1863 : (Jvm.Cond.methodLink "JumpFenceModel" (254 : Nat) ({ cls := "JumpFenceModel", name := "ofKind", desc := "(I)J" } : Jvm.MethodName)) ∈ lw_all := lw_g (lw_at lw_m8 82 rfl) rfl
theorem q1864 : (Jvm.Cond.privateMethod ({ cls := "JumpFenceModel", name := "ofKind", desc := "(I)J" } : Jvm.MethodName)) ∈ lw_tbl := lw_at lw_m8 83 rfl
theorem q1865 : (Jvm.Cond.instanceMethod ({ cls := "JumpFenceModel", name := "ofKind", desc := "(I)J" } : Jvm.MethodName)) ∈ lw_all := lw_g (lw_at lw_m8 84 rfl) rfl
theorem q1866 : (Jvm.Cond.code ({ cls := "JumpFenceModel", name := "ofKind", desc := "(I)J" } : Jvm.MethodName) prog_19_method_41_code (5 : Nat) (Option.some Jvm.ClassFile.FieldType.long)) ∈ lw_all := lw_g (lw_at lw_m8 85 rfl) rfl
theorem q1867 : (Jvm.Cond.methodLink "JumpFenceModel" (244 : Nat) ({ cls := "JumpFenceModel", name := "byFlow", desc := "(I)J" } : Jvm.MethodName)) ∈ lw_all := lw_g (lw_at lw_m8 86 rfl) rfl
theorem q1868 : (Jvm.Cond.privateMethod ({ cls := "JumpFenceModel", name := "byFlow", desc := "(I)J" } : Jvm.MethodName)) ∈ lw_tbl := lw_at lw_m8 87 rfl
theorem q1869 : (Jvm.Cond.instanceMethod ({ cls := "JumpFenceModel", name := "byFlow", desc := "(I)J" } : Jvm.MethodName)) ∈ lw_all := lw_g (lw_at lw_m8 88 rfl) rfl
theorem q1870 : (Jvm.Cond.code ({ cls := "JumpFenceModel", name := "byFlow", desc := "(I)J" } : Jvm.MethodName) prog_19_method_46_code (9 : Nat) (Option.some Jvm.ClassFile.FieldType.long)) ∈ lw_all := lw_g (lw_at lw_m8 89 rfl) rfl
theorem q1871 : (Jvm.Cond.methodLink "JumpFenceModel" (260 : Nat) ({ cls := "JumpFenceModel", name := "throughFlow", desc := "(I)J" } : Jvm.MethodName)) ∈ lw_all := lw_g (lw_at lw_m8 90 rfl) rfl
theorem q1872 : (Jvm.Cond.privateMethod ({ cls := "JumpFenceModel", name := "throughFlow", desc := "(I)J" } : Jvm.MethodName)) ∈ lw_tbl := lw_at lw_m8 91 rfl
theorem q1873 : (Jvm.Cond.instanceMethod ({ cls := "JumpFenceModel", name := "throughFlow", desc := "(I)J" } : Jvm.MethodName)) ∈ lw_all := lw_g (lw_at lw_m8 92 rfl) rfl
theorem q1874 : (Jvm.Cond.code ({ cls := "JumpFenceModel", name := "throughFlow", desc := "(I)J" } : Jvm.MethodName) prog_19_method_44_code (2 : Nat) (Option.some Jvm.ClassFile.FieldType.long)) ∈ lw_all := lw_g (lw_at lw_m8 93 rfl) rfl
theorem q1875 : (Jvm.Cond.methodLink "JumpFenceModel" (257 : Nat) ({ cls := "JumpFenceModel", name := "all", desc := "()J" } : Jvm.MethodName)) ∈ lw_all := lw_g (lw_at lw_m8 94 rfl) rfl
theorem q1876 : (Jvm.Cond.privateMethod ({ cls := "JumpFenceModel", name := "all", desc := "()J" } : Jvm.MethodName)) ∈ lw_tbl := lw_at lw_m8 95 rfl
theorem q1877 : (Jvm.Cond.instanceMethod ({ cls := "JumpFenceModel", name := "all", desc := "()J" } : Jvm.MethodName)) ∈ lw_all := lw_g (lw_at lw_m8 96 rfl) rfl
theorem q1878 : (Jvm.Cond.code ({ cls := "JumpFenceModel", name := "all", desc := "()J" } : Jvm.MethodName) prog_19_method_14_code (1 : Nat) (Option.some Jvm.ClassFile.FieldType.long)) ∈ lw_all := lw_g (lw_at lw_m8 97 rfl) rfl
theorem q1879 : (Jvm.Cond.methodLink "JumpFenceModel" (263 : Nat) ({ cls := "JumpFenceModel", name := "comesTo", desc := "(I)J" } : Jvm.MethodName)) ∈ lw_all := lw_g (lw_at lw_m8 98 rfl) rfl
theorem q1880 : (Jvm.Cond.privateMethod ({ cls := "JumpFenceModel", name := "comesTo", desc := "(I)J" } : Jvm.MethodName)) ∈ lw_tbl := lw_at lw_m8 99 rfl
theorem q1881 : (Jvm.Cond.instanceMethod ({ cls := "JumpFenceModel", name := "comesTo", desc := "(I)J" } : Jvm.MethodName)) ∈ lw_all := lw_g (lw_at lw_m8 100 rfl) rfl
theorem q1882 : (Jvm.Cond.code ({ cls := "JumpFenceModel", name := "comesTo", desc := "(I)J" } : Jvm.MethodName) prog_19_method_45_code (9 : Nat) (Option.some Jvm.ClassFile.FieldType.long)) ∈ lw_all := lw_g (lw_at lw_m8 101 rfl) rfl
theorem q1884 : (Jvm.Cond.instanceMethod ({ cls := "JumpFenceModel", name := "lets", desc := "(I)J" } : Jvm.MethodName)) ∈ lw_all := lw_g (lw_at lw_m8 103 rfl) rfl
theorem q1885 : (Jvm.Cond.selects "JumpFenceModel" ({ cls := "JumpFenceModel", name := "lets", desc := "(I)J" } : Jvm.MethodName) ({ cls := "JumpFenceModel", name := "lets", desc := "(I)J" } : Jvm.MethodName)) ∈ lw_all := lw_g (lw_at lw_m8 104 rfl) rfl
theorem q1886 : (Jvm.Cond.code ({ cls := "JumpFenceModel", name := "lets", desc := "(I)J" } : Jvm.MethodName) prog_19_method_50_code (2 : Nat) (Option.some Jvm.ClassFile.FieldType.long)) ∈ lw_all := lw_g (lw_at lw_m8 105 rfl) rfl
theorem q1887 : (Jvm.Cond.methodLink "JumpFenceModel" (272 : Nat) ({ cls := "JumpFenceModel", name := "letsBy", desc := "(II)J" } : Jvm.MethodName)) ∈ lw_all := lw_g (lw_at lw_m8 106 rfl) rfl
theorem q1888 : (Jvm.Cond.privateMethod ({ cls := "JumpFenceModel", name := "letsBy", desc := "(II)J" } : Jvm.MethodName)) ∈ lw_tbl := lw_at lw_m8 107 rfl
theorem q1889 : (Jvm.Cond.instanceMethod ({ cls := "JumpFenceModel", name := "letsBy", desc := "(II)J" } : Jvm.MethodName)) ∈ lw_all := lw_g (lw_at lw_m8 108 rfl) rfl
theorem q1890 : (Jvm.Cond.code ({ cls := "JumpFenceModel", name := "letsBy", desc := "(II)J" } : Jvm.MethodName) prog_19_method_47_code (3 : Nat) (Option.some Jvm.ClassFile.FieldType.long)) ∈ lw_all := lw_g (lw_at lw_m8 109 rfl) rfl
theorem q1892 : (Jvm.Cond.instanceMethod ({ cls := "JumpFenceModel", name := "holds", desc := "(I)J" } : Jvm.MethodName)) ∈ lw_all := lw_g (lw_at lw_m8 111 rfl) rfl
theorem q1893 : (Jvm.Cond.selects "JumpFenceModel" ({ cls := "JumpFenceModel", name := "holds", desc := "(I)J" } : Jvm.MethodName) ({ cls := "JumpFenceModel", name := "holds", desc := "(I)J" } : Jvm.MethodName)) ∈ lw_all := lw_g (lw_at lw_m8 112 rfl) rfl
theorem q1894 : (Jvm.Cond.code ({ cls := "JumpFenceModel", name := "holds", desc := "(I)J" } : Jvm.MethodName) prog_19_method_52_code (2 : Nat) (Option.some Jvm.ClassFile.FieldType.long)) ∈ lw_all := lw_g (lw_at lw_m8 113 rfl) rfl
theorem q1895 : (Jvm.Cond.methodLink "JumpFenceModel" (276 : Nat) ({ cls := "JumpFenceModel", name := "noCell", desc := "(I)Z" } : Jvm.MethodName)) ∈ lw_all := lw_g (lw_at lw_m8 114 rfl) rfl
theorem q1896 : (Jvm.Cond.static ({ cls := "JumpFenceModel", name := "noCell", desc := "(I)Z" } : Jvm.MethodName)) ∈ lw_all := lw_g (lw_at lw_m8 115 rfl) rfl
theorem q1897 : (Jvm.Cond.code ({ cls := "JumpFenceModel", name := "noCell", desc := "(I)Z" } : Jvm.MethodName) prog_19_method_51_code (1 : Nat) (Option.some Jvm.ClassFile.FieldType.boolean)) ∈ lw_all := lw_g (lw_at lw_m8 116 rfl) rfl
theorem q1899 : (Jvm.Cond.instanceMethod ({ cls := "JumpFenceModel", name := "odd", desc := "(I)Z" } : Jvm.MethodName)) ∈ lw_all := lw_g (lw_at lw_m8 118 rfl) rfl
theorem q1900 : (Jvm.Cond.selects "JumpFenceModel" ({ cls := "JumpFenceModel", name := "odd", desc := "(I)Z" } : Jvm.MethodName) ({ cls := "JumpFenceModel", name := "odd", desc := "(I)Z" } : Jvm.MethodName)) ∈ lw_all := lw_g (lw_at lw_m8 119 rfl) rfl
theorem q1901 : (Jvm.Cond.code ({ cls := "JumpFenceModel", name := "odd", desc := "(I)Z" } : Jvm.MethodName) prog_19_method_53_code (2 : Nat) (Option.some Jvm.ClassFile.FieldType.boolean)) ∈ lw_all := lw_g (lw_at lw_m8 120 rfl) rfl
theorem q1903 : (Jvm.Cond.instanceMethod ({ cls := "JumpFenceModel", name := "bend", desc := "(III)I" } : Jvm.MethodName)) ∈ lw_all := lw_g (lw_at lw_m8 122 rfl) rfl
theorem q1904 : (Jvm.Cond.selects "JumpFenceModel" ({ cls := "JumpFenceModel", name := "bend", desc := "(III)I" } : Jvm.MethodName) ({ cls := "JumpFenceModel", name := "bend", desc := "(III)I" } : Jvm.MethodName)) ∈ lw_all := lw_g (lw_at lw_m8 123 rfl) rfl
theorem q1905 : (Jvm.Cond.code ({ cls := "JumpFenceModel", name := "bend", desc := "(III)I" } : Jvm.MethodName) prog_19_method_54_code (5 : Nat) (Option.some Jvm.ClassFile.FieldType.int)) ∈ lw_all := lw_g (lw_at lw_m8 124 rfl) rfl
theorem q1907 : (Jvm.Cond.instanceMethod ({ cls := "JumpFenceModel", name := "straight", desc := "()I" } : Jvm.MethodName)) ∈ lw_all := lw_g (lw_at lw_m8 126 rfl) rfl
theorem q1908 : (Jvm.Cond.selects "JumpFenceModel" ({ cls := "JumpFenceModel", name := "straight", desc := "()I" } : Jvm.MethodName) ({ cls := "JumpFenceModel", name := "straight", desc := "()I" } : Jvm.MethodName)) ∈ lw_all := lw_g (lw_at lw_m8 127 rfl) rfl
theorem q1909 : (Jvm.Cond.code ({ cls := "JumpFenceModel", name := "straight", desc := "()I" } : Jvm.MethodName) prog_19_method_55_code (2 : Nat) (Option.some Jvm.ClassFile.FieldType.int)) ∈ lw_all := lw_g (lw_at lw_m8 128 rfl) rfl
theorem q1911 : (Jvm.Cond.instanceMethod ({ cls := "JumpFenceModel", name := "run", desc := "(ZI)I" } : Jvm.MethodName)) ∈ lw_all := lw_g (lw_at lw_m8 130 rfl) rfl
theorem q1912 : (Jvm.Cond.selects "JumpFenceModel" ({ cls := "JumpFenceModel", name := "run", desc := "(ZI)I" } : Jvm.MethodName) ({ cls := "JumpFenceModel", name := "run", desc := "(ZI)I" } : Jvm.MethodName)) ∈ lw_all := lw_g (lw_at lw_m8 131 rfl) rfl
theorem q1913 : (Jvm.Cond.code ({ cls := "JumpFenceModel", name := "run", desc := "(ZI)I" } : Jvm.MethodName) prog_19_method_68_code (3 : Nat) (Option.some Jvm.ClassFile.FieldType.int)) ∈ lw_all := lw_g (lw_at lw_m8 132 rfl) rfl
theorem q1914 : (Jvm.Cond.methodLink "JumpFenceModel" (352 : Nat) ({ cls := "JumpFenceModel", name := "runs", desc := "(ZZ)V" } : Jvm.MethodName)) ∈ lw_all := lw_g (lw_at lw_m8 133 rfl) rfl
theorem q1915 : (Jvm.Cond.privateMethod ({ cls := "JumpFenceModel", name := "runs", desc := "(ZZ)V" } : Jvm.MethodName)) ∈ lw_tbl := lw_at lw_m8 134 rfl
theorem q1916 : (Jvm.Cond.instanceMethod ({ cls := "JumpFenceModel", name := "runs", desc := "(ZZ)V" } : Jvm.MethodName)) ∈ lw_all := lw_g (lw_at lw_m8 135 rfl) rfl
theorem q1917 : (Jvm.Cond.code ({ cls := "JumpFenceModel", name := "runs", desc := "(ZZ)V" } : Jvm.MethodName) prog_19_method_67_code (5 : Nat) (Option.none : Option Jvm.ClassFile.FieldType)) ∈ lw_all := lw_g (lw_at lw_m8 136 rfl) rfl
theorem q1918 : (Jvm.Cond.methodLink "JumpFenceModel" (334 : Nat) ({ cls := "JumpFenceModel", name := "begins", desc := "()V" } : Jvm.MethodName)) ∈ lw_all := lw_g (lw_at lw_m8 137 rfl) rfl
theorem q1919 : (Jvm.Cond.privateMethod ({ cls := "JumpFenceModel", name := "begins", desc := "()V" } : Jvm.MethodName)) ∈ lw_tbl := lw_at lw_m8 138 rfl
theorem q1920 : (Jvm.Cond.instanceMethod ({ cls := "JumpFenceModel", name := "begins", desc := "()V" } : Jvm.MethodName)) ∈ lw_all := lw_g (lw_at lw_m8 139 rfl) rfl
theorem q1921 : (Jvm.Cond.code ({ cls := "JumpFenceModel", name := "begins", desc := "()V" } : Jvm.MethodName) prog_19_method_66_code (2 : Nat) (Option.none : Option Jvm.ClassFile.FieldType)) ∈ lw_all := lw_g (lw_at lw_m8 140 rfl) rfl
theorem q1922 : (Jvm.Cond.methodLink "JumpFenceModel" (337 : Nat) ({ cls := "JumpFenceModel", name := "bendsNow", desc := "()V" } : Jvm.MethodName)) ∈ lw_all := lw_g (lw_at lw_m8 141 rfl) rfl
theorem q1923 : (Jvm.Cond.privateMethod ({ cls := "JumpFenceModel", name := "bendsNow", desc := "()V" } : Jvm.MethodName)) ∈ lw_tbl := lw_at lw_m8 142 rfl
theorem q1924 : (Jvm.Cond.instanceMethod ({ cls := "JumpFenceModel", name := "bendsNow", desc := "()V" } : Jvm.MethodName)) ∈ lw_all := lw_g (lw_at lw_m8 143 rfl) rfl
theorem q1925 : (Jvm.Cond.code ({ cls := "JumpFenceModel", name := "bendsNow", desc := "()V" } : Jvm.MethodName) prog_19_method_65_code (4 : Nat) (Option.none : Option Jvm.ClassFile.FieldType)) ∈ lw_all := lw_g (lw_at lw_m8 144 rfl) rfl
theorem q1926 : (Jvm.Cond.methodLink "JumpFenceModel" (343 : Nat) ({ cls := "JumpFenceModel", name := "isTrapped", desc := "(I)Z" } : Jvm.MethodName)) ∈ lw_all := lw_g (lw_at lw_m8 145 rfl) rfl
theorem q1927 : (Jvm.Cond.privateMethod ({ cls := "JumpFenceModel", name := "isTrapped", desc := "(I)Z" } : Jvm.MethodName)) ∈ lw_tbl := lw_at lw_m8 146 rfl
theorem q1928 : (Jvm.Cond.instanceMethod ({ cls := "JumpFenceModel", name := "isTrapped", desc := "(I)Z" } : Jvm.MethodName)) ∈ lw_all := lw_g (lw_at lw_m8 147 rfl) rfl
theorem q1929 : (Jvm.Cond.code ({ cls := "JumpFenceModel", name := "isTrapped", desc := "(I)Z" } : Jvm.MethodName) prog_19_method_59_code (3 : Nat) (Option.some Jvm.ClassFile.FieldType.boolean)) ∈ lw_all := lw_g (lw_at lw_m8 148 rfl) rfl
theorem q1930 : (Jvm.Cond.methodLink "JumpFenceModel" (282 : Nat) ({ cls := "JumpFenceModel", name := "sumOf", desc := "(I)J" } : Jvm.MethodName)) ∈ lw_all := lw_g (lw_at lw_m8 149 rfl) rfl
theorem q1931 : (Jvm.Cond.privateMethod ({ cls := "JumpFenceModel", name := "sumOf", desc := "(I)J" } : Jvm.MethodName)) ∈ lw_tbl := lw_at lw_m8 150 rfl
theorem q1932 : (Jvm.Cond.instanceMethod ({ cls := "JumpFenceModel", name := "sumOf", desc := "(I)J" } : Jvm.MethodName)) ∈ lw_all := lw_g (lw_at lw_m8 151 rfl) rfl
theorem q1933 : (Jvm.Cond.code ({ cls := "JumpFenceModel", name := "sumOf", desc := "(I)J" } : Jvm.MethodName) prog_19_method_57_code (7 : Nat) (Option.some Jvm.ClassFile.FieldType.long)) ∈ lw_all := lw_g (lw_at lw_m8 152 rfl) rfl
theorem q1934 : (Jvm.Cond.methodLink "JumpFenceModel" (279 : Nat) ({ cls := "JumpFenceModel", name := "valueOf", desc := "(I)I" } : Jvm.MethodName)) ∈ lw_all := lw_g (lw_at lw_m8 153 rfl) rfl
theorem q1935 : (Jvm.Cond.privateMethod ({ cls := "JumpFenceModel", name := "valueOf", desc := "(I)I" } : Jvm.MethodName)) ∈ lw_tbl := lw_at lw_m8 154 rfl
theorem q1936 : (Jvm.Cond.instanceMethod ({ cls := "JumpFenceModel", name := "valueOf", desc := "(I)I" } : Jvm.MethodName)) ∈ lw_all := lw_g (lw_at lw_m8 155 rfl) rfl
theorem q1937 : (Jvm.Cond.code ({ cls := "JumpFenceModel", name := "valueOf", desc := "(I)I" } : Jvm.MethodName) prog_19_method_56_code (2 : Nat) (Option.some Jvm.ClassFile.FieldType.int)) ∈ lw_all := lw_g (lw_at lw_m8 156 rfl) rfl
theorem q1938 : (Jvm.Cond.constantLong "JumpFenceModel" (285 : Nat) (99999 : Int64)) ∈ lw_all := lw_g (lw_at lw_m8 157 rfl) rfl
theorem q1939 : (Jvm.Cond.constantLong "JumpFenceModel" (287 : Nat) (-99999 : Int64)) ∈ lw_all := lw_g (lw_at lw_m8 158 rfl) rfl
theorem q1940 : (Jvm.Cond.methodLink "JumpFenceModel" (346 : Nat) ({ cls := "JumpFenceModel", name := "isGuarded", desc := "(I)Z" } : Jvm.MethodName)) ∈ lw_all := lw_g (lw_at lw_m8 159 rfl) rfl
theorem q1941 : (Jvm.Cond.privateMethod ({ cls := "JumpFenceModel", name := "isGuarded", desc := "(I)Z" } : Jvm.MethodName)) ∈ lw_tbl := lw_at lw_m8 160 rfl
theorem q1942 : (Jvm.Cond.instanceMethod ({ cls := "JumpFenceModel", name := "isGuarded", desc := "(I)Z" } : Jvm.MethodName)) ∈ lw_all := lw_g (lw_at lw_m8 161 rfl) rfl
theorem q1943 : (Jvm.Cond.code ({ cls := "JumpFenceModel", name := "isGuarded", desc := "(I)Z" } : Jvm.MethodName) prog_19_method_61_code (4 : Nat) (Option.some Jvm.ClassFile.FieldType.boolean)) ∈ lw_all := lw_g (lw_at lw_m8 162 rfl) rfl
theorem q1944 : (Jvm.Cond.methodLink "JumpFenceModel" (292 : Nat) ({ cls := "JumpFenceModel", name := "landingOf", desc := "(I)I" } : Jvm.MethodName)) ∈ lw_all := lw_g (lw_at lw_m8 163 rfl) rfl
theorem q1945 : (Jvm.Cond.privateMethod ({ cls := "JumpFenceModel", name := "landingOf", desc := "(I)I" } : Jvm.MethodName)) ∈ lw_tbl := lw_at lw_m8 164 rfl
theorem q1946 : (Jvm.Cond.instanceMethod ({ cls := "JumpFenceModel", name := "landingOf", desc := "(I)I" } : Jvm.MethodName)) ∈ lw_all := lw_g (lw_at lw_m8 165 rfl) rfl
theorem q1947 : (Jvm.Cond.code ({ cls := "JumpFenceModel", name := "landingOf", desc := "(I)I" } : Jvm.MethodName) prog_19_method_60_code (2 : Nat) (Option.some Jvm.ClassFile.FieldType.int)) ∈ lw_all := lw_g (lw_at lw_m8 166 rfl) rfl
theorem q1948 : (Jvm.Cond.methodLink "JumpFenceModel" (295 : Nat) ({ cls := "JumpFenceModel", name := "has", desc := "(JI)Z" } : Jvm.MethodName)) ∈ lw_all := lw_g (lw_at lw_m8 167 rfl) rfl
theorem q1949 : (Jvm.Cond.static ({ cls := "JumpFenceModel", name := "has", desc := "(JI)Z" } : Jvm.MethodName)) ∈ lw_all := lw_g (lw_at lw_m8 168 rfl) rfl
theorem q1950 : (Jvm.Cond.code ({ cls := "JumpFenceModel", name := "has", desc := "(JI)Z" } : Jvm.MethodName) prog_19_method_13_code (3 : Nat) (Option.some Jvm.ClassFile.FieldType.boolean)) ∈ lw_all := lw_g (lw_at lw_m8 169 rfl) rfl
theorem q1951 : (Jvm.Cond.methodLink "JumpFenceModel" (349 : Nat) ({ cls := "JumpFenceModel", name := "does", desc := "(I)I" } : Jvm.MethodName)) ∈ lw_all := lw_g (lw_at lw_m8 170 rfl) rfl
theorem q1952 : (Jvm.Cond.privateMethod ({ cls := "JumpFenceModel", name := "does", desc := "(I)I" } : Jvm.MethodName)) ∈ lw_tbl := lw_at lw_m8 171 rfl
theorem q1953 : (Jvm.Cond.instanceMethod ({ cls := "JumpFenceModel", name := "does", desc := "(I)I" } : Jvm.MethodName)) ∈ lw_all := lw_g (lw_at lw_m8 172 rfl) rfl
theorem q1954 : (Jvm.Cond.code ({ cls := "JumpFenceModel", name := "does", desc := "(I)I" } : Jvm.MethodName) prog_19_method_64_code (3 : Nat) (Option.some Jvm.ClassFile.FieldType.int)) ∈ lw_all := lw_g (lw_at lw_m8 173 rfl) rfl
theorem q1955 : (Jvm.Cond.methodLink "JumpFenceModel" (299 : Nat) ({ cls := "JumpFenceModel", name := "writes", desc := "(II)V" } : Jvm.MethodName)) ∈ lw_all := lw_g (lw_at lw_m8 174 rfl) rfl
theorem q1956 : (Jvm.Cond.privateMethod ({ cls := "JumpFenceModel", name := "writes", desc := "(II)V" } : Jvm.MethodName)) ∈ lw_tbl := lw_at lw_m8 175 rfl
theorem q1957 : (Jvm.Cond.instanceMethod ({ cls := "JumpFenceModel", name := "writes", desc := "(II)V" } : Jvm.MethodName)) ∈ lw_all := lw_g (lw_at lw_m8 176 rfl) rfl
theorem q1958 : (Jvm.Cond.code ({ cls := "JumpFenceModel", name := "writes", desc := "(II)V" } : Jvm.MethodName) prog_19_method_63_code (3 : Nat) (Option.none : Option Jvm.ClassFile.FieldType)) ∈ lw_all := lw_g (lw_at lw_m8 177 rfl) rfl
theorem q1959 : (Jvm.Cond.methodLink "JumpFenceModel" (303 : Nat) ({ cls := "JumpFenceModel", name := "isSo", desc := "(I)Z" } : Jvm.MethodName)) ∈ lw_all := lw_g (lw_at lw_m8 178 rfl) rfl
theorem q1960 : (Jvm.Cond.privateMethod ({ cls := "JumpFenceModel", name := "isSo", desc := "(I)Z" } : Jvm.MethodName)) ∈ lw_tbl := lw_at lw_m8 179 rfl
theorem q1961 : (Jvm.Cond.instanceMethod ({ cls := "JumpFenceModel", name := "isSo", desc := "(I)Z" } : Jvm.MethodName)) ∈ lw_all := lw_g (lw_at lw_m8 180 rfl) rfl
theorem q1962 : (Jvm.Cond.code ({ cls := "JumpFenceModel", name := "isSo", desc := "(I)Z" } : Jvm.MethodName) prog_19_method_58_code (5 : Nat) (Option.some Jvm.ClassFile.FieldType.boolean)) ∈ lw_all := lw_g (lw_at lw_m8 181 rfl) rfl
theorem q1963 : (Jvm.Cond.methodLink "JumpFenceModel" (306 : Nat) ({ cls := "JumpFenceModel", name := "keepsPlace", desc := "(I)V" } : Jvm.MethodName)) ∈ lw_all := lw_g (lw_at lw_m8 182 rfl) rfl
theorem q1964 : (Jvm.Cond.privateMethod ({ cls := "JumpFenceModel", name := "keepsPlace", desc := "(I)V" } : Jvm.MethodName)) ∈ lw_tbl := lw_at lw_m8 183 rfl
theorem q1965 : (Jvm.Cond.instanceMethod ({ cls := "JumpFenceModel", name := "keepsPlace", desc := "(I)V" } : Jvm.MethodName)) ∈ lw_all := lw_g (lw_at lw_m8 184 rfl) rfl
theorem q1966 : (Jvm.Cond.code ({ cls := "JumpFenceModel", name := "keepsPlace", desc := "(I)V" } : Jvm.MethodName) prog_19_method_62_code (2 : Nat) (Option.none : Option Jvm.ClassFile.FieldType)) ∈ lw_all := lw_g (lw_at lw_m8 185 rfl) rfl
theorem q1968 : (Jvm.Cond.instanceMethod ({ cls := "JumpFenceModel", name := "step", desc := "(ZI)I" } : Jvm.MethodName)) ∈ lw_all := lw_g (lw_at lw_m8 187 rfl) rfl
theorem q1969 : (Jvm.Cond.selects "JumpFenceModel" ({ cls := "JumpFenceModel", name := "step", desc := "(ZI)I" } : Jvm.MethodName) ({ cls := "JumpFenceModel", name := "step", desc := "(ZI)I" } : Jvm.MethodName)) ∈ lw_all := lw_g (lw_at lw_m8 188 rfl) rfl
theorem q1970 : (Jvm.Cond.code ({ cls := "JumpFenceModel", name := "step", desc := "(ZI)I" } : Jvm.MethodName) prog_19_method_69_code (3 : Nat) (Option.some Jvm.ClassFile.FieldType.int)) ∈ lw_all := lw_g (lw_at lw_m8 189 rfl) rfl
theorem q1972 : (Jvm.Cond.instanceMethod ({ cls := "JumpFenceModel", name := "said", desc := "(ZI)I" } : Jvm.MethodName)) ∈ lw_all := lw_g (lw_at lw_m8 191 rfl) rfl
theorem q1973 : (Jvm.Cond.selects "JumpFenceModel" ({ cls := "JumpFenceModel", name := "said", desc := "(ZI)I" } : Jvm.MethodName) ({ cls := "JumpFenceModel", name := "said", desc := "(ZI)I" } : Jvm.MethodName)) ∈ lw_all := lw_g (lw_at lw_m8 192 rfl) rfl
theorem q1974 : (Jvm.Cond.code ({ cls := "JumpFenceModel", name := "said", desc := "(ZI)I" } : Jvm.MethodName) prog_19_method_70_code (3 : Nat) (Option.some Jvm.ClassFile.FieldType.int)) ∈ lw_all := lw_g (lw_at lw_m8 193 rfl) rfl
theorem q1975 : (Jvm.Cond.constant "JumpFenceModel" (356 : Nat) (1000000 : Int32)) ∈ lw_all := lw_g (lw_at lw_m8 194 rfl) rfl
theorem q1977 : (Jvm.Cond.instanceMethod ({ cls := "JumpFenceModel", name := "cell", desc := "(ZI)I" } : Jvm.MethodName)) ∈ lw_all := lw_g (lw_at lw_m8 196 rfl) rfl
theorem q1978 : (Jvm.Cond.selects "JumpFenceModel" ({ cls := "JumpFenceModel", name := "cell", desc := "(ZI)I" } : Jvm.MethodName) ({ cls := "JumpFenceModel", name := "cell", desc := "(ZI)I" } : Jvm.MethodName)) ∈ lw_all := lw_g (lw_at lw_m8 197 rfl) rfl
theorem q1979 : (Jvm.Cond.code ({ cls := "JumpFenceModel", name := "cell", desc := "(ZI)I" } : Jvm.MethodName) prog_19_method_71_code (3 : Nat) (Option.some Jvm.ClassFile.FieldType.int)) ∈ lw_all := lw_g (lw_at lw_m8 198 rfl) rfl
theorem q1981 : (Jvm.Cond.instanceMethod ({ cls := "JumpFenceModel", name := "power", desc := "(IZ)I" } : Jvm.MethodName)) ∈ lw_all := lw_g (lw_at lw_m8 200 rfl) rfl
theorem q1982 : (Jvm.Cond.selects "JumpFenceModel" ({ cls := "JumpFenceModel", name := "power", desc := "(IZ)I" } : Jvm.MethodName) ({ cls := "JumpFenceModel", name := "power", desc := "(IZ)I" } : Jvm.MethodName)) ∈ lw_all := lw_g (lw_at lw_m8 201 rfl) rfl
theorem q1983 : (Jvm.Cond.code ({ cls := "JumpFenceModel", name := "power", desc := "(IZ)I" } : Jvm.MethodName) prog_19_method_72_code (4 : Nat) (Option.some Jvm.ClassFile.FieldType.int)) ∈ lw_all := lw_g (lw_at lw_m8 202 rfl) rfl
theorem q1984 : (Jvm.Cond.constant "JumpFenceModel" (357 : Nat) (65535 : Int32)) ∈ lw_all := lw_g (lw_at lw_m8 203 rfl) rfl
theorem q1986 : (Jvm.Cond.instanceMethod ({ cls := "JumpFenceModel", name := "harm", desc := "(I)I" } : Jvm.MethodName)) ∈ lw_all := lw_g (lw_at lw_m8 205 rfl) rfl
theorem q1987 : (Jvm.Cond.selects "JumpFenceModel" ({ cls := "JumpFenceModel", name := "harm", desc := "(I)I" } : Jvm.MethodName) ({ cls := "JumpFenceModel", name := "harm", desc := "(I)I" } : Jvm.MethodName)) ∈ lw_all := lw_g (lw_at lw_m8 206 rfl) rfl
theorem q1988 : (Jvm.Cond.code ({ cls := "JumpFenceModel", name := "harm", desc := "(I)I" } : Jvm.MethodName) prog_19_method_73_code (2 : Nat) (Option.some Jvm.ClassFile.FieldType.int)) ∈ lw_all := lw_g (lw_at lw_m8 207 rfl) rfl
theorem q1990 : (Jvm.Cond.instanceMethod ({ cls := "JumpFenceModel", name := "closed", desc := "(I)J" } : Jvm.MethodName)) ∈ lw_all := lw_g (lw_at lw_m8 209 rfl) rfl
theorem q1991 : (Jvm.Cond.selects "JumpFenceModel" ({ cls := "JumpFenceModel", name := "closed", desc := "(I)J" } : Jvm.MethodName) ({ cls := "JumpFenceModel", name := "closed", desc := "(I)J" } : Jvm.MethodName)) ∈ lw_all := lw_g (lw_at lw_m8 210 rfl) rfl
theorem q1992 : (Jvm.Cond.code ({ cls := "JumpFenceModel", name := "closed", desc := "(I)J" } : Jvm.MethodName) prog_19_method_84_code (2 : Nat) (Option.some Jvm.ClassFile.FieldType.long)) ∈ lw_all := lw_g (lw_at lw_m8 211 rfl) rfl
theorem q1993 : (Jvm.Cond.methodLink "JumpFenceModel" (367 : Nat) ({ cls := "JumpFenceModel", name := "noPower", desc := "(I)Z" } : Jvm.MethodName)) ∈ lw_all := lw_g (lw_at lw_m8 212 rfl) rfl
theorem q1994 : (Jvm.Cond.privateMethod ({ cls := "JumpFenceModel", name := "noPower", desc := "(I)Z" } : Jvm.MethodName)) ∈ lw_tbl := lw_at lw_m8 213 rfl
theorem q1995 : (Jvm.Cond.instanceMethod ({ cls := "JumpFenceModel", name := "noPower", desc := "(I)Z" } : Jvm.MethodName)) ∈ lw_all := lw_g (lw_at lw_m8 214 rfl) rfl
theorem q1996 : (Jvm.Cond.code ({ cls := "JumpFenceModel", name := "noPower", desc := "(I)Z" } : Jvm.MethodName) prog_19_method_74_code (2 : Nat) (Option.some Jvm.ClassFile.FieldType.boolean)) ∈ lw_all := lw_g (lw_at lw_m8 215 rfl) rfl
theorem q1997 : (Jvm.Cond.methodLink "JumpFenceModel" (370 : Nat) ({ cls := "JumpFenceModel", name := "gradesNow", desc := "()V" } : Jvm.MethodName)) ∈ lw_all := lw_g (lw_at lw_m8 216 rfl) rfl
theorem q1998 : (Jvm.Cond.privateMethod ({ cls := "JumpFenceModel", name := "gradesNow", desc := "()V" } : Jvm.MethodName)) ∈ lw_tbl := lw_at lw_m8 217 rfl
theorem q1999 : (Jvm.Cond.instanceMethod ({ cls := "JumpFenceModel", name := "gradesNow", desc := "()V" } : Jvm.MethodName)) ∈ lw_all := lw_g (lw_at lw_m8 218 rfl) rfl
theorem q2000 : (Jvm.Cond.code ({ cls := "JumpFenceModel", name := "gradesNow", desc := "()V" } : Jvm.MethodName) prog_19_method_81_code (2 : Nat) (Option.none : Option Jvm.ClassFile.FieldType)) ∈ lw_all := lw_g (lw_at lw_m8 219 rfl) rfl
theorem q2001 : (Jvm.Cond.methodLink "JumpFenceModel" (373 : Nat) ({ cls := "JumpFenceModel", name := "ways", desc := "(I)V" } : Jvm.MethodName)) ∈ lw_all := lw_g (lw_at lw_m8 220 rfl) rfl
theorem q2002 : (Jvm.Cond.privateMethod ({ cls := "JumpFenceModel", name := "ways", desc := "(I)V" } : Jvm.MethodName)) ∈ lw_tbl := lw_at lw_m8 221 rfl
theorem q2003 : (Jvm.Cond.instanceMethod ({ cls := "JumpFenceModel", name := "ways", desc := "(I)V" } : Jvm.MethodName)) ∈ lw_all := lw_g (lw_at lw_m8 222 rfl) rfl
theorem q2004 : (Jvm.Cond.code ({ cls := "JumpFenceModel", name := "ways", desc := "(I)V" } : Jvm.MethodName) prog_19_method_80_code (3 : Nat) (Option.none : Option Jvm.ClassFile.FieldType)) ∈ lw_all := lw_g (lw_at lw_m8 223 rfl) rfl
theorem q2005 : (Jvm.Cond.methodLink "JumpFenceModel" (364 : Nat) ({ cls := "JumpFenceModel", name := "mayFrom", desc := "(II)J" } : Jvm.MethodName)) ∈ lw_all := lw_g (lw_at lw_m8 224 rfl) rfl
theorem q2006 : (Jvm.Cond.privateMethod ({ cls := "JumpFenceModel", name := "mayFrom", desc := "(II)J" } : Jvm.MethodName)) ∈ lw_tbl := lw_at lw_m8 225 rfl
theorem q2007 : (Jvm.Cond.instanceMethod ({ cls := "JumpFenceModel", name := "mayFrom", desc := "(II)J" } : Jvm.MethodName)) ∈ lw_all := lw_g (lw_at lw_m8 226 rfl) rfl
theorem q2008 : (Jvm.Cond.code ({ cls := "JumpFenceModel", name := "mayFrom", desc := "(II)J" } : Jvm.MethodName) prog_19_method_79_code (11 : Nat) (Option.some Jvm.ClassFile.FieldType.long)) ∈ lw_all := lw_g (lw_at lw_m8 227 rfl) rfl
theorem q2009 : (Jvm.Cond.methodLink "JumpFenceModel" (361 : Nat) ({ cls := "JumpFenceModel", name := "bendsRow", desc := "(I)Z" } : Jvm.MethodName)) ∈ lw_all := lw_g (lw_at lw_m8 228 rfl) rfl
theorem q2010 : (Jvm.Cond.privateMethod ({ cls := "JumpFenceModel", name := "bendsRow", desc := "(I)Z" } : Jvm.MethodName)) ∈ lw_tbl := lw_at lw_m8 229 rfl
theorem q2011 : (Jvm.Cond.instanceMethod ({ cls := "JumpFenceModel", name := "bendsRow", desc := "(I)Z" } : Jvm.MethodName)) ∈ lw_all := lw_g (lw_at lw_m8 230 rfl) rfl
theorem q2012 : (Jvm.Cond.code ({ cls := "JumpFenceModel", name := "bendsRow", desc := "(I)Z" } : Jvm.MethodName) prog_19_method_78_code (2 : Nat) (Option.some Jvm.ClassFile.FieldType.boolean)) ∈ lw_all := lw_g (lw_at lw_m8 231 rfl) rfl
theorem q2013 : (Jvm.Cond.methodLink "JumpFenceModel" (358 : Nat) ({ cls := "JumpFenceModel", name := "bendsCell", desc := "(II)Z" } : Jvm.MethodName)) ∈ lw_all := lw_g (lw_at lw_m8 232 rfl) rfl
theorem q2014 : (Jvm.Cond.privateMethod ({ cls := "JumpFenceModel", name := "bendsCell", desc := "(II)Z" } : Jvm.MethodName)) ∈ lw_tbl := lw_at lw_m8 233 rfl
theorem q2015 : (Jvm.Cond.instanceMethod ({ cls := "JumpFenceModel", name := "bendsCell", desc := "(II)Z" } : Jvm.MethodName)) ∈ lw_all := lw_g (lw_at lw_m8 234 rfl) rfl
theorem q2016 : (Jvm.Cond.code ({ cls := "JumpFenceModel", name := "bendsCell", desc := "(II)Z" } : Jvm.MethodName) prog_19_method_76_code (3 : Nat) (Option.some Jvm.ClassFile.FieldType.boolean)) ∈ lw_all := lw_g (lw_at lw_m8 235 rfl) rfl
theorem q2017 : (Jvm.Cond.methodLink "JumpFenceModel" (376 : Nat) ({ cls := "JumpFenceModel", name := "closedSet", desc := "()J" } : Jvm.MethodName)) ∈ lw_all := lw_g (lw_at lw_m8 236 rfl) rfl
theorem q2018 : (Jvm.Cond.privateMethod ({ cls := "JumpFenceModel", name := "closedSet", desc := "()J" } : Jvm.MethodName)) ∈ lw_tbl := lw_at lw_m8 237 rfl
theorem q2019 : (Jvm.Cond.instanceMethod ({ cls := "JumpFenceModel", name := "closedSet", desc := "()J" } : Jvm.MethodName)) ∈ lw_all := lw_g (lw_at lw_m8 238 rfl) rfl
theorem q2020 : (Jvm.Cond.code ({ cls := "JumpFenceModel", name := "closedSet", desc := "()J" } : Jvm.MethodName) prog_19_method_82_code (5 : Nat) (Option.some Jvm.ClassFile.FieldType.long)) ∈ lw_all := lw_g (lw_at lw_m8 239 rfl) rfl
theorem q2022 : (Jvm.Cond.instanceMethod ({ cls := "JumpFenceModel", name := "reach", desc := "(II)I" } : Jvm.MethodName)) ∈ lw_all := lw_g (lw_at lw_m9 1 rfl) rfl
theorem q2023 : (Jvm.Cond.selects "JumpFenceModel" ({ cls := "JumpFenceModel", name := "reach", desc := "(II)I" } : Jvm.MethodName) ({ cls := "JumpFenceModel", name := "reach", desc := "(II)I" } : Jvm.MethodName)) ∈ lw_all := lw_g (lw_at lw_m9 2 rfl) rfl
theorem q2024 : (Jvm.Cond.code ({ cls := "JumpFenceModel", name := "reach", desc := "(II)I" } : Jvm.MethodName) prog_19_method_90_code (3 : Nat) (Option.some Jvm.ClassFile.FieldType.int)) ∈ lw_all := lw_g (lw_at lw_m9 3 rfl) rfl
theorem q2025 : (Jvm.Cond.methodLink "JumpFenceModel" (402 : Nat) ({ cls := "JumpFenceModel", name := "noHarm", desc := "(I)Z" } : Jvm.MethodName)) ∈ lw_all := lw_g (lw_at lw_m9 4 rfl) rfl
theorem q2026 : (Jvm.Cond.privateMethod ({ cls := "JumpFenceModel", name := "noHarm", desc := "(I)Z" } : Jvm.MethodName)) ∈ lw_tbl := lw_at lw_m9 5 rfl
theorem q2027 : (Jvm.Cond.instanceMethod ({ cls := "JumpFenceModel", name := "noHarm", desc := "(I)Z" } : Jvm.MethodName)) ∈ lw_all := lw_g (lw_at lw_m9 6 rfl) rfl
theorem q2028 : (Jvm.Cond.code ({ cls := "JumpFenceModel", name := "noHarm", desc := "(I)Z" } : Jvm.MethodName) prog_19_method_75_code (2 : Nat) (Option.some Jvm.ClassFile.FieldType.boolean)) ∈ lw_all := lw_g (lw_at lw_m9 7 rfl) rfl
theorem q2029 : (Jvm.Cond.methodLink "JumpFenceModel" (405 : Nat) ({ cls := "JumpFenceModel", name := "reachOf", desc := "(II)I" } : Jvm.MethodName)) ∈ lw_all := lw_g (lw_at lw_m9 8 rfl) rfl
theorem q2030 : (Jvm.Cond.privateMethod ({ cls := "JumpFenceModel", name := "reachOf", desc := "(II)I" } : Jvm.MethodName)) ∈ lw_tbl := lw_at lw_m9 9 rfl
theorem q2031 : (Jvm.Cond.instanceMethod ({ cls := "JumpFenceModel", name := "reachOf", desc := "(II)I" } : Jvm.MethodName)) ∈ lw_all := lw_g (lw_at lw_m9 10 rfl) rfl
theorem q2032 : (Jvm.Cond.code ({ cls := "JumpFenceModel", name := "reachOf", desc := "(II)I" } : Jvm.MethodName) prog_19_method_89_code (3 : Nat) (Option.some Jvm.ClassFile.FieldType.int)) ∈ lw_all := lw_g (lw_at lw_m9 11 rfl) rfl
theorem q2033 : (Jvm.Cond.methodLink "JumpFenceModel" (396 : Nat) ({ cls := "JumpFenceModel", name := "finds", desc := "(II)V" } : Jvm.MethodName)) ∈ lw_all := lw_g (lw_at lw_m9 12 rfl) rfl
theorem q2034 : (Jvm.Cond.privateMethod ({ cls := "JumpFenceModel", name := "finds", desc := "(II)V" } : Jvm.MethodName)) ∈ lw_tbl := lw_at lw_m9 13 rfl
theorem q2035 : (Jvm.Cond.instanceMethod ({ cls := "JumpFenceModel", name := "finds", desc := "(II)V" } : Jvm.MethodName)) ∈ lw_all := lw_g (lw_at lw_m9 14 rfl) rfl
theorem q2036 : (Jvm.Cond.code ({ cls := "JumpFenceModel", name := "finds", desc := "(II)V" } : Jvm.MethodName) prog_19_method_85_code (8 : Nat) (Option.none : Option Jvm.ClassFile.FieldType)) ∈ lw_all := lw_g (lw_at lw_m9 15 rfl) rfl
theorem q2037 : (Jvm.Cond.methodLink "JumpFenceModel" (379 : Nat) ({ cls := "JumpFenceModel", name := "doorsOf", desc := "(I)J" } : Jvm.MethodName)) ∈ lw_all := lw_g (lw_at lw_m9 16 rfl) rfl
theorem q2038 : (Jvm.Cond.privateMethod ({ cls := "JumpFenceModel", name := "doorsOf", desc := "(I)J" } : Jvm.MethodName)) ∈ lw_tbl := lw_at lw_m9 17 rfl
theorem q2039 : (Jvm.Cond.instanceMethod ({ cls := "JumpFenceModel", name := "doorsOf", desc := "(I)J" } : Jvm.MethodName)) ∈ lw_all := lw_g (lw_at lw_m9 18 rfl) rfl
theorem q2040 : (Jvm.Cond.code ({ cls := "JumpFenceModel", name := "doorsOf", desc := "(I)J" } : Jvm.MethodName) prog_19_method_83_code (5 : Nat) (Option.some Jvm.ClassFile.FieldType.long)) ∈ lw_all := lw_g (lw_at lw_m9 19 rfl) rfl
theorem q2041 : (Jvm.Cond.methodLink "JumpFenceModel" (399 : Nat) ({ cls := "JumpFenceModel", name := "isTried", desc := "(II)Z" } : Jvm.MethodName)) ∈ lw_all := lw_g (lw_at lw_m9 20 rfl) rfl
theorem q2042 : (Jvm.Cond.privateMethod ({ cls := "JumpFenceModel", name := "isTried", desc := "(II)Z" } : Jvm.MethodName)) ∈ lw_tbl := lw_at lw_m9 21 rfl
theorem q2043 : (Jvm.Cond.instanceMethod ({ cls := "JumpFenceModel", name := "isTried", desc := "(II)Z" } : Jvm.MethodName)) ∈ lw_all := lw_g (lw_at lw_m9 22 rfl) rfl
theorem q2044 : (Jvm.Cond.code ({ cls := "JumpFenceModel", name := "isTried", desc := "(II)Z" } : Jvm.MethodName) prog_19_method_88_code (5 : Nat) (Option.some Jvm.ClassFile.FieldType.boolean)) ∈ lw_all := lw_g (lw_at lw_m9 23 rfl) rfl
theorem q2045 : (Jvm.Cond.methodLink "JumpFenceModel" (392 : Nat) ({ cls := "JumpFenceModel", name := "bendsAt", desc := "(III)V" } : Jvm.MethodName)) ∈ lw_all := lw_g (lw_at lw_m9 24 rfl) rfl
theorem q2046 : (Jvm.Cond.privateMethod ({ cls := "JumpFenceModel", name := "bendsAt", desc := "(III)V" } : Jvm.MethodName)) ∈ lw_tbl := lw_at lw_m9 25 rfl
theorem q2047 : (Jvm.Cond.instanceMethod ({ cls := "JumpFenceModel", name := "bendsAt", desc := "(III)V" } : Jvm.MethodName)) ∈ lw_all := lw_g (lw_at lw_m9 26 rfl) rfl
theorem q2048 : (Jvm.Cond.code ({ cls := "JumpFenceModel", name := "bendsAt", desc := "(III)V" } : Jvm.MethodName) prog_19_method_87_code (7 : Nat) (Option.none : Option Jvm.ClassFile.FieldType)) ∈ lw_all := lw_g (lw_at lw_m9 27 rfl) rfl
theorem q2049 : (Jvm.Cond.methodLink "JumpFenceModel" (385 : Nat) ({ cls := "JumpFenceModel", name := "bendsAtom", desc := "(II)Z" } : Jvm.MethodName)) ∈ lw_all := lw_g (lw_at lw_m9 28 rfl) rfl
theorem q2050 : (Jvm.Cond.privateMethod ({ cls := "JumpFenceModel", name := "bendsAtom", desc := "(II)Z" } : Jvm.MethodName)) ∈ lw_tbl := lw_at lw_m9 29 rfl
theorem q2051 : (Jvm.Cond.instanceMethod ({ cls := "JumpFenceModel", name := "bendsAtom", desc := "(II)Z" } : Jvm.MethodName)) ∈ lw_all := lw_g (lw_at lw_m9 30 rfl) rfl
theorem q2052 : (Jvm.Cond.code ({ cls := "JumpFenceModel", name := "bendsAtom", desc := "(II)Z" } : Jvm.MethodName) prog_19_method_77_code (3 : Nat) (Option.some Jvm.ClassFile.FieldType.boolean)) ∈ lw_all := lw_g (lw_at lw_m9 31 rfl) rfl
theorem q2053 : (Jvm.Cond.methodLink "JumpFenceModel" (388 : Nat) ({ cls := "JumpFenceModel", name := "bendsIf", desc := "(IIZ)V" } : Jvm.MethodName)) ∈ lw_all := lw_g (lw_at lw_m9 32 rfl) rfl
theorem q2054 : (Jvm.Cond.privateMethod ({ cls := "JumpFenceModel", name := "bendsIf", desc := "(IIZ)V" } : Jvm.MethodName)) ∈ lw_tbl := lw_at lw_m9 33 rfl
theorem q2055 : (Jvm.Cond.instanceMethod ({ cls := "JumpFenceModel", name := "bendsIf", desc := "(IIZ)V" } : Jvm.MethodName)) ∈ lw_all := lw_g (lw_at lw_m9 34 rfl) rfl
theorem q2056 : (Jvm.Cond.code ({ cls := "JumpFenceModel", name := "bendsIf", desc := "(IIZ)V" } : Jvm.MethodName) prog_19_method_86_code (8 : Nat) (Option.none : Option Jvm.ClassFile.FieldType)) ∈ lw_all := lw_g (lw_at lw_m9 35 rfl) rfl
theorem q2058 : (Jvm.Cond.instanceMethod ({ cls := "JumpFenceModel", name := "row", desc := "(III)I" } : Jvm.MethodName)) ∈ lw_all := lw_g (lw_at lw_m9 37 rfl) rfl
theorem q2059 : (Jvm.Cond.selects "JumpFenceModel" ({ cls := "JumpFenceModel", name := "row", desc := "(III)I" } : Jvm.MethodName) ({ cls := "JumpFenceModel", name := "row", desc := "(III)I" } : Jvm.MethodName)) ∈ lw_all := lw_g (lw_at lw_m9 38 rfl) rfl
theorem q2060 : (Jvm.Cond.code ({ cls := "JumpFenceModel", name := "row", desc := "(III)I" } : Jvm.MethodName) prog_19_method_91_code (4 : Nat) (Option.some Jvm.ClassFile.FieldType.int)) ∈ lw_all := lw_g (lw_at lw_m9 39 rfl) rfl
theorem q2062 : (Jvm.Cond.instanceMethod ({ cls := "JumpFenceModel", name := "least", desc := "(III)I" } : Jvm.MethodName)) ∈ lw_all := lw_g (lw_at lw_m9 41 rfl) rfl
theorem q2063 : (Jvm.Cond.selects "JumpFenceModel" ({ cls := "JumpFenceModel", name := "least", desc := "(III)I" } : Jvm.MethodName) ({ cls := "JumpFenceModel", name := "least", desc := "(III)I" } : Jvm.MethodName)) ∈ lw_all := lw_g (lw_at lw_m9 42 rfl) rfl
theorem q2064 : (Jvm.Cond.code ({ cls := "JumpFenceModel", name := "least", desc := "(III)I" } : Jvm.MethodName) prog_19_method_94_code (5 : Nat) (Option.some Jvm.ClassFile.FieldType.int)) ∈ lw_all := lw_g (lw_at lw_m9 43 rfl) rfl
theorem q2065 : (Jvm.Cond.methodLink "JumpFenceModel" (417 : Nat) ({ cls := "JumpFenceModel", name := "chooses", desc := "(IIIJ)V" } : Jvm.MethodName)) ∈ lw_all := lw_g (lw_at lw_m9 44 rfl) rfl
theorem q2066 : (Jvm.Cond.privateMethod ({ cls := "JumpFenceModel", name := "chooses", desc := "(IIIJ)V" } : Jvm.MethodName)) ∈ lw_tbl := lw_at lw_m9 45 rfl
theorem q2067 : (Jvm.Cond.instanceMethod ({ cls := "JumpFenceModel", name := "chooses", desc := "(IIIJ)V" } : Jvm.MethodName)) ∈ lw_all := lw_g (lw_at lw_m9 46 rfl) rfl
theorem q2068 : (Jvm.Cond.code ({ cls := "JumpFenceModel", name := "chooses", desc := "(IIIJ)V" } : Jvm.MethodName) prog_19_method_93_code (8 : Nat) (Option.none : Option Jvm.ClassFile.FieldType)) ∈ lw_all := lw_g (lw_at lw_m9 47 rfl) rfl
theorem q2069 : (Jvm.Cond.methodLink "JumpFenceModel" (414 : Nat) ({ cls := "JumpFenceModel", name := "ticksOf", desc := "(I)I" } : Jvm.MethodName)) ∈ lw_all := lw_g (lw_at lw_m9 48 rfl) rfl
theorem q2070 : (Jvm.Cond.privateMethod ({ cls := "JumpFenceModel", name := "ticksOf", desc := "(I)I" } : Jvm.MethodName)) ∈ lw_tbl := lw_at lw_m9 49 rfl
theorem q2071 : (Jvm.Cond.instanceMethod ({ cls := "JumpFenceModel", name := "ticksOf", desc := "(I)I" } : Jvm.MethodName)) ∈ lw_all := lw_g (lw_at lw_m9 50 rfl) rfl
theorem q2072 : (Jvm.Cond.code ({ cls := "JumpFenceModel", name := "ticksOf", desc := "(I)I" } : Jvm.MethodName) prog_19_method_92_code (2 : Nat) (Option.some Jvm.ClassFile.FieldType.int)) ∈ lw_all := lw_g (lw_at lw_m9 51 rfl) rfl
theorem q2074 : (Jvm.Cond.instanceMethod ({ cls := "JumpFenceModel", name := "marks", desc := "()I" } : Jvm.MethodName)) ∈ lw_all := lw_g (lw_at lw_m9 53 rfl) rfl
theorem q2075 : (Jvm.Cond.selects "JumpFenceModel" ({ cls := "JumpFenceModel", name := "marks", desc := "()I" } : Jvm.MethodName) ({ cls := "JumpFenceModel", name := "marks", desc := "()I" } : Jvm.MethodName)) ∈ lw_all := lw_g (lw_at lw_m9 54 rfl) rfl
theorem q2076 : (Jvm.Cond.code ({ cls := "JumpFenceModel", name := "marks", desc := "()I" } : Jvm.MethodName) prog_19_method_96_code (4 : Nat) (Option.some Jvm.ClassFile.FieldType.int)) ∈ lw_all := lw_g (lw_at lw_m9 55 rfl) rfl
theorem q2077 : (Jvm.Cond.methodLink "JumpFenceModel" (424 : Nat) ({ cls := "JumpFenceModel", name := "gathers", desc := "()V" } : Jvm.MethodName)) ∈ lw_all := lw_g (lw_at lw_m9 56 rfl) rfl
theorem q2078 : (Jvm.Cond.privateMethod ({ cls := "JumpFenceModel", name := "gathers", desc := "()V" } : Jvm.MethodName)) ∈ lw_tbl := lw_at lw_m9 57 rfl
theorem q2079 : (Jvm.Cond.instanceMethod ({ cls := "JumpFenceModel", name := "gathers", desc := "()V" } : Jvm.MethodName)) ∈ lw_all := lw_g (lw_at lw_m9 58 rfl) rfl
theorem q2080 : (Jvm.Cond.code ({ cls := "JumpFenceModel", name := "gathers", desc := "()V" } : Jvm.MethodName) prog_19_method_95_code (2 : Nat) (Option.none : Option Jvm.ClassFile.FieldType)) ∈ lw_all := lw_g (lw_at lw_m9 59 rfl) rfl
theorem q2081 : (Jvm.Cond.methodLink "JumpFenceModel" (427 : Nat) ({ cls := "java/lang/Math", name := "min", desc := "(II)I" } : Jvm.MethodName)) ∈ lw_all := lw_g (lw_at lw_m9 60 rfl) rfl
theorem q2083 : (Jvm.Cond.instanceMethod ({ cls := "JumpFenceModel", name := "joined", desc := "(I)I" } : Jvm.MethodName)) ∈ lw_all := lw_g (lw_at lw_m9 62 rfl) rfl
theorem q2084 : (Jvm.Cond.selects "JumpFenceModel" ({ cls := "JumpFenceModel", name := "joined", desc := "(I)I" } : Jvm.MethodName) ({ cls := "JumpFenceModel", name := "joined", desc := "(I)I" } : Jvm.MethodName)) ∈ lw_all := lw_g (lw_at lw_m9 63 rfl) rfl
theorem q2085 : (Jvm.Cond.code ({ cls := "JumpFenceModel", name := "joined", desc := "(I)I" } : Jvm.MethodName) prog_19_method_98_code (2 : Nat) (Option.some Jvm.ClassFile.FieldType.int)) ∈ lw_all := lw_g (lw_at lw_m9 64 rfl) rfl
theorem q2086 : (Jvm.Cond.methodLink "JumpFenceModel" (441 : Nat) ({ cls := "JumpFenceModel", name := "parts", desc := "(III)V" } : Jvm.MethodName)) ∈ lw_all := lw_g (lw_at lw_m9 65 rfl) rfl
theorem q2087 : (Jvm.Cond.privateMethod ({ cls := "JumpFenceModel", name := "parts", desc := "(III)V" } : Jvm.MethodName)) ∈ lw_tbl := lw_at lw_m9 66 rfl
theorem q2088 : (Jvm.Cond.instanceMethod ({ cls := "JumpFenceModel", name := "parts", desc := "(III)V" } : Jvm.MethodName)) ∈ lw_all := lw_g (lw_at lw_m9 67 rfl) rfl
theorem q2089 : (Jvm.Cond.code ({ cls := "JumpFenceModel", name := "parts", desc := "(III)V" } : Jvm.MethodName) prog_19_method_97_code (8 : Nat) (Option.none : Option Jvm.ClassFile.FieldType)) ∈ lw_all := lw_g (lw_at lw_m9 68 rfl) rfl
theorem q2090 : (Jvm.Cond.methodLink "JumpFenceModel" (432 : Nat) ({ cls := "java/lang/Long", name := "bitCount", desc := "(J)I" } : Jvm.MethodName)) ∈ lw_all := lw_g (lw_at lw_m9 69 rfl) rfl
theorem q2092 : (Jvm.Cond.instanceMethod ({ cls := "JumpFenceModel", name := "fence", desc := "(IIJI)I" } : Jvm.MethodName)) ∈ lw_all := lw_g (lw_at lw_m9 71 rfl) rfl
theorem q2093 : (Jvm.Cond.selects "JumpFenceModel" ({ cls := "JumpFenceModel", name := "fence", desc := "(IIJI)I" } : Jvm.MethodName) ({ cls := "JumpFenceModel", name := "fence", desc := "(IIJI)I" } : Jvm.MethodName)) ∈ lw_all := lw_g (lw_at lw_m9 72 rfl) rfl
theorem q2094 : (Jvm.Cond.code ({ cls := "JumpFenceModel", name := "fence", desc := "(IIJI)I" } : Jvm.MethodName) prog_19_method_99_code (11 : Nat) (Option.some Jvm.ClassFile.FieldType.int)) ∈ lw_all := lw_g (lw_at lw_m9 73 rfl) rfl
theorem q2095 : (Jvm.Cond.constantLong "JumpFenceModel" (444 : Nat) (-1 : Int64)) ∈ lw_all := lw_g (lw_at lw_m9 74 rfl) rfl
theorem q2097 : (Jvm.Cond.instanceMethod ({ cls := "JumpFenceModel", name := "late", desc := "(I)I" } : Jvm.MethodName)) ∈ lw_all := lw_g (lw_at lw_m9 76 rfl) rfl
theorem q2098 : (Jvm.Cond.selects "JumpFenceModel" ({ cls := "JumpFenceModel", name := "late", desc := "(I)I" } : Jvm.MethodName) ({ cls := "JumpFenceModel", name := "late", desc := "(I)I" } : Jvm.MethodName)) ∈ lw_all := lw_g (lw_at lw_m9 77 rfl) rfl
theorem q2099 : (Jvm.Cond.code ({ cls := "JumpFenceModel", name := "late", desc := "(I)I" } : Jvm.MethodName) prog_19_method_100_code (3 : Nat) (Option.some Jvm.ClassFile.FieldType.int)) ∈ lw_all := lw_g (lw_at lw_m9 78 rfl) rfl
theorem q2101 : (Jvm.Cond.instanceMethod ({ cls := "JumpFenceModel", name := "judge", desc := "()I" } : Jvm.MethodName)) ∈ lw_all := lw_g (lw_at lw_m9 80 rfl) rfl
theorem q2102 : (Jvm.Cond.selects "JumpFenceModel" ({ cls := "JumpFenceModel", name := "judge", desc := "()I" } : Jvm.MethodName) ({ cls := "JumpFenceModel", name := "judge", desc := "()I" } : Jvm.MethodName)) ∈ lw_all := lw_g (lw_at lw_m9 81 rfl) rfl
theorem q2103 : (Jvm.Cond.code ({ cls := "JumpFenceModel", name := "judge", desc := "()I" } : Jvm.MethodName) prog_19_method_101_code (2 : Nat) (Option.some Jvm.ClassFile.FieldType.int)) ∈ lw_all := lw_g (lw_at lw_m9 82 rfl) rfl
theorem q2105 : (Jvm.Cond.instanceMethod ({ cls := "JumpFenceModel", name := "count", desc := "(I)I" } : Jvm.MethodName)) ∈ lw_all := lw_g (lw_at lw_m9 84 rfl) rfl
theorem q2106 : (Jvm.Cond.selects "JumpFenceModel" ({ cls := "JumpFenceModel", name := "count", desc := "(I)I" } : Jvm.MethodName) ({ cls := "JumpFenceModel", name := "count", desc := "(I)I" } : Jvm.MethodName)) ∈ lw_all := lw_g (lw_at lw_m9 85 rfl) rfl
theorem q2107 : (Jvm.Cond.code ({ cls := "JumpFenceModel", name := "count", desc := "(I)I" } : Jvm.MethodName) prog_19_method_103_code (4 : Nat) (Option.some Jvm.ClassFile.FieldType.int)) ∈ lw_all := lw_g (lw_at lw_m9 86 rfl) rfl
theorem q2108 : (Jvm.Cond.methodLink "JumpFenceModel" (446 : Nat) ({ cls := "JumpFenceModel", name := "reaches", desc := "(I)I" } : Jvm.MethodName)) ∈ lw_all := lw_g (lw_at lw_m9 87 rfl) rfl
theorem q2109 : (Jvm.Cond.privateMethod ({ cls := "JumpFenceModel", name := "reaches", desc := "(I)I" } : Jvm.MethodName)) ∈ lw_tbl := lw_at lw_m9 88 rfl
theorem q2110 : (Jvm.Cond.instanceMethod ({ cls := "JumpFenceModel", name := "reaches", desc := "(I)I" } : Jvm.MethodName)) ∈ lw_all := lw_g (lw_at lw_m9 89 rfl) rfl
theorem q2111 : (Jvm.Cond.code ({ cls := "JumpFenceModel", name := "reaches", desc := "(I)I" } : Jvm.MethodName) prog_19_method_102_code (5 : Nat) (Option.some Jvm.ClassFile.FieldType.int)) ∈ lw_all := lw_g (lw_at lw_m9 90 rfl) rfl
theorem q2121 : (Jvm.Cond.castable "JumpFenceModel" "java/lang/Object") ∈ lw_tbl := lw_at lw_m9 100 rfl
theorem in_X6 : ∀ w ∈ wsX60, w ∈ lw_all := lw_in wsX60 [1587, 1589, 1591, 1593, 1595, 1597, 1599, 1601, 1603, 1605, 1607, 1609, 1611, 1613, 1615, 1617, 1619, 1621, 1623, 1625, 1627, 1629, 1631, 1633, 1635, 1637, 1639, 1641, 1643, 1645, 1647, 1649, 1651, 1653, 1655, 1657, 1659, 1661, 1663, 1665, 1667, 1669, 1671, 1673, 1675, 1677, 1679, 1681, 1683, 1685] (by decide +kernel) (by decide +kernel)

/-! JumpFence$Atom -/
def RX7 : String := "JumpFence$Atom"
def TX7 : u_T := fun k => match k with
  | 0 => ("JumpFence$Atom", "cell", "I", true)
  | _ => ("JumpFence$Atom", "number", "I", true)
def tyX7 : Nat → FieldType := fun k => match k with
  | 0 => .int
  | _ => .int
abbrev wsX70 : List Cond := u_ws RX7 TX7 2
theorem nmX7 : ∀ a, a < 2 → ∀ b, b < 2 → a ≠ b → (TX7 a).2.1 ≠ (TX7 b).2.1 := by decide +kernel
theorem tyX7_ok : ∀ k, k < 2 → parseFieldDescriptor (TX7 k).2.2.1 = some (tyX7 k) := by decide +kernel
abbrev cX7_of : ByteArray := prog_2_method_2_code
def yX7_of : MethodName := ⟨RX7, "of", "(LJumpFence$Machine;)I"⟩
abbrev cX7_init : ByteArray := prog_2_method_1_code
def yX7_init : MethodName := ⟨RX7, "<init>", "(II)V"⟩
theorem q115 : (Jvm.Cond.initialized "JumpFence$Atom") ∈ lw_all := lw_g (lw_at lw_m1 14 rfl) rfl
theorem q373 : (Jvm.Cond.fieldLinkNest "JumpFence$Atom" (18 : Nat) "JumpFence$Machine" "cells" "[I" "JumpFence") ∈ lw_tbl := lw_at lw_m2 32 rfl
theorem q644 : (Jvm.Cond.instanceMethod ({ cls := "JumpFence$Atom", name := "of", desc := "(LJumpFence$Machine;)I" } : Jvm.MethodName)) ∈ lw_all := lw_g (lw_at lw_m3 63 rfl) rfl
theorem q645 : (Jvm.Cond.selects "JumpFence$Atom" ({ cls := "JumpFence$Atom", name := "of", desc := "(LJumpFence$Machine;)I" } : Jvm.MethodName) ({ cls := "JumpFence$Atom", name := "of", desc := "(LJumpFence$Machine;)I" } : Jvm.MethodName)) ∈ lw_all := lw_g (lw_at lw_m3 64 rfl) rfl
theorem q646 : (Jvm.Cond.code ({ cls := "JumpFence$Atom", name := "of", desc := "(LJumpFence$Machine;)I" } : Jvm.MethodName) prog_2_method_2_code (2 : Nat) (Option.some Jvm.ClassFile.FieldType.int)) ∈ lw_all := lw_g (lw_at lw_m3 65 rfl) rfl
theorem q1039 : (Jvm.Cond.instantiable "JumpFence$Atom" (2 : Nat)) ∈ lw_all := lw_g (lw_at lw_m4 218 rfl) rfl
theorem q1041 : (Jvm.Cond.instanceMethod ({ cls := "JumpFence$Atom", name := "<init>", desc := "(II)V" } : Jvm.MethodName)) ∈ lw_all := lw_g (lw_at lw_m4 220 rfl) rfl
theorem q1042 : (Jvm.Cond.code ({ cls := "JumpFence$Atom", name := "<init>", desc := "(II)V" } : Jvm.MethodName) prog_2_method_1_code (3 : Nat) (Option.none : Option Jvm.ClassFile.FieldType)) ∈ lw_all := lw_g (lw_at lw_m4 221 rfl) rfl
theorem q1043 : (Jvm.Cond.methodLink "JumpFence$Atom" (3 : Nat) ({ cls := "java/lang/Object", name := "<init>", desc := "()V" } : Jvm.MethodName)) ∈ lw_all := lw_g (lw_at lw_m4 222 rfl) rfl
theorem q1044 : (Jvm.Cond.fieldLink "JumpFence$Atom" (9 : Nat) "JumpFence$Atom" "cell" "I") ∈ lw_all := lw_g (lw_at lw_m4 223 rfl) rfl
theorem q1049 : (Jvm.Cond.fieldLink "JumpFence$Atom" (15 : Nat) "JumpFence$Atom" "number" "I") ∈ lw_all := lw_g (lw_at lw_m4 228 rfl) rfl
theorem q1052 : (Jvm.Cond.laysFinal "JumpFence$Atom" "JumpFence$Atom" "cell" "I") ∈ lw_all := lw_g (lw_at lw_m4 231 rfl) rfl
theorem q1053 : (Jvm.Cond.soleField "JumpFence$Atom" "cell") ∈ lw_all := lw_g (lw_at lw_m4 232 rfl) rfl
theorem q1054 : (Jvm.Cond.laysFinal "JumpFence$Atom" "JumpFence$Atom" "number" "I") ∈ lw_all := lw_g (lw_at lw_m4 233 rfl) rfl
theorem q1055 : (Jvm.Cond.soleField "JumpFence$Atom" "number") ∈ lw_all := lw_g (lw_at lw_m4 234 rfl) rfl
theorem q1056 : (Jvm.Cond.superclass "JumpFence$Atom" "java/lang/Object") ∈ lw_all := lw_g (lw_at lw_m4 235 rfl) rfl
theorem q2122 : (Jvm.Cond.castable "JumpFence$Atom" "java/lang/Object") ∈ lw_tbl := lw_at lw_m9 101 rfl
theorem in_X7 : ∀ w ∈ wsX70, w ∈ lw_all := lw_in wsX70 [1052, 1054] (by decide +kernel) (by decide +kernel)

/-! JumpFence$Order -/
def RX8 : String := "JumpFence$Order"
abbrev cX8_cell : ByteArray := prog_10_method_5_code
def yX8_cell : MethodName := ⟨RX8, "cell", "()I"⟩
abbrev cX8_isJump : ByteArray := prog_10_method_6_code
def yX8_isJump : MethodName := ⟨RX8, "isJump", "()Z"⟩
abbrev cX8_puts : ByteArray := prog_10_method_7_code
def yX8_puts : MethodName := ⟨RX8, "puts", "()Z"⟩
abbrev cX8_kind : ByteArray := prog_10_method_4_code
def yX8_kind : MethodName := ⟨RX8, "kind", "()I"⟩
abbrev cX8_within : ByteArray := prog_10_method_8_code
def yX8_within : MethodName := ⟨RX8, "within", "(LJumpFence$Program;I)J"⟩
abbrev cX8_place : ByteArray := prog_10_method_3_code
def yX8_place : MethodName := ⟨RX8, "place", "()I"⟩
abbrev cX8_may : ByteArray := prog_10_method_9_code
def yX8_may : MethodName := ⟨RX8, "may", "(LJumpFence$Program;I[IIZ)J"⟩
abbrev cX8_init : ByteArray := prog_10_method_1_code
def yX8_init : MethodName := ⟨RX8, "<init>", "(I)V"⟩
theorem q116 : (Jvm.Cond.initialized "JumpFence$Order") ∈ lw_all := lw_g (lw_at lw_m1 15 rfl) rfl
theorem q551 : (Jvm.Cond.declares ({ cls := "JumpFence$Order", name := "does", desc := "(LJumpFence$Machine;I)I" } : Jvm.MethodName)) ∈ lw_tbl := lw_at lw_m2 210 rfl
theorem q552 : (Jvm.Cond.sameMethod "JumpFence$Order" "JumpFence$Order" "does" "(LJumpFence$Machine;I)I") ∈ lw_all := lw_g (lw_at lw_m2 211 rfl) rfl
theorem q566 : (Jvm.Cond.declares ({ cls := "JumpFence$Order", name := "word", desc := "()I" } : Jvm.MethodName)) ∈ lw_tbl := lw_at lw_m2 225 rfl
theorem q567 : (Jvm.Cond.sameMethod "JumpFence$Order" "JumpFence$Order" "word" "()I") ∈ lw_all := lw_g (lw_at lw_m2 226 rfl) rfl
theorem q607 : (Jvm.Cond.instanceMethod ({ cls := "JumpFence$Order", name := "cell", desc := "()I" } : Jvm.MethodName)) ∈ lw_all := lw_g (lw_at lw_m3 26 rfl) rfl
theorem q608 : (Jvm.Cond.sameMethod "JumpFence$Order" "JumpFence$Order" "cell" "()I") ∈ lw_all := lw_g (lw_at lw_m3 27 rfl) rfl
theorem q621 : (Jvm.Cond.code ({ cls := "JumpFence$Order", name := "cell", desc := "()I" } : Jvm.MethodName) prog_10_method_5_code (1 : Nat) (Option.some Jvm.ClassFile.FieldType.int)) ∈ lw_all := lw_g (lw_at lw_m3 40 rfl) rfl
theorem q696 : (Jvm.Cond.instanceMethod ({ cls := "JumpFence$Order", name := "isJump", desc := "()Z" } : Jvm.MethodName)) ∈ lw_all := lw_g (lw_at lw_m3 115 rfl) rfl
theorem q697 : (Jvm.Cond.sameMethod "JumpFence$Order" "JumpFence$Order" "isJump" "()Z") ∈ lw_all := lw_g (lw_at lw_m3 116 rfl) rfl
theorem q712 : (Jvm.Cond.code ({ cls := "JumpFence$Order", name := "isJump", desc := "()Z" } : Jvm.MethodName) prog_10_method_6_code (1 : Nat) (Option.some Jvm.ClassFile.FieldType.boolean)) ∈ lw_all := lw_g (lw_at lw_m3 131 rfl) rfl
theorem q757 : (Jvm.Cond.instanceMethod ({ cls := "JumpFence$Order", name := "puts", desc := "()Z" } : Jvm.MethodName)) ∈ lw_all := lw_g (lw_at lw_m3 176 rfl) rfl
theorem q758 : (Jvm.Cond.sameMethod "JumpFence$Order" "JumpFence$Order" "puts" "()Z") ∈ lw_all := lw_g (lw_at lw_m3 177 rfl) rfl
theorem q773 : (Jvm.Cond.code ({ cls := "JumpFence$Order", name := "puts", desc := "()Z" } : Jvm.MethodName) prog_10_method_7_code (1 : Nat) (Option.some Jvm.ClassFile.FieldType.boolean)) ∈ lw_all := lw_g (lw_at lw_m3 192 rfl) rfl
theorem q775 : (Jvm.Cond.instanceMethod ({ cls := "JumpFence$Order", name := "kind", desc := "()I" } : Jvm.MethodName)) ∈ lw_all := lw_g (lw_at lw_m3 194 rfl) rfl
theorem q776 : (Jvm.Cond.sameMethod "JumpFence$Order" "JumpFence$Order" "kind" "()I") ∈ lw_all := lw_g (lw_at lw_m3 195 rfl) rfl
theorem q789 : (Jvm.Cond.code ({ cls := "JumpFence$Order", name := "kind", desc := "()I" } : Jvm.MethodName) prog_10_method_4_code (1 : Nat) (Option.some Jvm.ClassFile.FieldType.int)) ∈ lw_all := lw_g (lw_at lw_m3 208 rfl) rfl
theorem q796 : (Jvm.Cond.instanceMethod ({ cls := "JumpFence$Order", name := "within", desc := "(LJumpFence$Program;I)J" } : Jvm.MethodName)) ∈ lw_all := lw_g (lw_at lw_m3 215 rfl) rfl
theorem q797 : (Jvm.Cond.sameMethod "JumpFence$Order" "JumpFence$Order" "within" "(LJumpFence$Program;I)J") ∈ lw_all := lw_g (lw_at lw_m3 216 rfl) rfl
theorem q823 : (Jvm.Cond.code ({ cls := "JumpFence$Order", name := "within", desc := "(LJumpFence$Program;I)J" } : Jvm.MethodName) prog_10_method_8_code (3 : Nat) (Option.some Jvm.ClassFile.FieldType.long)) ∈ lw_all := lw_g (lw_at lw_m4 2 rfl) rfl
theorem q824 : (Jvm.Cond.methodLinkNest "JumpFence$Order" (15 : Nat) ({ cls := "JumpFence", name := "bit", desc := "(I)J" } : Jvm.MethodName) "JumpFence") ∈ lw_tbl := lw_at lw_m4 3 rfl
theorem q830 : (Jvm.Cond.instanceMethod ({ cls := "JumpFence$Order", name := "place", desc := "()I" } : Jvm.MethodName)) ∈ lw_all := lw_g (lw_at lw_m4 9 rfl) rfl
theorem q831 : (Jvm.Cond.sameMethod "JumpFence$Order" "JumpFence$Order" "place" "()I") ∈ lw_all := lw_g (lw_at lw_m4 10 rfl) rfl
theorem q850 : (Jvm.Cond.code ({ cls := "JumpFence$Order", name := "place", desc := "()I" } : Jvm.MethodName) prog_10_method_3_code (1 : Nat) (Option.some Jvm.ClassFile.FieldType.int)) ∈ lw_all := lw_g (lw_at lw_m4 29 rfl) rfl
theorem q887 : (Jvm.Cond.instanceMethod ({ cls := "JumpFence$Order", name := "may", desc := "(LJumpFence$Program;I[IIZ)J" } : Jvm.MethodName)) ∈ lw_all := lw_g (lw_at lw_m4 66 rfl) rfl
theorem q888 : (Jvm.Cond.sameMethod "JumpFence$Order" "JumpFence$Order" "may" "(LJumpFence$Program;I[IIZ)J") ∈ lw_all := lw_g (lw_at lw_m4 67 rfl) rfl
theorem q914 : (Jvm.Cond.code ({ cls := "JumpFence$Order", name := "may", desc := "(LJumpFence$Program;I[IIZ)J" } : Jvm.MethodName) prog_10_method_9_code (6 : Nat) (Option.some Jvm.ClassFile.FieldType.long)) ∈ lw_all := lw_g (lw_at lw_m4 93 rfl) rfl
theorem q1063 : (Jvm.Cond.instanceMethod ({ cls := "JumpFence$Order", name := "<init>", desc := "(I)V" } : Jvm.MethodName)) ∈ lw_all := lw_g (lw_at lw_m5 2 rfl) rfl
theorem q1064 : (Jvm.Cond.code ({ cls := "JumpFence$Order", name := "<init>", desc := "(I)V" } : Jvm.MethodName) prog_10_method_1_code (2 : Nat) (Option.none : Option Jvm.ClassFile.FieldType)) ∈ lw_all := lw_g (lw_at lw_m5 3 rfl) rfl
theorem q1065 : (Jvm.Cond.methodLink "JumpFence$Order" (3 : Nat) ({ cls := "java/lang/Object", name := "<init>", desc := "()V" } : Jvm.MethodName)) ∈ lw_all := lw_g (lw_at lw_m5 4 rfl) rfl
theorem q1071 : (Jvm.Cond.fieldLink "JumpFence$Order" (9 : Nat) "JumpFence$Order" "entry" "I") ∈ lw_all := lw_g (lw_at lw_m5 10 rfl) rfl
theorem q1083 : (Jvm.Cond.soleField "JumpFence$Order" "entry") ∈ lw_all := lw_g (lw_at lw_m5 22 rfl) rfl

/-! JumpFence$SetOrder -/
def RX9 : String := "JumpFence$SetOrder"
def TX9 : u_T := fun k => match k with
  | 0 => ("JumpFence$Order", "entry", "I", true)
  | 1 => ("JumpFence$SetOrder", "to", "I", true)
  | 2 => ("JumpFence$SetOrder", "op", "I", true)
  | 3 => ("JumpFence$SetOrder", "left", "LJumpFence$Atom;", true)
  | _ => ("JumpFence$SetOrder", "right", "LJumpFence$Atom;", true)
def tyX9 : Nat → FieldType := fun k => match k with
  | 0 => .int
  | 1 => .int
  | 2 => .int
  | 3 => .object "JumpFence$Atom"
  | _ => .object "JumpFence$Atom"
abbrev wsX90 : List Cond := u_ws RX9 TX9 5
theorem nmX9 : ∀ a, a < 5 → ∀ b, b < 5 → a ≠ b → (TX9 a).2.1 ≠ (TX9 b).2.1 := by decide +kernel
theorem tyX9_ok : ∀ k, k < 5 → parseFieldDescriptor (TX9 k).2.2.1 = some (tyX9 k) := by decide +kernel
abbrev cX9_word : ByteArray := prog_14_method_2_code
def yX9_word : MethodName := ⟨RX9, "word", "()I"⟩
abbrev cX9_does : ByteArray := prog_14_method_4_code
def yX9_does : MethodName := ⟨RX9, "does", "(LJumpFence$Machine;I)I"⟩
abbrev cX9_only : ByteArray := prog_14_method_3_code
def yX9_only : MethodName := ⟨RX9, "only", "()I"⟩
abbrev cX9_init : ByteArray := prog_14_method_1_code
def yX9_init : MethodName := ⟨RX9, "<init>", "(IILJumpFence$Atom;ILJumpFence$Atom;)V"⟩
theorem q117 : (Jvm.Cond.initialized "JumpFence$SetOrder") ∈ lw_all := lw_g (lw_at lw_m1 16 rfl) rfl
theorem q589 : (Jvm.Cond.selects "JumpFence$SetOrder" ({ cls := "JumpFence$Order", name := "word", desc := "()I" } : Jvm.MethodName) ({ cls := "JumpFence$SetOrder", name := "word", desc := "()I" } : Jvm.MethodName)) ∈ lw_all := lw_g (lw_at lw_m3 8 rfl) rfl
theorem q590 : (Jvm.Cond.instanceMethod ({ cls := "JumpFence$SetOrder", name := "word", desc := "()I" } : Jvm.MethodName)) ∈ lw_all := lw_g (lw_at lw_m3 9 rfl) rfl
theorem q591 : (Jvm.Cond.code ({ cls := "JumpFence$SetOrder", name := "word", desc := "()I" } : Jvm.MethodName) prog_14_method_2_code (1 : Nat) (Option.some Jvm.ClassFile.FieldType.int)) ∈ lw_all := lw_g (lw_at lw_m3 10 rfl) rfl
theorem q618 : (Jvm.Cond.selects "JumpFence$SetOrder" ({ cls := "JumpFence$Order", name := "cell", desc := "()I" } : Jvm.MethodName) ({ cls := "JumpFence$Order", name := "cell", desc := "()I" } : Jvm.MethodName)) ∈ lw_all := lw_g (lw_at lw_m3 37 rfl) rfl
theorem q668 : (Jvm.Cond.selects "JumpFence$SetOrder" ({ cls := "JumpFence$Order", name := "does", desc := "(LJumpFence$Machine;I)I" } : Jvm.MethodName) ({ cls := "JumpFence$SetOrder", name := "does", desc := "(LJumpFence$Machine;I)I" } : Jvm.MethodName)) ∈ lw_all := lw_g (lw_at lw_m3 87 rfl) rfl
theorem q669 : (Jvm.Cond.instanceMethod ({ cls := "JumpFence$SetOrder", name := "does", desc := "(LJumpFence$Machine;I)I" } : Jvm.MethodName)) ∈ lw_all := lw_g (lw_at lw_m3 88 rfl) rfl
theorem q670 : (Jvm.Cond.code ({ cls := "JumpFence$SetOrder", name := "does", desc := "(LJumpFence$Machine;I)I" } : Jvm.MethodName) prog_14_method_4_code (9 : Nat) (Option.some Jvm.ClassFile.FieldType.int)) ∈ lw_all := lw_g (lw_at lw_m3 89 rfl) rfl
theorem q671 : (Jvm.Cond.methodLink "JumpFence$SetOrder" (30 : Nat) ({ cls := "JumpFence$Atom", name := "of", desc := "(LJumpFence$Machine;)I" } : Jvm.MethodName)) ∈ lw_all := lw_g (lw_at lw_m3 90 rfl) rfl
theorem q672 : (Jvm.Cond.methodLink "JumpFence$SetOrder" (34 : Nat) ({ cls := "java/lang/Math", name := "abs", desc := "(J)J" } : Jvm.MethodName)) ∈ lw_all := lw_g (lw_at lw_m3 91 rfl) rfl
theorem q675 : (Jvm.Cond.constantLong "JumpFence$SetOrder" (40 : Nat) (99999 : Int64)) ∈ lw_all := lw_g (lw_at lw_m3 94 rfl) rfl
theorem q676 : (Jvm.Cond.methodLink "JumpFence$SetOrder" (42 : Nat) ({ cls := "JumpFence$Machine", name := "trap", desc := "()I" } : Jvm.MethodName)) ∈ lw_all := lw_g (lw_at lw_m3 95 rfl) rfl
theorem q677 : (Jvm.Cond.methodLink "JumpFence$SetOrder" (48 : Nat) ({ cls := "JumpFence$Machine", name := "writes", desc := "(II)V" } : Jvm.MethodName)) ∈ lw_all := lw_g (lw_at lw_m3 96 rfl) rfl
theorem q709 : (Jvm.Cond.selects "JumpFence$SetOrder" ({ cls := "JumpFence$Order", name := "isJump", desc := "()Z" } : Jvm.MethodName) ({ cls := "JumpFence$Order", name := "isJump", desc := "()Z" } : Jvm.MethodName)) ∈ lw_all := lw_g (lw_at lw_m3 128 rfl) rfl
theorem q753 : (Jvm.Cond.instanceMethod ({ cls := "JumpFence$SetOrder", name := "only", desc := "()I" } : Jvm.MethodName)) ∈ lw_all := lw_g (lw_at lw_m3 172 rfl) rfl
theorem q754 : (Jvm.Cond.selects "JumpFence$SetOrder" ({ cls := "JumpFence$SetOrder", name := "only", desc := "()I" } : Jvm.MethodName) ({ cls := "JumpFence$SetOrder", name := "only", desc := "()I" } : Jvm.MethodName)) ∈ lw_all := lw_g (lw_at lw_m3 173 rfl) rfl
theorem q755 : (Jvm.Cond.code ({ cls := "JumpFence$SetOrder", name := "only", desc := "()I" } : Jvm.MethodName) prog_14_method_3_code (1 : Nat) (Option.some Jvm.ClassFile.FieldType.int)) ∈ lw_all := lw_g (lw_at lw_m3 174 rfl) rfl
theorem q770 : (Jvm.Cond.selects "JumpFence$SetOrder" ({ cls := "JumpFence$Order", name := "puts", desc := "()Z" } : Jvm.MethodName) ({ cls := "JumpFence$Order", name := "puts", desc := "()Z" } : Jvm.MethodName)) ∈ lw_all := lw_g (lw_at lw_m3 189 rfl) rfl
theorem q786 : (Jvm.Cond.selects "JumpFence$SetOrder" ({ cls := "JumpFence$Order", name := "kind", desc := "()I" } : Jvm.MethodName) ({ cls := "JumpFence$Order", name := "kind", desc := "()I" } : Jvm.MethodName)) ∈ lw_all := lw_g (lw_at lw_m3 205 rfl) rfl
theorem q816 : (Jvm.Cond.selects "JumpFence$SetOrder" ({ cls := "JumpFence$Order", name := "within", desc := "(LJumpFence$Program;I)J" } : Jvm.MethodName) ({ cls := "JumpFence$Order", name := "within", desc := "(LJumpFence$Program;I)J" } : Jvm.MethodName)) ∈ lw_all := lw_g (lw_at lw_m3 235 rfl) rfl
theorem q847 : (Jvm.Cond.selects "JumpFence$SetOrder" ({ cls := "JumpFence$Order", name := "place", desc := "()I" } : Jvm.MethodName) ({ cls := "JumpFence$Order", name := "place", desc := "()I" } : Jvm.MethodName)) ∈ lw_all := lw_g (lw_at lw_m4 26 rfl) rfl
theorem q909 : (Jvm.Cond.selects "JumpFence$SetOrder" ({ cls := "JumpFence$Order", name := "may", desc := "(LJumpFence$Program;I[IIZ)J" } : Jvm.MethodName) ({ cls := "JumpFence$Order", name := "may", desc := "(LJumpFence$Program;I[IIZ)J" } : Jvm.MethodName)) ∈ lw_all := lw_g (lw_at lw_m4 88 rfl) rfl
theorem q1046 : (Jvm.Cond.fieldLinkNest "JumpFence$SetOrder" (25 : Nat) "JumpFence$Atom" "cell" "I" "JumpFence") ∈ lw_tbl := lw_at lw_m4 225 rfl
theorem q1058 : (Jvm.Cond.instantiable "JumpFence$SetOrder" (5 : Nat)) ∈ lw_all := lw_g (lw_at lw_m4 237 rfl) rfl
theorem q1060 : (Jvm.Cond.instanceMethod ({ cls := "JumpFence$SetOrder", name := "<init>", desc := "(IILJumpFence$Atom;ILJumpFence$Atom;)V" } : Jvm.MethodName)) ∈ lw_all := lw_g (lw_at lw_m4 239 rfl) rfl
theorem q1061 : (Jvm.Cond.code ({ cls := "JumpFence$SetOrder", name := "<init>", desc := "(IILJumpFence$Atom;ILJumpFence$Atom;)V" } : Jvm.MethodName) prog_14_method_1_code (6 : Nat) (Option.none : Option Jvm.ClassFile.FieldType)) ∈ lw_all := lw_g (lw_at lw_m5 0 rfl) rfl
theorem q1062 : (Jvm.Cond.methodLink "JumpFence$SetOrder" (3 : Nat) ({ cls := "JumpFence$Order", name := "<init>", desc := "(I)V" } : Jvm.MethodName)) ∈ lw_all := lw_g (lw_at lw_m5 1 rfl) rfl
theorem q1066 : (Jvm.Cond.fieldLink "JumpFence$SetOrder" (9 : Nat) "JumpFence$SetOrder" "to" "I") ∈ lw_all := lw_g (lw_at lw_m5 5 rfl) rfl
theorem q1068 : (Jvm.Cond.fieldLink "JumpFence$SetOrder" (19 : Nat) "JumpFence$SetOrder" "op" "I") ∈ lw_all := lw_g (lw_at lw_m5 7 rfl) rfl
theorem q1069 : (Jvm.Cond.fieldLink "JumpFence$SetOrder" (15 : Nat) "JumpFence$SetOrder" "left" "LJumpFence$Atom;") ∈ lw_all := lw_g (lw_at lw_m5 8 rfl) rfl
theorem q1070 : (Jvm.Cond.fieldLink "JumpFence$SetOrder" (22 : Nat) "JumpFence$SetOrder" "right" "LJumpFence$Atom;") ∈ lw_all := lw_g (lw_at lw_m5 9 rfl) rfl
theorem q1074 : (Jvm.Cond.laysFinal "JumpFence$SetOrder" "JumpFence$SetOrder" "to" "I") ∈ lw_all := lw_g (lw_at lw_m5 13 rfl) rfl
theorem q1075 : (Jvm.Cond.soleField "JumpFence$SetOrder" "to") ∈ lw_all := lw_g (lw_at lw_m5 14 rfl) rfl
theorem q1076 : (Jvm.Cond.laysFinal "JumpFence$SetOrder" "JumpFence$SetOrder" "op" "I") ∈ lw_all := lw_g (lw_at lw_m5 15 rfl) rfl
theorem q1077 : (Jvm.Cond.soleField "JumpFence$SetOrder" "op") ∈ lw_all := lw_g (lw_at lw_m5 16 rfl) rfl
theorem q1078 : (Jvm.Cond.laysFinal "JumpFence$SetOrder" "JumpFence$SetOrder" "left" "LJumpFence$Atom;") ∈ lw_all := lw_g (lw_at lw_m5 17 rfl) rfl
theorem q1079 : (Jvm.Cond.soleField "JumpFence$SetOrder" "left") ∈ lw_all := lw_g (lw_at lw_m5 18 rfl) rfl
theorem q1080 : (Jvm.Cond.laysFinal "JumpFence$SetOrder" "JumpFence$SetOrder" "right" "LJumpFence$Atom;") ∈ lw_all := lw_g (lw_at lw_m5 19 rfl) rfl
theorem q1081 : (Jvm.Cond.soleField "JumpFence$SetOrder" "right") ∈ lw_all := lw_g (lw_at lw_m5 20 rfl) rfl
theorem q1082 : (Jvm.Cond.laysFinal "JumpFence$SetOrder" "JumpFence$Order" "entry" "I") ∈ lw_all := lw_g (lw_at lw_m5 21 rfl) rfl
theorem q1084 : (Jvm.Cond.superclass "JumpFence$SetOrder" "JumpFence$Order") ∈ lw_all := lw_g (lw_at lw_m5 23 rfl) rfl
theorem q2123 : (Jvm.Cond.castable "JumpFence$SetOrder" "java/lang/Object") ∈ lw_tbl := lw_at lw_m9 102 rfl
theorem q2141 : (Jvm.Cond.castable "JumpFence$SetOrder" "JumpFence$Order") ∈ lw_tbl := lw_at lw_m9 120 rfl
theorem in_X9 : ∀ w ∈ wsX90, w ∈ lw_all := lw_in wsX90 [1082, 1074, 1076, 1078, 1080] (by decide +kernel) (by decide +kernel)

/-! JumpFence$PointOrder -/
def RX10 : String := "JumpFence$PointOrder"
def TX10 : u_T := fun k => match k with
  | 0 => ("JumpFence$Order", "entry", "I", true)
  | 1 => ("JumpFence$PointOrder", "to", "I", true)
  | _ => ("JumpFence$PointOrder", "place", "I", true)
def tyX10 : Nat → FieldType := fun k => match k with
  | 0 => .int
  | 1 => .int
  | _ => .int
abbrev wsX100 : List Cond := u_ws RX10 TX10 3
theorem nmX10 : ∀ a, a < 3 → ∀ b, b < 3 → a ≠ b → (TX10 a).2.1 ≠ (TX10 b).2.1 := by decide +kernel
theorem tyX10_ok : ∀ k, k < 3 → parseFieldDescriptor (TX10 k).2.2.1 = some (tyX10 k) := by decide +kernel
abbrev cX10_word : ByteArray := prog_11_method_2_code
def yX10_word : MethodName := ⟨RX10, "word", "()I"⟩
abbrev cX10_does : ByteArray := prog_11_method_4_code
def yX10_does : MethodName := ⟨RX10, "does", "(LJumpFence$Machine;I)I"⟩
abbrev cX10_place : ByteArray := prog_11_method_3_code
def yX10_place : MethodName := ⟨RX10, "place", "()I"⟩
abbrev cX10_init : ByteArray := prog_11_method_1_code
def yX10_init : MethodName := ⟨RX10, "<init>", "(III)V"⟩
theorem q118 : (Jvm.Cond.initialized "JumpFence$PointOrder") ∈ lw_all := lw_g (lw_at lw_m1 17 rfl) rfl
theorem q586 : (Jvm.Cond.selects "JumpFence$PointOrder" ({ cls := "JumpFence$Order", name := "word", desc := "()I" } : Jvm.MethodName) ({ cls := "JumpFence$PointOrder", name := "word", desc := "()I" } : Jvm.MethodName)) ∈ lw_all := lw_g (lw_at lw_m3 5 rfl) rfl
theorem q587 : (Jvm.Cond.instanceMethod ({ cls := "JumpFence$PointOrder", name := "word", desc := "()I" } : Jvm.MethodName)) ∈ lw_all := lw_g (lw_at lw_m3 6 rfl) rfl
theorem q588 : (Jvm.Cond.code ({ cls := "JumpFence$PointOrder", name := "word", desc := "()I" } : Jvm.MethodName) prog_11_method_2_code (1 : Nat) (Option.some Jvm.ClassFile.FieldType.int)) ∈ lw_all := lw_g (lw_at lw_m3 7 rfl) rfl
theorem q617 : (Jvm.Cond.selects "JumpFence$PointOrder" ({ cls := "JumpFence$Order", name := "cell", desc := "()I" } : Jvm.MethodName) ({ cls := "JumpFence$Order", name := "cell", desc := "()I" } : Jvm.MethodName)) ∈ lw_all := lw_g (lw_at lw_m3 36 rfl) rfl
theorem q661 : (Jvm.Cond.selects "JumpFence$PointOrder" ({ cls := "JumpFence$Order", name := "does", desc := "(LJumpFence$Machine;I)I" } : Jvm.MethodName) ({ cls := "JumpFence$PointOrder", name := "does", desc := "(LJumpFence$Machine;I)I" } : Jvm.MethodName)) ∈ lw_all := lw_g (lw_at lw_m3 80 rfl) rfl
theorem q662 : (Jvm.Cond.instanceMethod ({ cls := "JumpFence$PointOrder", name := "does", desc := "(LJumpFence$Machine;I)I" } : Jvm.MethodName)) ∈ lw_all := lw_g (lw_at lw_m3 81 rfl) rfl
theorem q663 : (Jvm.Cond.code ({ cls := "JumpFence$PointOrder", name := "does", desc := "(LJumpFence$Machine;I)I" } : Jvm.MethodName) prog_11_method_4_code (3 : Nat) (Option.some Jvm.ClassFile.FieldType.int)) ∈ lw_all := lw_g (lw_at lw_m3 82 rfl) rfl
theorem q664 : (Jvm.Cond.methodLink "JumpFence$PointOrder" (18 : Nat) ({ cls := "JumpFence$Machine", name := "writes", desc := "(II)V" } : Jvm.MethodName)) ∈ lw_all := lw_g (lw_at lw_m3 83 rfl) rfl
theorem q708 : (Jvm.Cond.selects "JumpFence$PointOrder" ({ cls := "JumpFence$Order", name := "isJump", desc := "()Z" } : Jvm.MethodName) ({ cls := "JumpFence$Order", name := "isJump", desc := "()Z" } : Jvm.MethodName)) ∈ lw_all := lw_g (lw_at lw_m3 127 rfl) rfl
theorem q769 : (Jvm.Cond.selects "JumpFence$PointOrder" ({ cls := "JumpFence$Order", name := "puts", desc := "()Z" } : Jvm.MethodName) ({ cls := "JumpFence$Order", name := "puts", desc := "()Z" } : Jvm.MethodName)) ∈ lw_all := lw_g (lw_at lw_m3 188 rfl) rfl
theorem q785 : (Jvm.Cond.selects "JumpFence$PointOrder" ({ cls := "JumpFence$Order", name := "kind", desc := "()I" } : Jvm.MethodName) ({ cls := "JumpFence$Order", name := "kind", desc := "()I" } : Jvm.MethodName)) ∈ lw_all := lw_g (lw_at lw_m3 204 rfl) rfl
theorem q815 : (Jvm.Cond.selects "JumpFence$PointOrder" ({ cls := "JumpFence$Order", name := "within", desc := "(LJumpFence$Program;I)J" } : Jvm.MethodName) ({ cls := "JumpFence$Order", name := "within", desc := "(LJumpFence$Program;I)J" } : Jvm.MethodName)) ∈ lw_all := lw_g (lw_at lw_m3 234 rfl) rfl
theorem q844 : (Jvm.Cond.selects "JumpFence$PointOrder" ({ cls := "JumpFence$Order", name := "place", desc := "()I" } : Jvm.MethodName) ({ cls := "JumpFence$PointOrder", name := "place", desc := "()I" } : Jvm.MethodName)) ∈ lw_all := lw_g (lw_at lw_m4 23 rfl) rfl
theorem q845 : (Jvm.Cond.instanceMethod ({ cls := "JumpFence$PointOrder", name := "place", desc := "()I" } : Jvm.MethodName)) ∈ lw_all := lw_g (lw_at lw_m4 24 rfl) rfl
theorem q846 : (Jvm.Cond.code ({ cls := "JumpFence$PointOrder", name := "place", desc := "()I" } : Jvm.MethodName) prog_11_method_3_code (1 : Nat) (Option.some Jvm.ClassFile.FieldType.int)) ∈ lw_all := lw_g (lw_at lw_m4 25 rfl) rfl
theorem q908 : (Jvm.Cond.selects "JumpFence$PointOrder" ({ cls := "JumpFence$Order", name := "may", desc := "(LJumpFence$Program;I[IIZ)J" } : Jvm.MethodName) ({ cls := "JumpFence$Order", name := "may", desc := "(LJumpFence$Program;I[IIZ)J" } : Jvm.MethodName)) ∈ lw_all := lw_g (lw_at lw_m4 87 rfl) rfl
theorem q1087 : (Jvm.Cond.instantiable "JumpFence$PointOrder" (3 : Nat)) ∈ lw_all := lw_g (lw_at lw_m5 26 rfl) rfl
theorem q1093 : (Jvm.Cond.instanceMethod ({ cls := "JumpFence$PointOrder", name := "<init>", desc := "(III)V" } : Jvm.MethodName)) ∈ lw_all := lw_g (lw_at lw_m5 32 rfl) rfl
theorem q1094 : (Jvm.Cond.code ({ cls := "JumpFence$PointOrder", name := "<init>", desc := "(III)V" } : Jvm.MethodName) prog_11_method_1_code (4 : Nat) (Option.none : Option Jvm.ClassFile.FieldType)) ∈ lw_all := lw_g (lw_at lw_m5 33 rfl) rfl
theorem q1095 : (Jvm.Cond.methodLink "JumpFence$PointOrder" (3 : Nat) ({ cls := "JumpFence$Order", name := "<init>", desc := "(I)V" } : Jvm.MethodName)) ∈ lw_all := lw_g (lw_at lw_m5 34 rfl) rfl
theorem q1096 : (Jvm.Cond.fieldLink "JumpFence$PointOrder" (9 : Nat) "JumpFence$PointOrder" "to" "I") ∈ lw_all := lw_g (lw_at lw_m5 35 rfl) rfl
theorem q1098 : (Jvm.Cond.fieldLink "JumpFence$PointOrder" (15 : Nat) "JumpFence$PointOrder" "place" "I") ∈ lw_all := lw_g (lw_at lw_m5 37 rfl) rfl
theorem q1100 : (Jvm.Cond.laysFinal "JumpFence$PointOrder" "JumpFence$PointOrder" "to" "I") ∈ lw_all := lw_g (lw_at lw_m5 39 rfl) rfl
theorem q1101 : (Jvm.Cond.soleField "JumpFence$PointOrder" "to") ∈ lw_all := lw_g (lw_at lw_m5 40 rfl) rfl
theorem q1102 : (Jvm.Cond.laysFinal "JumpFence$PointOrder" "JumpFence$PointOrder" "place" "I") ∈ lw_all := lw_g (lw_at lw_m5 41 rfl) rfl
theorem q1103 : (Jvm.Cond.soleField "JumpFence$PointOrder" "place") ∈ lw_all := lw_g (lw_at lw_m5 42 rfl) rfl
theorem q1104 : (Jvm.Cond.laysFinal "JumpFence$PointOrder" "JumpFence$Order" "entry" "I") ∈ lw_all := lw_g (lw_at lw_m5 43 rfl) rfl
theorem q1105 : (Jvm.Cond.superclass "JumpFence$PointOrder" "JumpFence$Order") ∈ lw_all := lw_g (lw_at lw_m5 44 rfl) rfl
theorem q2124 : (Jvm.Cond.castable "JumpFence$PointOrder" "java/lang/Object") ∈ lw_tbl := lw_at lw_m9 103 rfl
theorem q2142 : (Jvm.Cond.castable "JumpFence$PointOrder" "JumpFence$Order") ∈ lw_tbl := lw_at lw_m9 121 rfl
theorem in_X10 : ∀ w ∈ wsX100, w ∈ lw_all := lw_in wsX100 [1104, 1100, 1102] (by decide +kernel) (by decide +kernel)

/-! JumpFence$JumpOrder -/
def RX11 : String := "JumpFence$JumpOrder"
def TX11 : u_T := fun k => match k with
  | 0 => ("JumpFence$Order", "entry", "I", true)
  | _ => ("JumpFence$JumpOrder", "place", "I", true)
def tyX11 : Nat → FieldType := fun k => match k with
  | 0 => .int
  | _ => .int
abbrev wsX110 : List Cond := u_ws RX11 TX11 2
theorem nmX11 : ∀ a, a < 2 → ∀ b, b < 2 → a ≠ b → (TX11 a).2.1 ≠ (TX11 b).2.1 := by decide +kernel
theorem tyX11_ok : ∀ k, k < 2 → parseFieldDescriptor (TX11 k).2.2.1 = some (tyX11 k) := by decide +kernel
abbrev cX11_word : ByteArray := prog_8_method_2_code
def yX11_word : MethodName := ⟨RX11, "word", "()I"⟩
abbrev cX11_does : ByteArray := prog_8_method_6_code
def yX11_does : MethodName := ⟨RX11, "does", "(LJumpFence$Machine;I)I"⟩
abbrev cX11_within : ByteArray := prog_8_method_4_code
def yX11_within : MethodName := ⟨RX11, "within", "(LJumpFence$Program;I)J"⟩
abbrev cX11_place : ByteArray := prog_8_method_3_code
def yX11_place : MethodName := ⟨RX11, "place", "()I"⟩
abbrev cX11_may : ByteArray := prog_8_method_5_code
def yX11_may : MethodName := ⟨RX11, "may", "(LJumpFence$Program;I[IIZ)J"⟩
abbrev cX11_init : ByteArray := prog_8_method_1_code
def yX11_init : MethodName := ⟨RX11, "<init>", "(II)V"⟩
theorem q119 : (Jvm.Cond.initialized "JumpFence$JumpOrder") ∈ lw_all := lw_g (lw_at lw_m1 18 rfl) rfl
theorem q583 : (Jvm.Cond.selects "JumpFence$JumpOrder" ({ cls := "JumpFence$Order", name := "word", desc := "()I" } : Jvm.MethodName) ({ cls := "JumpFence$JumpOrder", name := "word", desc := "()I" } : Jvm.MethodName)) ∈ lw_all := lw_g (lw_at lw_m3 2 rfl) rfl
theorem q584 : (Jvm.Cond.instanceMethod ({ cls := "JumpFence$JumpOrder", name := "word", desc := "()I" } : Jvm.MethodName)) ∈ lw_all := lw_g (lw_at lw_m3 3 rfl) rfl
theorem q585 : (Jvm.Cond.code ({ cls := "JumpFence$JumpOrder", name := "word", desc := "()I" } : Jvm.MethodName) prog_8_method_2_code (1 : Nat) (Option.some Jvm.ClassFile.FieldType.int)) ∈ lw_all := lw_g (lw_at lw_m3 4 rfl) rfl
theorem q616 : (Jvm.Cond.selects "JumpFence$JumpOrder" ({ cls := "JumpFence$Order", name := "cell", desc := "()I" } : Jvm.MethodName) ({ cls := "JumpFence$Order", name := "cell", desc := "()I" } : Jvm.MethodName)) ∈ lw_all := lw_g (lw_at lw_m3 35 rfl) rfl
theorem q658 : (Jvm.Cond.selects "JumpFence$JumpOrder" ({ cls := "JumpFence$Order", name := "does", desc := "(LJumpFence$Machine;I)I" } : Jvm.MethodName) ({ cls := "JumpFence$JumpOrder", name := "does", desc := "(LJumpFence$Machine;I)I" } : Jvm.MethodName)) ∈ lw_all := lw_g (lw_at lw_m3 77 rfl) rfl
theorem q659 : (Jvm.Cond.instanceMethod ({ cls := "JumpFence$JumpOrder", name := "does", desc := "(LJumpFence$Machine;I)I" } : Jvm.MethodName)) ∈ lw_all := lw_g (lw_at lw_m3 78 rfl) rfl
theorem q660 : (Jvm.Cond.code ({ cls := "JumpFence$JumpOrder", name := "does", desc := "(LJumpFence$Machine;I)I" } : Jvm.MethodName) prog_8_method_6_code (3 : Nat) (Option.some Jvm.ClassFile.FieldType.int)) ∈ lw_all := lw_g (lw_at lw_m3 79 rfl) rfl
theorem q707 : (Jvm.Cond.selects "JumpFence$JumpOrder" ({ cls := "JumpFence$Order", name := "isJump", desc := "()Z" } : Jvm.MethodName) ({ cls := "JumpFence$Order", name := "isJump", desc := "()Z" } : Jvm.MethodName)) ∈ lw_all := lw_g (lw_at lw_m3 126 rfl) rfl
theorem q768 : (Jvm.Cond.selects "JumpFence$JumpOrder" ({ cls := "JumpFence$Order", name := "puts", desc := "()Z" } : Jvm.MethodName) ({ cls := "JumpFence$Order", name := "puts", desc := "()Z" } : Jvm.MethodName)) ∈ lw_all := lw_g (lw_at lw_m3 187 rfl) rfl
theorem q784 : (Jvm.Cond.selects "JumpFence$JumpOrder" ({ cls := "JumpFence$Order", name := "kind", desc := "()I" } : Jvm.MethodName) ({ cls := "JumpFence$Order", name := "kind", desc := "()I" } : Jvm.MethodName)) ∈ lw_all := lw_g (lw_at lw_m3 203 rfl) rfl
theorem q811 : (Jvm.Cond.selects "JumpFence$JumpOrder" ({ cls := "JumpFence$Order", name := "within", desc := "(LJumpFence$Program;I)J" } : Jvm.MethodName) ({ cls := "JumpFence$JumpOrder", name := "within", desc := "(LJumpFence$Program;I)J" } : Jvm.MethodName)) ∈ lw_all := lw_g (lw_at lw_m3 230 rfl) rfl
theorem q812 : (Jvm.Cond.instanceMethod ({ cls := "JumpFence$JumpOrder", name := "within", desc := "(LJumpFence$Program;I)J" } : Jvm.MethodName)) ∈ lw_all := lw_g (lw_at lw_m3 231 rfl) rfl
theorem q813 : (Jvm.Cond.code ({ cls := "JumpFence$JumpOrder", name := "within", desc := "(LJumpFence$Program;I)J" } : Jvm.MethodName) prog_8_method_4_code (3 : Nat) (Option.some Jvm.ClassFile.FieldType.long)) ∈ lw_all := lw_g (lw_at lw_m3 232 rfl) rfl
theorem q814 : (Jvm.Cond.methodLinkNest "JumpFence$JumpOrder" (15 : Nat) ({ cls := "JumpFence", name := "bit", desc := "(I)J" } : Jvm.MethodName) "JumpFence") ∈ lw_tbl := lw_at lw_m3 233 rfl
theorem q841 : (Jvm.Cond.selects "JumpFence$JumpOrder" ({ cls := "JumpFence$Order", name := "place", desc := "()I" } : Jvm.MethodName) ({ cls := "JumpFence$JumpOrder", name := "place", desc := "()I" } : Jvm.MethodName)) ∈ lw_all := lw_g (lw_at lw_m4 20 rfl) rfl
theorem q842 : (Jvm.Cond.instanceMethod ({ cls := "JumpFence$JumpOrder", name := "place", desc := "()I" } : Jvm.MethodName)) ∈ lw_all := lw_g (lw_at lw_m4 21 rfl) rfl
theorem q843 : (Jvm.Cond.code ({ cls := "JumpFence$JumpOrder", name := "place", desc := "()I" } : Jvm.MethodName) prog_8_method_3_code (1 : Nat) (Option.some Jvm.ClassFile.FieldType.int)) ∈ lw_all := lw_g (lw_at lw_m4 22 rfl) rfl
theorem q905 : (Jvm.Cond.selects "JumpFence$JumpOrder" ({ cls := "JumpFence$Order", name := "may", desc := "(LJumpFence$Program;I[IIZ)J" } : Jvm.MethodName) ({ cls := "JumpFence$JumpOrder", name := "may", desc := "(LJumpFence$Program;I[IIZ)J" } : Jvm.MethodName)) ∈ lw_all := lw_g (lw_at lw_m4 84 rfl) rfl
theorem q906 : (Jvm.Cond.instanceMethod ({ cls := "JumpFence$JumpOrder", name := "may", desc := "(LJumpFence$Program;I[IIZ)J" } : Jvm.MethodName)) ∈ lw_all := lw_g (lw_at lw_m4 85 rfl) rfl
theorem q907 : (Jvm.Cond.code ({ cls := "JumpFence$JumpOrder", name := "may", desc := "(LJumpFence$Program;I[IIZ)J" } : Jvm.MethodName) prog_8_method_5_code (6 : Nat) (Option.some Jvm.ClassFile.FieldType.long)) ∈ lw_all := lw_g (lw_at lw_m4 86 rfl) rfl
theorem q1107 : (Jvm.Cond.instantiable "JumpFence$JumpOrder" (2 : Nat)) ∈ lw_all := lw_g (lw_at lw_m5 46 rfl) rfl
theorem q1109 : (Jvm.Cond.instanceMethod ({ cls := "JumpFence$JumpOrder", name := "<init>", desc := "(II)V" } : Jvm.MethodName)) ∈ lw_all := lw_g (lw_at lw_m5 48 rfl) rfl
theorem q1110 : (Jvm.Cond.code ({ cls := "JumpFence$JumpOrder", name := "<init>", desc := "(II)V" } : Jvm.MethodName) prog_8_method_1_code (3 : Nat) (Option.none : Option Jvm.ClassFile.FieldType)) ∈ lw_all := lw_g (lw_at lw_m5 49 rfl) rfl
theorem q1111 : (Jvm.Cond.methodLink "JumpFence$JumpOrder" (3 : Nat) ({ cls := "JumpFence$Order", name := "<init>", desc := "(I)V" } : Jvm.MethodName)) ∈ lw_all := lw_g (lw_at lw_m5 50 rfl) rfl
theorem q1112 : (Jvm.Cond.fieldLink "JumpFence$JumpOrder" (9 : Nat) "JumpFence$JumpOrder" "place" "I") ∈ lw_all := lw_g (lw_at lw_m5 51 rfl) rfl
theorem q1113 : (Jvm.Cond.laysFinal "JumpFence$JumpOrder" "JumpFence$JumpOrder" "place" "I") ∈ lw_all := lw_g (lw_at lw_m5 52 rfl) rfl
theorem q1114 : (Jvm.Cond.soleField "JumpFence$JumpOrder" "place") ∈ lw_all := lw_g (lw_at lw_m5 53 rfl) rfl
theorem q1115 : (Jvm.Cond.laysFinal "JumpFence$JumpOrder" "JumpFence$Order" "entry" "I") ∈ lw_all := lw_g (lw_at lw_m5 54 rfl) rfl
theorem q1116 : (Jvm.Cond.superclass "JumpFence$JumpOrder" "JumpFence$Order") ∈ lw_all := lw_g (lw_at lw_m5 55 rfl) rfl
theorem q2125 : (Jvm.Cond.castable "JumpFence$JumpOrder" "java/lang/Object") ∈ lw_tbl := lw_at lw_m9 104 rfl
theorem q2143 : (Jvm.Cond.castable "JumpFence$JumpOrder" "JumpFence$Order") ∈ lw_tbl := lw_at lw_m9 122 rfl
theorem in_X11 : ∀ w ∈ wsX110, w ∈ lw_all := lw_in wsX110 [1115, 1113] (by decide +kernel) (by decide +kernel)

/-! JumpFence$IfOrder -/
def RX12 : String := "JumpFence$IfOrder"
def TX12 : u_T := fun k => match k with
  | 0 => ("JumpFence$Order", "entry", "I", true)
  | 1 => ("JumpFence$IfOrder", "left", "LJumpFence$Atom;", true)
  | 2 => ("JumpFence$IfOrder", "right", "LJumpFence$Atom;", true)
  | 3 => ("JumpFence$IfOrder", "sign", "I", true)
  | _ => ("JumpFence$IfOrder", "place", "I", true)
def tyX12 : Nat → FieldType := fun k => match k with
  | 0 => .int
  | 1 => .object "JumpFence$Atom"
  | 2 => .object "JumpFence$Atom"
  | 3 => .int
  | _ => .int
abbrev wsX120 : List Cond := u_ws RX12 TX12 5
theorem nmX12 : ∀ a, a < 5 → ∀ b, b < 5 → a ≠ b → (TX12 a).2.1 ≠ (TX12 b).2.1 := by decide +kernel
theorem tyX12_ok : ∀ k, k < 5 → parseFieldDescriptor (TX12 k).2.2.1 = some (tyX12 k) := by decide +kernel
abbrev cX12_word : ByteArray := prog_7_method_2_code
def yX12_word : MethodName := ⟨RX12, "word", "()I"⟩
abbrev cX12_does : ByteArray := prog_7_method_7_code
def yX12_does : MethodName := ⟨RX12, "does", "(LJumpFence$Machine;I)I"⟩
abbrev cX12_holds : ByteArray := prog_7_method_4_code
def yX12_holds : MethodName := ⟨RX12, "holds", "(III)Z"⟩
abbrev cX12_within : ByteArray := prog_7_method_5_code
def yX12_within : MethodName := ⟨RX12, "within", "(LJumpFence$Program;I)J"⟩
abbrev cX12_place : ByteArray := prog_7_method_3_code
def yX12_place : MethodName := ⟨RX12, "place", "()I"⟩
abbrev cX12_may : ByteArray := prog_7_method_6_code
def yX12_may : MethodName := ⟨RX12, "may", "(LJumpFence$Program;I[IIZ)J"⟩
abbrev cX12_needs : ByteArray := prog_7_method_8_code
def yX12_needs : MethodName := ⟨RX12, "needs", "(ZZI)I"⟩
abbrev cX12_init : ByteArray := prog_7_method_1_code
def yX12_init : MethodName := ⟨RX12, "<init>", "(ILJumpFence$Atom;ILJumpFence$Atom;I)V"⟩
theorem q120 : (Jvm.Cond.initialized "JumpFence$IfOrder") ∈ lw_all := lw_g (lw_at lw_m1 19 rfl) rfl
theorem q580 : (Jvm.Cond.selects "JumpFence$IfOrder" ({ cls := "JumpFence$Order", name := "word", desc := "()I" } : Jvm.MethodName) ({ cls := "JumpFence$IfOrder", name := "word", desc := "()I" } : Jvm.MethodName)) ∈ lw_all := lw_g (lw_at lw_m2 239 rfl) rfl
theorem q581 : (Jvm.Cond.instanceMethod ({ cls := "JumpFence$IfOrder", name := "word", desc := "()I" } : Jvm.MethodName)) ∈ lw_all := lw_g (lw_at lw_m3 0 rfl) rfl
theorem q582 : (Jvm.Cond.code ({ cls := "JumpFence$IfOrder", name := "word", desc := "()I" } : Jvm.MethodName) prog_7_method_2_code (1 : Nat) (Option.some Jvm.ClassFile.FieldType.int)) ∈ lw_all := lw_g (lw_at lw_m3 1 rfl) rfl
theorem q615 : (Jvm.Cond.selects "JumpFence$IfOrder" ({ cls := "JumpFence$Order", name := "cell", desc := "()I" } : Jvm.MethodName) ({ cls := "JumpFence$Order", name := "cell", desc := "()I" } : Jvm.MethodName)) ∈ lw_all := lw_g (lw_at lw_m3 34 rfl) rfl
theorem q651 : (Jvm.Cond.selects "JumpFence$IfOrder" ({ cls := "JumpFence$Order", name := "does", desc := "(LJumpFence$Machine;I)I" } : Jvm.MethodName) ({ cls := "JumpFence$IfOrder", name := "does", desc := "(LJumpFence$Machine;I)I" } : Jvm.MethodName)) ∈ lw_all := lw_g (lw_at lw_m3 70 rfl) rfl
theorem q652 : (Jvm.Cond.instanceMethod ({ cls := "JumpFence$IfOrder", name := "does", desc := "(LJumpFence$Machine;I)I" } : Jvm.MethodName)) ∈ lw_all := lw_g (lw_at lw_m3 71 rfl) rfl
theorem q653 : (Jvm.Cond.code ({ cls := "JumpFence$IfOrder", name := "does", desc := "(LJumpFence$Machine;I)I" } : Jvm.MethodName) prog_7_method_7_code (3 : Nat) (Option.some Jvm.ClassFile.FieldType.int)) ∈ lw_all := lw_g (lw_at lw_m3 72 rfl) rfl
theorem q654 : (Jvm.Cond.methodLink "JumpFence$IfOrder" (41 : Nat) ({ cls := "JumpFence$Atom", name := "of", desc := "(LJumpFence$Machine;)I" } : Jvm.MethodName)) ∈ lw_all := lw_g (lw_at lw_m3 73 rfl) rfl
theorem q655 : (Jvm.Cond.methodLink "JumpFence$IfOrder" (37 : Nat) ({ cls := "JumpFence$IfOrder", name := "holds", desc := "(III)Z" } : Jvm.MethodName)) ∈ lw_all := lw_g (lw_at lw_m3 74 rfl) rfl
theorem q656 : (Jvm.Cond.static ({ cls := "JumpFence$IfOrder", name := "holds", desc := "(III)Z" } : Jvm.MethodName)) ∈ lw_all := lw_g (lw_at lw_m3 75 rfl) rfl
theorem q657 : (Jvm.Cond.code ({ cls := "JumpFence$IfOrder", name := "holds", desc := "(III)Z" } : Jvm.MethodName) prog_7_method_4_code (3 : Nat) (Option.some Jvm.ClassFile.FieldType.boolean)) ∈ lw_all := lw_g (lw_at lw_m3 76 rfl) rfl
theorem q706 : (Jvm.Cond.selects "JumpFence$IfOrder" ({ cls := "JumpFence$Order", name := "isJump", desc := "()Z" } : Jvm.MethodName) ({ cls := "JumpFence$Order", name := "isJump", desc := "()Z" } : Jvm.MethodName)) ∈ lw_all := lw_g (lw_at lw_m3 125 rfl) rfl
theorem q767 : (Jvm.Cond.selects "JumpFence$IfOrder" ({ cls := "JumpFence$Order", name := "puts", desc := "()Z" } : Jvm.MethodName) ({ cls := "JumpFence$Order", name := "puts", desc := "()Z" } : Jvm.MethodName)) ∈ lw_all := lw_g (lw_at lw_m3 186 rfl) rfl
theorem q783 : (Jvm.Cond.selects "JumpFence$IfOrder" ({ cls := "JumpFence$Order", name := "kind", desc := "()I" } : Jvm.MethodName) ({ cls := "JumpFence$Order", name := "kind", desc := "()I" } : Jvm.MethodName)) ∈ lw_all := lw_g (lw_at lw_m3 202 rfl) rfl
theorem q807 : (Jvm.Cond.selects "JumpFence$IfOrder" ({ cls := "JumpFence$Order", name := "within", desc := "(LJumpFence$Program;I)J" } : Jvm.MethodName) ({ cls := "JumpFence$IfOrder", name := "within", desc := "(LJumpFence$Program;I)J" } : Jvm.MethodName)) ∈ lw_all := lw_g (lw_at lw_m3 226 rfl) rfl
theorem q808 : (Jvm.Cond.instanceMethod ({ cls := "JumpFence$IfOrder", name := "within", desc := "(LJumpFence$Program;I)J" } : Jvm.MethodName)) ∈ lw_all := lw_g (lw_at lw_m3 227 rfl) rfl
theorem q809 : (Jvm.Cond.code ({ cls := "JumpFence$IfOrder", name := "within", desc := "(LJumpFence$Program;I)J" } : Jvm.MethodName) prog_7_method_5_code (3 : Nat) (Option.some Jvm.ClassFile.FieldType.long)) ∈ lw_all := lw_g (lw_at lw_m3 228 rfl) rfl
theorem q810 : (Jvm.Cond.methodLinkNest "JumpFence$IfOrder" (25 : Nat) ({ cls := "JumpFence", name := "bit", desc := "(I)J" } : Jvm.MethodName) "JumpFence") ∈ lw_tbl := lw_at lw_m3 229 rfl
theorem q838 : (Jvm.Cond.selects "JumpFence$IfOrder" ({ cls := "JumpFence$Order", name := "place", desc := "()I" } : Jvm.MethodName) ({ cls := "JumpFence$IfOrder", name := "place", desc := "()I" } : Jvm.MethodName)) ∈ lw_all := lw_g (lw_at lw_m4 17 rfl) rfl
theorem q839 : (Jvm.Cond.instanceMethod ({ cls := "JumpFence$IfOrder", name := "place", desc := "()I" } : Jvm.MethodName)) ∈ lw_all := lw_g (lw_at lw_m4 18 rfl) rfl
theorem q840 : (Jvm.Cond.code ({ cls := "JumpFence$IfOrder", name := "place", desc := "()I" } : Jvm.MethodName) prog_7_method_3_code (1 : Nat) (Option.some Jvm.ClassFile.FieldType.int)) ∈ lw_all := lw_g (lw_at lw_m4 19 rfl) rfl
theorem q902 : (Jvm.Cond.selects "JumpFence$IfOrder" ({ cls := "JumpFence$Order", name := "may", desc := "(LJumpFence$Program;I[IIZ)J" } : Jvm.MethodName) ({ cls := "JumpFence$IfOrder", name := "may", desc := "(LJumpFence$Program;I[IIZ)J" } : Jvm.MethodName)) ∈ lw_all := lw_g (lw_at lw_m4 81 rfl) rfl
theorem q903 : (Jvm.Cond.instanceMethod ({ cls := "JumpFence$IfOrder", name := "may", desc := "(LJumpFence$Program;I[IIZ)J" } : Jvm.MethodName)) ∈ lw_all := lw_g (lw_at lw_m4 82 rfl) rfl
theorem q904 : (Jvm.Cond.code ({ cls := "JumpFence$IfOrder", name := "may", desc := "(LJumpFence$Program;I[IIZ)J" } : Jvm.MethodName) prog_7_method_6_code (6 : Nat) (Option.some Jvm.ClassFile.FieldType.long)) ∈ lw_all := lw_g (lw_at lw_m4 83 rfl) rfl
theorem q933 : (Jvm.Cond.instanceMethod ({ cls := "JumpFence$IfOrder", name := "needs", desc := "(ZZI)I" } : Jvm.MethodName)) ∈ lw_all := lw_g (lw_at lw_m4 112 rfl) rfl
theorem q934 : (Jvm.Cond.selects "JumpFence$IfOrder" ({ cls := "JumpFence$IfOrder", name := "needs", desc := "(ZZI)I" } : Jvm.MethodName) ({ cls := "JumpFence$IfOrder", name := "needs", desc := "(ZZI)I" } : Jvm.MethodName)) ∈ lw_all := lw_g (lw_at lw_m4 113 rfl) rfl
theorem q935 : (Jvm.Cond.code ({ cls := "JumpFence$IfOrder", name := "needs", desc := "(ZZI)I" } : Jvm.MethodName) prog_7_method_8_code (5 : Nat) (Option.some Jvm.ClassFile.FieldType.int)) ∈ lw_all := lw_g (lw_at lw_m4 114 rfl) rfl
theorem q1047 : (Jvm.Cond.fieldLinkNest "JumpFence$IfOrder" (29 : Nat) "JumpFence$Atom" "cell" "I" "JumpFence") ∈ lw_tbl := lw_at lw_m4 226 rfl
theorem q1051 : (Jvm.Cond.fieldLinkNest "JumpFence$IfOrder" (34 : Nat) "JumpFence$Atom" "number" "I" "JumpFence") ∈ lw_tbl := lw_at lw_m4 230 rfl
theorem q1122 : (Jvm.Cond.instantiable "JumpFence$IfOrder" (5 : Nat)) ∈ lw_all := lw_g (lw_at lw_m5 61 rfl) rfl
theorem q1124 : (Jvm.Cond.instanceMethod ({ cls := "JumpFence$IfOrder", name := "<init>", desc := "(ILJumpFence$Atom;ILJumpFence$Atom;I)V" } : Jvm.MethodName)) ∈ lw_all := lw_g (lw_at lw_m5 63 rfl) rfl
theorem q1125 : (Jvm.Cond.code ({ cls := "JumpFence$IfOrder", name := "<init>", desc := "(ILJumpFence$Atom;ILJumpFence$Atom;I)V" } : Jvm.MethodName) prog_7_method_1_code (6 : Nat) (Option.none : Option Jvm.ClassFile.FieldType)) ∈ lw_all := lw_g (lw_at lw_m5 64 rfl) rfl
theorem q1126 : (Jvm.Cond.methodLink "JumpFence$IfOrder" (3 : Nat) ({ cls := "JumpFence$Order", name := "<init>", desc := "(I)V" } : Jvm.MethodName)) ∈ lw_all := lw_g (lw_at lw_m5 65 rfl) rfl
theorem q1127 : (Jvm.Cond.fieldLink "JumpFence$IfOrder" (9 : Nat) "JumpFence$IfOrder" "left" "LJumpFence$Atom;") ∈ lw_all := lw_g (lw_at lw_m5 66 rfl) rfl
theorem q1129 : (Jvm.Cond.fieldLink "JumpFence$IfOrder" (19 : Nat) "JumpFence$IfOrder" "right" "LJumpFence$Atom;") ∈ lw_all := lw_g (lw_at lw_m5 68 rfl) rfl
theorem q1131 : (Jvm.Cond.fieldLink "JumpFence$IfOrder" (15 : Nat) "JumpFence$IfOrder" "sign" "I") ∈ lw_all := lw_g (lw_at lw_m5 70 rfl) rfl
theorem q1133 : (Jvm.Cond.fieldLink "JumpFence$IfOrder" (22 : Nat) "JumpFence$IfOrder" "place" "I") ∈ lw_all := lw_g (lw_at lw_m5 72 rfl) rfl
theorem q1135 : (Jvm.Cond.laysFinal "JumpFence$IfOrder" "JumpFence$IfOrder" "left" "LJumpFence$Atom;") ∈ lw_all := lw_g (lw_at lw_m5 74 rfl) rfl
theorem q1136 : (Jvm.Cond.soleField "JumpFence$IfOrder" "left") ∈ lw_all := lw_g (lw_at lw_m5 75 rfl) rfl
theorem q1137 : (Jvm.Cond.laysFinal "JumpFence$IfOrder" "JumpFence$IfOrder" "right" "LJumpFence$Atom;") ∈ lw_all := lw_g (lw_at lw_m5 76 rfl) rfl
theorem q1138 : (Jvm.Cond.soleField "JumpFence$IfOrder" "right") ∈ lw_all := lw_g (lw_at lw_m5 77 rfl) rfl
theorem q1139 : (Jvm.Cond.laysFinal "JumpFence$IfOrder" "JumpFence$IfOrder" "sign" "I") ∈ lw_all := lw_g (lw_at lw_m5 78 rfl) rfl
theorem q1140 : (Jvm.Cond.soleField "JumpFence$IfOrder" "sign") ∈ lw_all := lw_g (lw_at lw_m5 79 rfl) rfl
theorem q1141 : (Jvm.Cond.laysFinal "JumpFence$IfOrder" "JumpFence$IfOrder" "place" "I") ∈ lw_all := lw_g (lw_at lw_m5 80 rfl) rfl
theorem q1142 : (Jvm.Cond.soleField "JumpFence$IfOrder" "place") ∈ lw_all := lw_g (lw_at lw_m5 81 rfl) rfl
theorem q1143 : (Jvm.Cond.laysFinal "JumpFence$IfOrder" "JumpFence$Order" "entry" "I") ∈ lw_all := lw_g (lw_at lw_m5 82 rfl) rfl
theorem q1144 : (Jvm.Cond.superclass "JumpFence$IfOrder" "JumpFence$Order") ∈ lw_all := lw_g (lw_at lw_m5 83 rfl) rfl
theorem q2126 : (Jvm.Cond.castable "JumpFence$IfOrder" "java/lang/Object") ∈ lw_tbl := lw_at lw_m9 105 rfl
theorem q2144 : (Jvm.Cond.castable "JumpFence$IfOrder" "JumpFence$Order") ∈ lw_tbl := lw_at lw_m9 123 rfl
theorem in_X12 : ∀ w ∈ wsX120, w ∈ lw_all := lw_in wsX120 [1143, 1135, 1137, 1139, 1141] (by decide +kernel) (by decide +kernel)

/-! JumpFence$ThroughOrder -/
def RX13 : String := "JumpFence$ThroughOrder"
def TX13 : u_T := fun k => match k with
  | 0 => ("JumpFence$Order", "entry", "I", true)
  | 1 => ("JumpFence$ThroughOrder", "cell", "I", true)
  | _ => ("JumpFence$ThroughOrder", "kind", "I", true)
def tyX13 : Nat → FieldType := fun k => match k with
  | 0 => .int
  | 1 => .int
  | _ => .int
abbrev wsX130 : List Cond := u_ws RX13 TX13 3
theorem nmX13 : ∀ a, a < 3 → ∀ b, b < 3 → a ≠ b → (TX13 a).2.1 ≠ (TX13 b).2.1 := by decide +kernel
theorem tyX13_ok : ∀ k, k < 3 → parseFieldDescriptor (TX13 k).2.2.1 = some (tyX13 k) := by decide +kernel
abbrev cX13_word : ByteArray := prog_16_method_2_code
def yX13_word : MethodName := ⟨RX13, "word", "()I"⟩
abbrev cX13_cell : ByteArray := prog_16_method_4_code
def yX13_cell : MethodName := ⟨RX13, "cell", "()I"⟩
abbrev cX13_does : ByteArray := prog_16_method_8_code
def yX13_does : MethodName := ⟨RX13, "does", "(LJumpFence$Machine;I)I"⟩
abbrev cX13_isJump : ByteArray := prog_16_method_5_code
def yX13_isJump : MethodName := ⟨RX13, "isJump", "()Z"⟩
abbrev cX13_kind : ByteArray := prog_16_method_3_code
def yX13_kind : MethodName := ⟨RX13, "kind", "()I"⟩
abbrev cX13_within : ByteArray := prog_16_method_6_code
def yX13_within : MethodName := ⟨RX13, "within", "(LJumpFence$Program;I)J"⟩
abbrev cX13_may : ByteArray := prog_16_method_7_code
def yX13_may : MethodName := ⟨RX13, "may", "(LJumpFence$Program;I[IIZ)J"⟩
abbrev cX13_init : ByteArray := prog_16_method_1_code
def yX13_init : MethodName := ⟨RX13, "<init>", "(III)V"⟩
theorem q121 : (Jvm.Cond.initialized "JumpFence$ThroughOrder") ∈ lw_all := lw_g (lw_at lw_m1 20 rfl) rfl
theorem q300 : (Jvm.Cond.fieldLinkNest "JumpFence$ThroughOrder" (31 : Nat) "JumpFence$Program" "holds" "[J" "JumpFence") ∈ lw_tbl := lw_at lw_m1 199 rfl
theorem q305 : (Jvm.Cond.fieldLinkNest "JumpFence$ThroughOrder" (18 : Nat) "JumpFence$Program" "flows" "[J" "JumpFence") ∈ lw_tbl := lw_at lw_m1 204 rfl
theorem q319 : (Jvm.Cond.fieldLinkNest "JumpFence$ThroughOrder" (28 : Nat) "JumpFence$Program" "odd" "I" "JumpFence") ∈ lw_tbl := lw_at lw_m1 218 rfl
theorem q374 : (Jvm.Cond.fieldLinkNest "JumpFence$ThroughOrder" (34 : Nat) "JumpFence$Machine" "cells" "[I" "JumpFence") ∈ lw_tbl := lw_at lw_m2 33 rfl
theorem q595 : (Jvm.Cond.selects "JumpFence$ThroughOrder" ({ cls := "JumpFence$Order", name := "word", desc := "()I" } : Jvm.MethodName) ({ cls := "JumpFence$ThroughOrder", name := "word", desc := "()I" } : Jvm.MethodName)) ∈ lw_all := lw_g (lw_at lw_m3 14 rfl) rfl
theorem q596 : (Jvm.Cond.instanceMethod ({ cls := "JumpFence$ThroughOrder", name := "word", desc := "()I" } : Jvm.MethodName)) ∈ lw_all := lw_g (lw_at lw_m3 15 rfl) rfl
theorem q597 : (Jvm.Cond.code ({ cls := "JumpFence$ThroughOrder", name := "word", desc := "()I" } : Jvm.MethodName) prog_16_method_2_code (1 : Nat) (Option.some Jvm.ClassFile.FieldType.int)) ∈ lw_all := lw_g (lw_at lw_m3 16 rfl) rfl
theorem q611 : (Jvm.Cond.instanceMethod ({ cls := "JumpFence$ThroughOrder", name := "cell", desc := "()I" } : Jvm.MethodName)) ∈ lw_all := lw_g (lw_at lw_m3 30 rfl) rfl
theorem q612 : (Jvm.Cond.code ({ cls := "JumpFence$ThroughOrder", name := "cell", desc := "()I" } : Jvm.MethodName) prog_16_method_4_code (1 : Nat) (Option.some Jvm.ClassFile.FieldType.int)) ∈ lw_all := lw_g (lw_at lw_m3 31 rfl) rfl
theorem q620 : (Jvm.Cond.selects "JumpFence$ThroughOrder" ({ cls := "JumpFence$Order", name := "cell", desc := "()I" } : Jvm.MethodName) ({ cls := "JumpFence$ThroughOrder", name := "cell", desc := "()I" } : Jvm.MethodName)) ∈ lw_all := lw_g (lw_at lw_m3 39 rfl) rfl
theorem q628 : (Jvm.Cond.instanceMethod ({ cls := "JumpFence$ThroughOrder", name := "does", desc := "(LJumpFence$Machine;I)I" } : Jvm.MethodName)) ∈ lw_all := lw_g (lw_at lw_m3 47 rfl) rfl
theorem q629 : (Jvm.Cond.code ({ cls := "JumpFence$ThroughOrder", name := "does", desc := "(LJumpFence$Machine;I)I" } : Jvm.MethodName) prog_16_method_8_code (3 : Nat) (Option.some Jvm.ClassFile.FieldType.int)) ∈ lw_all := lw_g (lw_at lw_m3 48 rfl) rfl
theorem q630 : (Jvm.Cond.methodLink "JumpFence$ThroughOrder" (40 : Nat) ({ cls := "JumpFence$Machine", name := "lands", desc := "(II)I" } : Jvm.MethodName)) ∈ lw_all := lw_g (lw_at lw_m3 49 rfl) rfl
theorem q681 : (Jvm.Cond.selects "JumpFence$ThroughOrder" ({ cls := "JumpFence$Order", name := "does", desc := "(LJumpFence$Machine;I)I" } : Jvm.MethodName) ({ cls := "JumpFence$ThroughOrder", name := "does", desc := "(LJumpFence$Machine;I)I" } : Jvm.MethodName)) ∈ lw_all := lw_g (lw_at lw_m3 100 rfl) rfl
theorem q702 : (Jvm.Cond.instanceMethod ({ cls := "JumpFence$ThroughOrder", name := "isJump", desc := "()Z" } : Jvm.MethodName)) ∈ lw_all := lw_g (lw_at lw_m3 121 rfl) rfl
theorem q703 : (Jvm.Cond.code ({ cls := "JumpFence$ThroughOrder", name := "isJump", desc := "()Z" } : Jvm.MethodName) prog_16_method_5_code (1 : Nat) (Option.some Jvm.ClassFile.FieldType.boolean)) ∈ lw_all := lw_g (lw_at lw_m3 122 rfl) rfl
theorem q711 : (Jvm.Cond.selects "JumpFence$ThroughOrder" ({ cls := "JumpFence$Order", name := "isJump", desc := "()Z" } : Jvm.MethodName) ({ cls := "JumpFence$ThroughOrder", name := "isJump", desc := "()Z" } : Jvm.MethodName)) ∈ lw_all := lw_g (lw_at lw_m3 130 rfl) rfl
theorem q772 : (Jvm.Cond.selects "JumpFence$ThroughOrder" ({ cls := "JumpFence$Order", name := "puts", desc := "()Z" } : Jvm.MethodName) ({ cls := "JumpFence$Order", name := "puts", desc := "()Z" } : Jvm.MethodName)) ∈ lw_all := lw_g (lw_at lw_m3 191 rfl) rfl
theorem q779 : (Jvm.Cond.instanceMethod ({ cls := "JumpFence$ThroughOrder", name := "kind", desc := "()I" } : Jvm.MethodName)) ∈ lw_all := lw_g (lw_at lw_m3 198 rfl) rfl
theorem q780 : (Jvm.Cond.code ({ cls := "JumpFence$ThroughOrder", name := "kind", desc := "()I" } : Jvm.MethodName) prog_16_method_3_code (1 : Nat) (Option.some Jvm.ClassFile.FieldType.int)) ∈ lw_all := lw_g (lw_at lw_m3 199 rfl) rfl
theorem q788 : (Jvm.Cond.selects "JumpFence$ThroughOrder" ({ cls := "JumpFence$Order", name := "kind", desc := "()I" } : Jvm.MethodName) ({ cls := "JumpFence$ThroughOrder", name := "kind", desc := "()I" } : Jvm.MethodName)) ∈ lw_all := lw_g (lw_at lw_m3 207 rfl) rfl
theorem q820 : (Jvm.Cond.selects "JumpFence$ThroughOrder" ({ cls := "JumpFence$Order", name := "within", desc := "(LJumpFence$Program;I)J" } : Jvm.MethodName) ({ cls := "JumpFence$ThroughOrder", name := "within", desc := "(LJumpFence$Program;I)J" } : Jvm.MethodName)) ∈ lw_all := lw_g (lw_at lw_m3 239 rfl) rfl
theorem q821 : (Jvm.Cond.instanceMethod ({ cls := "JumpFence$ThroughOrder", name := "within", desc := "(LJumpFence$Program;I)J" } : Jvm.MethodName)) ∈ lw_all := lw_g (lw_at lw_m4 0 rfl) rfl
theorem q822 : (Jvm.Cond.code ({ cls := "JumpFence$ThroughOrder", name := "within", desc := "(LJumpFence$Program;I)J" } : Jvm.MethodName) prog_16_method_6_code (3 : Nat) (Option.some Jvm.ClassFile.FieldType.long)) ∈ lw_all := lw_g (lw_at lw_m4 1 rfl) rfl
theorem q849 : (Jvm.Cond.selects "JumpFence$ThroughOrder" ({ cls := "JumpFence$Order", name := "place", desc := "()I" } : Jvm.MethodName) ({ cls := "JumpFence$Order", name := "place", desc := "()I" } : Jvm.MethodName)) ∈ lw_all := lw_g (lw_at lw_m4 28 rfl) rfl
theorem q894 : (Jvm.Cond.instanceMethod ({ cls := "JumpFence$ThroughOrder", name := "may", desc := "(LJumpFence$Program;I[IIZ)J" } : Jvm.MethodName)) ∈ lw_all := lw_g (lw_at lw_m4 73 rfl) rfl
theorem q895 : (Jvm.Cond.code ({ cls := "JumpFence$ThroughOrder", name := "may", desc := "(LJumpFence$Program;I[IIZ)J" } : Jvm.MethodName) prog_16_method_7_code (8 : Nat) (Option.some Jvm.ClassFile.FieldType.long)) ∈ lw_all := lw_g (lw_at lw_m4 74 rfl) rfl
theorem q896 : (Jvm.Cond.methodLink "JumpFence$ThroughOrder" (24 : Nat) ({ cls := "JumpFence$Program", name := "lets", desc := "(II)J" } : Jvm.MethodName)) ∈ lw_all := lw_g (lw_at lw_m4 75 rfl) rfl
theorem q913 : (Jvm.Cond.selects "JumpFence$ThroughOrder" ({ cls := "JumpFence$Order", name := "may", desc := "(LJumpFence$Program;I[IIZ)J" } : Jvm.MethodName) ({ cls := "JumpFence$ThroughOrder", name := "may", desc := "(LJumpFence$Program;I[IIZ)J" } : Jvm.MethodName)) ∈ lw_all := lw_g (lw_at lw_m4 92 rfl) rfl
theorem q1146 : (Jvm.Cond.instantiable "JumpFence$ThroughOrder" (3 : Nat)) ∈ lw_all := lw_g (lw_at lw_m5 85 rfl) rfl
theorem q1153 : (Jvm.Cond.instanceMethod ({ cls := "JumpFence$ThroughOrder", name := "<init>", desc := "(III)V" } : Jvm.MethodName)) ∈ lw_all := lw_g (lw_at lw_m5 92 rfl) rfl
theorem q1154 : (Jvm.Cond.code ({ cls := "JumpFence$ThroughOrder", name := "<init>", desc := "(III)V" } : Jvm.MethodName) prog_16_method_1_code (4 : Nat) (Option.none : Option Jvm.ClassFile.FieldType)) ∈ lw_all := lw_g (lw_at lw_m5 93 rfl) rfl
theorem q1155 : (Jvm.Cond.methodLink "JumpFence$ThroughOrder" (3 : Nat) ({ cls := "JumpFence$Order", name := "<init>", desc := "(I)V" } : Jvm.MethodName)) ∈ lw_all := lw_g (lw_at lw_m5 94 rfl) rfl
theorem q1156 : (Jvm.Cond.fieldLink "JumpFence$ThroughOrder" (9 : Nat) "JumpFence$ThroughOrder" "cell" "I") ∈ lw_all := lw_g (lw_at lw_m5 95 rfl) rfl
theorem q1157 : (Jvm.Cond.fieldLink "JumpFence$ThroughOrder" (15 : Nat) "JumpFence$ThroughOrder" "kind" "I") ∈ lw_all := lw_g (lw_at lw_m5 96 rfl) rfl
theorem q1158 : (Jvm.Cond.laysFinal "JumpFence$ThroughOrder" "JumpFence$ThroughOrder" "cell" "I") ∈ lw_all := lw_g (lw_at lw_m5 97 rfl) rfl
theorem q1159 : (Jvm.Cond.soleField "JumpFence$ThroughOrder" "cell") ∈ lw_all := lw_g (lw_at lw_m5 98 rfl) rfl
theorem q1160 : (Jvm.Cond.laysFinal "JumpFence$ThroughOrder" "JumpFence$ThroughOrder" "kind" "I") ∈ lw_all := lw_g (lw_at lw_m5 99 rfl) rfl
theorem q1161 : (Jvm.Cond.soleField "JumpFence$ThroughOrder" "kind") ∈ lw_all := lw_g (lw_at lw_m5 100 rfl) rfl
theorem q1162 : (Jvm.Cond.laysFinal "JumpFence$ThroughOrder" "JumpFence$Order" "entry" "I") ∈ lw_all := lw_g (lw_at lw_m5 101 rfl) rfl
theorem q1163 : (Jvm.Cond.superclass "JumpFence$ThroughOrder" "JumpFence$Order") ∈ lw_all := lw_g (lw_at lw_m5 102 rfl) rfl
theorem q2114 : (Jvm.Cond.sameMethod "JumpFence$ThroughOrder" "JumpFence$ThroughOrder" "does" "(LJumpFence$Machine;I)I") ∈ lw_all := lw_g (lw_at lw_m9 93 rfl) rfl
theorem q2127 : (Jvm.Cond.castable "JumpFence$ThroughOrder" "java/lang/Object") ∈ lw_tbl := lw_at lw_m9 106 rfl
theorem q2145 : (Jvm.Cond.castable "JumpFence$ThroughOrder" "JumpFence$Order") ∈ lw_tbl := lw_at lw_m9 124 rfl
theorem in_X13 : ∀ w ∈ wsX130, w ∈ lw_all := lw_in wsX130 [1162, 1158, 1160] (by decide +kernel) (by decide +kernel)

/-! JumpFence$CallOrder -/
def RX14 : String := "JumpFence$CallOrder"
def TX14 : u_T := fun k => match k with
  | 0 => ("JumpFence$Order", "entry", "I", true)
  | _ => ("JumpFence$CallOrder", "place", "I", true)
def tyX14 : Nat → FieldType := fun k => match k with
  | 0 => .int
  | _ => .int
abbrev wsX140 : List Cond := u_ws RX14 TX14 2
theorem nmX14 : ∀ a, a < 2 → ∀ b, b < 2 → a ≠ b → (TX14 a).2.1 ≠ (TX14 b).2.1 := by decide +kernel
theorem tyX14_ok : ∀ k, k < 2 → parseFieldDescriptor (TX14 k).2.2.1 = some (tyX14 k) := by decide +kernel
abbrev cX14_word : ByteArray := prog_5_method_2_code
def yX14_word : MethodName := ⟨RX14, "word", "()I"⟩
abbrev cX14_does : ByteArray := prog_5_method_6_code
def yX14_does : MethodName := ⟨RX14, "does", "(LJumpFence$Machine;I)I"⟩
abbrev cX14_puts : ByteArray := prog_5_method_4_code
def yX14_puts : MethodName := ⟨RX14, "puts", "()Z"⟩
abbrev cX14_place : ByteArray := prog_5_method_3_code
def yX14_place : MethodName := ⟨RX14, "place", "()I"⟩
abbrev cX14_may : ByteArray := prog_5_method_5_code
def yX14_may : MethodName := ⟨RX14, "may", "(LJumpFence$Program;I[IIZ)J"⟩
abbrev cX14_init : ByteArray := prog_5_method_1_code
def yX14_init : MethodName := ⟨RX14, "<init>", "(II)V"⟩
theorem q122 : (Jvm.Cond.initialized "JumpFence$CallOrder") ∈ lw_all := lw_g (lw_at lw_m1 21 rfl) rfl
theorem q390 : (Jvm.Cond.fieldLinkNest "JumpFence$CallOrder" (19 : Nat) "JumpFence$Machine" "deep" "I" "JumpFence") ∈ lw_tbl := lw_at lw_m2 49 rfl
theorem q574 : (Jvm.Cond.selects "JumpFence$CallOrder" ({ cls := "JumpFence$Order", name := "word", desc := "()I" } : Jvm.MethodName) ({ cls := "JumpFence$CallOrder", name := "word", desc := "()I" } : Jvm.MethodName)) ∈ lw_all := lw_g (lw_at lw_m2 233 rfl) rfl
theorem q575 : (Jvm.Cond.instanceMethod ({ cls := "JumpFence$CallOrder", name := "word", desc := "()I" } : Jvm.MethodName)) ∈ lw_all := lw_g (lw_at lw_m2 234 rfl) rfl
theorem q576 : (Jvm.Cond.code ({ cls := "JumpFence$CallOrder", name := "word", desc := "()I" } : Jvm.MethodName) prog_5_method_2_code (1 : Nat) (Option.some Jvm.ClassFile.FieldType.int)) ∈ lw_all := lw_g (lw_at lw_m2 235 rfl) rfl
theorem q613 : (Jvm.Cond.selects "JumpFence$CallOrder" ({ cls := "JumpFence$Order", name := "cell", desc := "()I" } : Jvm.MethodName) ({ cls := "JumpFence$Order", name := "cell", desc := "()I" } : Jvm.MethodName)) ∈ lw_all := lw_g (lw_at lw_m3 32 rfl) rfl
theorem q635 : (Jvm.Cond.selects "JumpFence$CallOrder" ({ cls := "JumpFence$Order", name := "does", desc := "(LJumpFence$Machine;I)I" } : Jvm.MethodName) ({ cls := "JumpFence$CallOrder", name := "does", desc := "(LJumpFence$Machine;I)I" } : Jvm.MethodName)) ∈ lw_all := lw_g (lw_at lw_m3 54 rfl) rfl
theorem q636 : (Jvm.Cond.instanceMethod ({ cls := "JumpFence$CallOrder", name := "does", desc := "(LJumpFence$Machine;I)I" } : Jvm.MethodName)) ∈ lw_all := lw_g (lw_at lw_m3 55 rfl) rfl
theorem q637 : (Jvm.Cond.code ({ cls := "JumpFence$CallOrder", name := "does", desc := "(LJumpFence$Machine;I)I" } : Jvm.MethodName) prog_5_method_6_code (3 : Nat) (Option.some Jvm.ClassFile.FieldType.int)) ∈ lw_all := lw_g (lw_at lw_m3 56 rfl) rfl
theorem q638 : (Jvm.Cond.methodLink "JumpFence$CallOrder" (24 : Nat) ({ cls := "JumpFence$Machine", name := "trap", desc := "()I" } : Jvm.MethodName)) ∈ lw_all := lw_g (lw_at lw_m3 57 rfl) rfl
theorem q639 : (Jvm.Cond.methodLink "JumpFence$CallOrder" (28 : Nat) ({ cls := "JumpFence$Machine", name := "puts", desc := "(I)V" } : Jvm.MethodName)) ∈ lw_all := lw_g (lw_at lw_m3 58 rfl) rfl
theorem q704 : (Jvm.Cond.selects "JumpFence$CallOrder" ({ cls := "JumpFence$Order", name := "isJump", desc := "()Z" } : Jvm.MethodName) ({ cls := "JumpFence$Order", name := "isJump", desc := "()Z" } : Jvm.MethodName)) ∈ lw_all := lw_g (lw_at lw_m3 123 rfl) rfl
theorem q763 : (Jvm.Cond.selects "JumpFence$CallOrder" ({ cls := "JumpFence$Order", name := "puts", desc := "()Z" } : Jvm.MethodName) ({ cls := "JumpFence$CallOrder", name := "puts", desc := "()Z" } : Jvm.MethodName)) ∈ lw_all := lw_g (lw_at lw_m3 182 rfl) rfl
theorem q764 : (Jvm.Cond.instanceMethod ({ cls := "JumpFence$CallOrder", name := "puts", desc := "()Z" } : Jvm.MethodName)) ∈ lw_all := lw_g (lw_at lw_m3 183 rfl) rfl
theorem q765 : (Jvm.Cond.code ({ cls := "JumpFence$CallOrder", name := "puts", desc := "()Z" } : Jvm.MethodName) prog_5_method_4_code (1 : Nat) (Option.some Jvm.ClassFile.FieldType.boolean)) ∈ lw_all := lw_g (lw_at lw_m3 184 rfl) rfl
theorem q781 : (Jvm.Cond.selects "JumpFence$CallOrder" ({ cls := "JumpFence$Order", name := "kind", desc := "()I" } : Jvm.MethodName) ({ cls := "JumpFence$Order", name := "kind", desc := "()I" } : Jvm.MethodName)) ∈ lw_all := lw_g (lw_at lw_m3 200 rfl) rfl
theorem q805 : (Jvm.Cond.selects "JumpFence$CallOrder" ({ cls := "JumpFence$Order", name := "within", desc := "(LJumpFence$Program;I)J" } : Jvm.MethodName) ({ cls := "JumpFence$Order", name := "within", desc := "(LJumpFence$Program;I)J" } : Jvm.MethodName)) ∈ lw_all := lw_g (lw_at lw_m3 224 rfl) rfl
theorem q834 : (Jvm.Cond.selects "JumpFence$CallOrder" ({ cls := "JumpFence$Order", name := "place", desc := "()I" } : Jvm.MethodName) ({ cls := "JumpFence$CallOrder", name := "place", desc := "()I" } : Jvm.MethodName)) ∈ lw_all := lw_g (lw_at lw_m4 13 rfl) rfl
theorem q835 : (Jvm.Cond.instanceMethod ({ cls := "JumpFence$CallOrder", name := "place", desc := "()I" } : Jvm.MethodName)) ∈ lw_all := lw_g (lw_at lw_m4 14 rfl) rfl
theorem q836 : (Jvm.Cond.code ({ cls := "JumpFence$CallOrder", name := "place", desc := "()I" } : Jvm.MethodName) prog_5_method_3_code (1 : Nat) (Option.some Jvm.ClassFile.FieldType.int)) ∈ lw_all := lw_g (lw_at lw_m4 15 rfl) rfl
theorem q897 : (Jvm.Cond.selects "JumpFence$CallOrder" ({ cls := "JumpFence$Order", name := "may", desc := "(LJumpFence$Program;I[IIZ)J" } : Jvm.MethodName) ({ cls := "JumpFence$CallOrder", name := "may", desc := "(LJumpFence$Program;I[IIZ)J" } : Jvm.MethodName)) ∈ lw_all := lw_g (lw_at lw_m4 76 rfl) rfl
theorem q898 : (Jvm.Cond.instanceMethod ({ cls := "JumpFence$CallOrder", name := "may", desc := "(LJumpFence$Program;I[IIZ)J" } : Jvm.MethodName)) ∈ lw_all := lw_g (lw_at lw_m4 77 rfl) rfl
theorem q899 : (Jvm.Cond.code ({ cls := "JumpFence$CallOrder", name := "may", desc := "(LJumpFence$Program;I[IIZ)J" } : Jvm.MethodName) prog_5_method_5_code (6 : Nat) (Option.some Jvm.ClassFile.FieldType.long)) ∈ lw_all := lw_g (lw_at lw_m4 78 rfl) rfl
theorem q900 : (Jvm.Cond.methodLinkNest "JumpFence$CallOrder" (15 : Nat) ({ cls := "JumpFence", name := "bit", desc := "(I)J" } : Jvm.MethodName) "JumpFence") ∈ lw_tbl := lw_at lw_m4 79 rfl
theorem q1165 : (Jvm.Cond.instantiable "JumpFence$CallOrder" (2 : Nat)) ∈ lw_all := lw_g (lw_at lw_m5 104 rfl) rfl
theorem q1167 : (Jvm.Cond.instanceMethod ({ cls := "JumpFence$CallOrder", name := "<init>", desc := "(II)V" } : Jvm.MethodName)) ∈ lw_all := lw_g (lw_at lw_m5 106 rfl) rfl
theorem q1168 : (Jvm.Cond.code ({ cls := "JumpFence$CallOrder", name := "<init>", desc := "(II)V" } : Jvm.MethodName) prog_5_method_1_code (3 : Nat) (Option.none : Option Jvm.ClassFile.FieldType)) ∈ lw_all := lw_g (lw_at lw_m5 107 rfl) rfl
theorem q1169 : (Jvm.Cond.methodLink "JumpFence$CallOrder" (3 : Nat) ({ cls := "JumpFence$Order", name := "<init>", desc := "(I)V" } : Jvm.MethodName)) ∈ lw_all := lw_g (lw_at lw_m5 108 rfl) rfl
theorem q1170 : (Jvm.Cond.fieldLink "JumpFence$CallOrder" (9 : Nat) "JumpFence$CallOrder" "place" "I") ∈ lw_all := lw_g (lw_at lw_m5 109 rfl) rfl
theorem q1171 : (Jvm.Cond.laysFinal "JumpFence$CallOrder" "JumpFence$CallOrder" "place" "I") ∈ lw_all := lw_g (lw_at lw_m5 110 rfl) rfl
theorem q1172 : (Jvm.Cond.soleField "JumpFence$CallOrder" "place") ∈ lw_all := lw_g (lw_at lw_m5 111 rfl) rfl
theorem q1173 : (Jvm.Cond.laysFinal "JumpFence$CallOrder" "JumpFence$Order" "entry" "I") ∈ lw_all := lw_g (lw_at lw_m5 112 rfl) rfl
theorem q1174 : (Jvm.Cond.superclass "JumpFence$CallOrder" "JumpFence$Order") ∈ lw_all := lw_g (lw_at lw_m5 113 rfl) rfl
theorem q2128 : (Jvm.Cond.castable "JumpFence$CallOrder" "java/lang/Object") ∈ lw_tbl := lw_at lw_m9 107 rfl
theorem q2146 : (Jvm.Cond.castable "JumpFence$CallOrder" "JumpFence$Order") ∈ lw_tbl := lw_at lw_m9 125 rfl
theorem in_X14 : ∀ w ∈ wsX140, w ∈ lw_all := lw_in wsX140 [1173, 1171] (by decide +kernel) (by decide +kernel)

/-! JumpFence$ByOrder -/
def RX15 : String := "JumpFence$ByOrder"
def TX15 : u_T := fun k => match k with
  | 0 => ("JumpFence$Order", "entry", "I", true)
  | 1 => ("JumpFence$ThroughOrder", "cell", "I", true)
  | _ => ("JumpFence$ThroughOrder", "kind", "I", true)
def tyX15 : Nat → FieldType := fun k => match k with
  | 0 => .int
  | 1 => .int
  | _ => .int
abbrev wsX150 : List Cond := u_ws RX15 TX15 3
theorem nmX15 : ∀ a, a < 3 → ∀ b, b < 3 → a ≠ b → (TX15 a).2.1 ≠ (TX15 b).2.1 := by decide +kernel
theorem tyX15_ok : ∀ k, k < 3 → parseFieldDescriptor (TX15 k).2.2.1 = some (tyX15 k) := by decide +kernel
abbrev cX15_word : ByteArray := prog_4_method_2_code
def yX15_word : MethodName := ⟨RX15, "word", "()I"⟩
abbrev cX15_does : ByteArray := prog_4_method_5_code
def yX15_does : MethodName := ⟨RX15, "does", "(LJumpFence$Machine;I)I"⟩
abbrev cX15_puts : ByteArray := prog_4_method_3_code
def yX15_puts : MethodName := ⟨RX15, "puts", "()Z"⟩
abbrev cX15_within : ByteArray := prog_4_method_4_code
def yX15_within : MethodName := ⟨RX15, "within", "(LJumpFence$Program;I)J"⟩
abbrev cX15_init : ByteArray := prog_4_method_1_code
def yX15_init : MethodName := ⟨RX15, "<init>", "(III)V"⟩
theorem q123 : (Jvm.Cond.initialized "JumpFence$ByOrder") ∈ lw_all := lw_g (lw_at lw_m1 22 rfl) rfl
theorem q388 : (Jvm.Cond.fieldLinkNest "JumpFence$ByOrder" (13 : Nat) "JumpFence$Machine" "deep" "I" "JumpFence") ∈ lw_tbl := lw_at lw_m2 47 rfl
theorem q404 : (Jvm.Cond.fieldLinkNest "JumpFence$ByOrder" (27 : Nat) "JumpFence$Machine" "ends" "I" "JumpFence") ∈ lw_tbl := lw_at lw_m2 63 rfl
theorem q571 : (Jvm.Cond.selects "JumpFence$ByOrder" ({ cls := "JumpFence$Order", name := "word", desc := "()I" } : Jvm.MethodName) ({ cls := "JumpFence$ByOrder", name := "word", desc := "()I" } : Jvm.MethodName)) ∈ lw_all := lw_g (lw_at lw_m2 230 rfl) rfl
theorem q572 : (Jvm.Cond.instanceMethod ({ cls := "JumpFence$ByOrder", name := "word", desc := "()I" } : Jvm.MethodName)) ∈ lw_all := lw_g (lw_at lw_m2 231 rfl) rfl
theorem q573 : (Jvm.Cond.code ({ cls := "JumpFence$ByOrder", name := "word", desc := "()I" } : Jvm.MethodName) prog_4_method_2_code (1 : Nat) (Option.some Jvm.ClassFile.FieldType.int)) ∈ lw_all := lw_g (lw_at lw_m2 232 rfl) rfl
theorem q610 : (Jvm.Cond.selects "JumpFence$ByOrder" ({ cls := "JumpFence$Order", name := "cell", desc := "()I" } : Jvm.MethodName) ({ cls := "JumpFence$ThroughOrder", name := "cell", desc := "()I" } : Jvm.MethodName)) ∈ lw_all := lw_g (lw_at lw_m3 29 rfl) rfl
theorem q622 : (Jvm.Cond.selects "JumpFence$ByOrder" ({ cls := "JumpFence$Order", name := "does", desc := "(LJumpFence$Machine;I)I" } : Jvm.MethodName) ({ cls := "JumpFence$ByOrder", name := "does", desc := "(LJumpFence$Machine;I)I" } : Jvm.MethodName)) ∈ lw_all := lw_g (lw_at lw_m3 41 rfl) rfl
theorem q623 : (Jvm.Cond.instanceMethod ({ cls := "JumpFence$ByOrder", name := "does", desc := "(LJumpFence$Machine;I)I" } : Jvm.MethodName)) ∈ lw_all := lw_g (lw_at lw_m3 42 rfl) rfl
theorem q624 : (Jvm.Cond.code ({ cls := "JumpFence$ByOrder", name := "does", desc := "(LJumpFence$Machine;I)I" } : Jvm.MethodName) prog_4_method_5_code (4 : Nat) (Option.some Jvm.ClassFile.FieldType.int)) ∈ lw_all := lw_g (lw_at lw_m3 43 rfl) rfl
theorem q625 : (Jvm.Cond.methodLink "JumpFence$ByOrder" (19 : Nat) ({ cls := "JumpFence$Machine", name := "trap", desc := "()I" } : Jvm.MethodName)) ∈ lw_all := lw_g (lw_at lw_m3 44 rfl) rfl
theorem q626 : (Jvm.Cond.methodLink "JumpFence$ByOrder" (23 : Nat) ({ cls := "JumpFence$ThroughOrder", name := "does", desc := "(LJumpFence$Machine;I)I" } : Jvm.MethodName)) ∈ lw_all := lw_g (lw_at lw_m3 45 rfl) rfl
theorem q627 : (Jvm.Cond.superclass "JumpFence$ByOrder" "JumpFence$ThroughOrder") ∈ lw_all := lw_g (lw_at lw_m3 46 rfl) rfl
theorem q631 : (Jvm.Cond.methodLink "JumpFence$ByOrder" (30 : Nat) ({ cls := "JumpFence$Machine", name := "puts", desc := "(I)V" } : Jvm.MethodName)) ∈ lw_all := lw_g (lw_at lw_m3 50 rfl) rfl
theorem q701 : (Jvm.Cond.selects "JumpFence$ByOrder" ({ cls := "JumpFence$Order", name := "isJump", desc := "()Z" } : Jvm.MethodName) ({ cls := "JumpFence$ThroughOrder", name := "isJump", desc := "()Z" } : Jvm.MethodName)) ∈ lw_all := lw_g (lw_at lw_m3 120 rfl) rfl
theorem q760 : (Jvm.Cond.selects "JumpFence$ByOrder" ({ cls := "JumpFence$Order", name := "puts", desc := "()Z" } : Jvm.MethodName) ({ cls := "JumpFence$ByOrder", name := "puts", desc := "()Z" } : Jvm.MethodName)) ∈ lw_all := lw_g (lw_at lw_m3 179 rfl) rfl
theorem q761 : (Jvm.Cond.instanceMethod ({ cls := "JumpFence$ByOrder", name := "puts", desc := "()Z" } : Jvm.MethodName)) ∈ lw_all := lw_g (lw_at lw_m3 180 rfl) rfl
theorem q762 : (Jvm.Cond.code ({ cls := "JumpFence$ByOrder", name := "puts", desc := "()Z" } : Jvm.MethodName) prog_4_method_3_code (1 : Nat) (Option.some Jvm.ClassFile.FieldType.boolean)) ∈ lw_all := lw_g (lw_at lw_m3 181 rfl) rfl
theorem q778 : (Jvm.Cond.selects "JumpFence$ByOrder" ({ cls := "JumpFence$Order", name := "kind", desc := "()I" } : Jvm.MethodName) ({ cls := "JumpFence$ThroughOrder", name := "kind", desc := "()I" } : Jvm.MethodName)) ∈ lw_all := lw_g (lw_at lw_m3 197 rfl) rfl
theorem q801 : (Jvm.Cond.selects "JumpFence$ByOrder" ({ cls := "JumpFence$Order", name := "within", desc := "(LJumpFence$Program;I)J" } : Jvm.MethodName) ({ cls := "JumpFence$ByOrder", name := "within", desc := "(LJumpFence$Program;I)J" } : Jvm.MethodName)) ∈ lw_all := lw_g (lw_at lw_m3 220 rfl) rfl
theorem q802 : (Jvm.Cond.instanceMethod ({ cls := "JumpFence$ByOrder", name := "within", desc := "(LJumpFence$Program;I)J" } : Jvm.MethodName)) ∈ lw_all := lw_g (lw_at lw_m3 221 rfl) rfl
theorem q803 : (Jvm.Cond.code ({ cls := "JumpFence$ByOrder", name := "within", desc := "(LJumpFence$Program;I)J" } : Jvm.MethodName) prog_4_method_4_code (3 : Nat) (Option.some Jvm.ClassFile.FieldType.long)) ∈ lw_all := lw_g (lw_at lw_m3 222 rfl) rfl
theorem q804 : (Jvm.Cond.methodLinkNest "JumpFence$ByOrder" (9 : Nat) ({ cls := "JumpFence", name := "bit", desc := "(I)J" } : Jvm.MethodName) "JumpFence") ∈ lw_tbl := lw_at lw_m3 223 rfl
theorem q833 : (Jvm.Cond.selects "JumpFence$ByOrder" ({ cls := "JumpFence$Order", name := "place", desc := "()I" } : Jvm.MethodName) ({ cls := "JumpFence$Order", name := "place", desc := "()I" } : Jvm.MethodName)) ∈ lw_all := lw_g (lw_at lw_m4 12 rfl) rfl
theorem q893 : (Jvm.Cond.selects "JumpFence$ByOrder" ({ cls := "JumpFence$Order", name := "may", desc := "(LJumpFence$Program;I[IIZ)J" } : Jvm.MethodName) ({ cls := "JumpFence$ThroughOrder", name := "may", desc := "(LJumpFence$Program;I[IIZ)J" } : Jvm.MethodName)) ∈ lw_all := lw_g (lw_at lw_m4 72 rfl) rfl
theorem q1176 : (Jvm.Cond.instantiable "JumpFence$ByOrder" (3 : Nat)) ∈ lw_all := lw_g (lw_at lw_m5 115 rfl) rfl
theorem q1178 : (Jvm.Cond.instanceMethod ({ cls := "JumpFence$ByOrder", name := "<init>", desc := "(III)V" } : Jvm.MethodName)) ∈ lw_all := lw_g (lw_at lw_m5 117 rfl) rfl
theorem q1179 : (Jvm.Cond.code ({ cls := "JumpFence$ByOrder", name := "<init>", desc := "(III)V" } : Jvm.MethodName) prog_4_method_1_code (4 : Nat) (Option.none : Option Jvm.ClassFile.FieldType)) ∈ lw_all := lw_g (lw_at lw_m5 118 rfl) rfl
theorem q1180 : (Jvm.Cond.methodLink "JumpFence$ByOrder" (3 : Nat) ({ cls := "JumpFence$ThroughOrder", name := "<init>", desc := "(III)V" } : Jvm.MethodName)) ∈ lw_all := lw_g (lw_at lw_m5 119 rfl) rfl
theorem q1181 : (Jvm.Cond.laysFinal "JumpFence$ByOrder" "JumpFence$ThroughOrder" "cell" "I") ∈ lw_all := lw_g (lw_at lw_m5 120 rfl) rfl
theorem q1182 : (Jvm.Cond.laysFinal "JumpFence$ByOrder" "JumpFence$ThroughOrder" "kind" "I") ∈ lw_all := lw_g (lw_at lw_m5 121 rfl) rfl
theorem q1183 : (Jvm.Cond.laysFinal "JumpFence$ByOrder" "JumpFence$Order" "entry" "I") ∈ lw_all := lw_g (lw_at lw_m5 122 rfl) rfl
theorem q2129 : (Jvm.Cond.castable "JumpFence$ByOrder" "java/lang/Object") ∈ lw_tbl := lw_at lw_m9 108 rfl
theorem q2147 : (Jvm.Cond.castable "JumpFence$ByOrder" "JumpFence$Order") ∈ lw_tbl := lw_at lw_m9 126 rfl
theorem in_X15 : ∀ w ∈ wsX150, w ∈ lw_all := lw_in wsX150 [1183, 1181, 1182] (by decide +kernel) (by decide +kernel)

/-! JumpFence$BackOrder -/
def RX16 : String := "JumpFence$BackOrder"
def TX16 : u_T := fun k => match k with
  | _ => ("JumpFence$Order", "entry", "I", true)
def tyX16 : Nat → FieldType := fun k => match k with
  | _ => .int
abbrev wsX160 : List Cond := u_ws RX16 TX16 1
theorem nmX16 : ∀ a, a < 1 → ∀ b, b < 1 → a ≠ b → (TX16 a).2.1 ≠ (TX16 b).2.1 := by decide +kernel
theorem tyX16_ok : ∀ k, k < 1 → parseFieldDescriptor (TX16 k).2.2.1 = some (tyX16 k) := by decide +kernel
abbrev cX16_does : ByteArray := prog_3_method_6_code
def yX16_does : MethodName := ⟨RX16, "does", "(LJumpFence$Machine;I)I"⟩
abbrev cX16_word : ByteArray := prog_3_method_2_code
def yX16_word : MethodName := ⟨RX16, "word", "()I"⟩
abbrev cX16_isJump : ByteArray := prog_3_method_3_code
def yX16_isJump : MethodName := ⟨RX16, "isJump", "()Z"⟩
abbrev cX16_within : ByteArray := prog_3_method_4_code
def yX16_within : MethodName := ⟨RX16, "within", "(LJumpFence$Program;I)J"⟩
abbrev cX16_may : ByteArray := prog_3_method_5_code
def yX16_may : MethodName := ⟨RX16, "may", "(LJumpFence$Program;I[IIZ)J"⟩
abbrev cX16_init : ByteArray := prog_3_method_1_code
def yX16_init : MethodName := ⟨RX16, "<init>", "(I)V"⟩
theorem q124 : (Jvm.Cond.initialized "JumpFence$BackOrder") ∈ lw_all := lw_g (lw_at lw_m1 23 rfl) rfl
theorem q322 : (Jvm.Cond.fieldLinkNest "JumpFence$BackOrder" (15 : Nat) "JumpFence$Program" "behind" "J" "JumpFence") ∈ lw_tbl := lw_at lw_m1 221 rfl
theorem q378 : (Jvm.Cond.fieldLinkNest "JumpFence$BackOrder" (29 : Nat) "JumpFence$Machine" "row" "[I" "JumpFence") ∈ lw_tbl := lw_at lw_m2 37 rfl
theorem q389 : (Jvm.Cond.fieldLinkNest "JumpFence$BackOrder" (19 : Nat) "JumpFence$Machine" "deep" "I" "JumpFence") ∈ lw_tbl := lw_at lw_m2 48 rfl
theorem q405 : (Jvm.Cond.fieldLinkNest "JumpFence$BackOrder" (37 : Nat) "JumpFence$Machine" "ends" "I" "JumpFence") ∈ lw_tbl := lw_at lw_m2 64 rfl
theorem q553 : (Jvm.Cond.selects "JumpFence$BackOrder" ({ cls := "JumpFence$Order", name := "does", desc := "(LJumpFence$Machine;I)I" } : Jvm.MethodName) ({ cls := "JumpFence$BackOrder", name := "does", desc := "(LJumpFence$Machine;I)I" } : Jvm.MethodName)) ∈ lw_all := lw_g (lw_at lw_m2 212 rfl) rfl
theorem q554 : (Jvm.Cond.instanceMethod ({ cls := "JumpFence$BackOrder", name := "does", desc := "(LJumpFence$Machine;I)I" } : Jvm.MethodName)) ∈ lw_all := lw_g (lw_at lw_m2 213 rfl) rfl
theorem q555 : (Jvm.Cond.code ({ cls := "JumpFence$BackOrder", name := "does", desc := "(LJumpFence$Machine;I)I" } : Jvm.MethodName) prog_3_method_6_code (4 : Nat) (Option.some Jvm.ClassFile.FieldType.int)) ∈ lw_all := lw_g (lw_at lw_m2 214 rfl) rfl
theorem q556 : (Jvm.Cond.methodLink "JumpFence$BackOrder" (25 : Nat) ({ cls := "JumpFence$Machine", name := "trap", desc := "()I" } : Jvm.MethodName)) ∈ lw_all := lw_g (lw_at lw_m2 215 rfl) rfl
theorem q557 : (Jvm.Cond.methodLink "JumpFence$BackOrder" (33 : Nat) ({ cls := "JumpFence$Machine", name := "lands", desc := "(II)I" } : Jvm.MethodName)) ∈ lw_all := lw_g (lw_at lw_m2 216 rfl) rfl
theorem q568 : (Jvm.Cond.selects "JumpFence$BackOrder" ({ cls := "JumpFence$Order", name := "word", desc := "()I" } : Jvm.MethodName) ({ cls := "JumpFence$BackOrder", name := "word", desc := "()I" } : Jvm.MethodName)) ∈ lw_all := lw_g (lw_at lw_m2 227 rfl) rfl
theorem q569 : (Jvm.Cond.instanceMethod ({ cls := "JumpFence$BackOrder", name := "word", desc := "()I" } : Jvm.MethodName)) ∈ lw_all := lw_g (lw_at lw_m2 228 rfl) rfl
theorem q570 : (Jvm.Cond.code ({ cls := "JumpFence$BackOrder", name := "word", desc := "()I" } : Jvm.MethodName) prog_3_method_2_code (1 : Nat) (Option.some Jvm.ClassFile.FieldType.int)) ∈ lw_all := lw_g (lw_at lw_m2 229 rfl) rfl
theorem q609 : (Jvm.Cond.selects "JumpFence$BackOrder" ({ cls := "JumpFence$Order", name := "cell", desc := "()I" } : Jvm.MethodName) ({ cls := "JumpFence$Order", name := "cell", desc := "()I" } : Jvm.MethodName)) ∈ lw_all := lw_g (lw_at lw_m3 28 rfl) rfl
theorem q698 : (Jvm.Cond.selects "JumpFence$BackOrder" ({ cls := "JumpFence$Order", name := "isJump", desc := "()Z" } : Jvm.MethodName) ({ cls := "JumpFence$BackOrder", name := "isJump", desc := "()Z" } : Jvm.MethodName)) ∈ lw_all := lw_g (lw_at lw_m3 117 rfl) rfl
theorem q699 : (Jvm.Cond.instanceMethod ({ cls := "JumpFence$BackOrder", name := "isJump", desc := "()Z" } : Jvm.MethodName)) ∈ lw_all := lw_g (lw_at lw_m3 118 rfl) rfl
theorem q700 : (Jvm.Cond.code ({ cls := "JumpFence$BackOrder", name := "isJump", desc := "()Z" } : Jvm.MethodName) prog_3_method_3_code (1 : Nat) (Option.some Jvm.ClassFile.FieldType.boolean)) ∈ lw_all := lw_g (lw_at lw_m3 119 rfl) rfl
theorem q759 : (Jvm.Cond.selects "JumpFence$BackOrder" ({ cls := "JumpFence$Order", name := "puts", desc := "()Z" } : Jvm.MethodName) ({ cls := "JumpFence$Order", name := "puts", desc := "()Z" } : Jvm.MethodName)) ∈ lw_all := lw_g (lw_at lw_m3 178 rfl) rfl
theorem q777 : (Jvm.Cond.selects "JumpFence$BackOrder" ({ cls := "JumpFence$Order", name := "kind", desc := "()I" } : Jvm.MethodName) ({ cls := "JumpFence$Order", name := "kind", desc := "()I" } : Jvm.MethodName)) ∈ lw_all := lw_g (lw_at lw_m3 196 rfl) rfl
theorem q798 : (Jvm.Cond.selects "JumpFence$BackOrder" ({ cls := "JumpFence$Order", name := "within", desc := "(LJumpFence$Program;I)J" } : Jvm.MethodName) ({ cls := "JumpFence$BackOrder", name := "within", desc := "(LJumpFence$Program;I)J" } : Jvm.MethodName)) ∈ lw_all := lw_g (lw_at lw_m3 217 rfl) rfl
theorem q799 : (Jvm.Cond.instanceMethod ({ cls := "JumpFence$BackOrder", name := "within", desc := "(LJumpFence$Program;I)J" } : Jvm.MethodName)) ∈ lw_all := lw_g (lw_at lw_m3 218 rfl) rfl
theorem q800 : (Jvm.Cond.code ({ cls := "JumpFence$BackOrder", name := "within", desc := "(LJumpFence$Program;I)J" } : Jvm.MethodName) prog_3_method_4_code (3 : Nat) (Option.some Jvm.ClassFile.FieldType.long)) ∈ lw_all := lw_g (lw_at lw_m3 219 rfl) rfl
theorem q832 : (Jvm.Cond.selects "JumpFence$BackOrder" ({ cls := "JumpFence$Order", name := "place", desc := "()I" } : Jvm.MethodName) ({ cls := "JumpFence$Order", name := "place", desc := "()I" } : Jvm.MethodName)) ∈ lw_all := lw_g (lw_at lw_m4 11 rfl) rfl
theorem q889 : (Jvm.Cond.selects "JumpFence$BackOrder" ({ cls := "JumpFence$Order", name := "may", desc := "(LJumpFence$Program;I[IIZ)J" } : Jvm.MethodName) ({ cls := "JumpFence$BackOrder", name := "may", desc := "(LJumpFence$Program;I[IIZ)J" } : Jvm.MethodName)) ∈ lw_all := lw_g (lw_at lw_m4 68 rfl) rfl
theorem q890 : (Jvm.Cond.instanceMethod ({ cls := "JumpFence$BackOrder", name := "may", desc := "(LJumpFence$Program;I[IIZ)J" } : Jvm.MethodName)) ∈ lw_all := lw_g (lw_at lw_m4 69 rfl) rfl
theorem q891 : (Jvm.Cond.code ({ cls := "JumpFence$BackOrder", name := "may", desc := "(LJumpFence$Program;I[IIZ)J" } : Jvm.MethodName) prog_3_method_5_code (8 : Nat) (Option.some Jvm.ClassFile.FieldType.long)) ∈ lw_all := lw_g (lw_at lw_m4 70 rfl) rfl
theorem q892 : (Jvm.Cond.methodLink "JumpFence$BackOrder" (9 : Nat) ({ cls := "JumpFence$Program", name := "lets", desc := "(II)J" } : Jvm.MethodName)) ∈ lw_all := lw_g (lw_at lw_m4 71 rfl) rfl
theorem q1185 : (Jvm.Cond.instantiable "JumpFence$BackOrder" (1 : Nat)) ∈ lw_all := lw_g (lw_at lw_m5 124 rfl) rfl
theorem q1187 : (Jvm.Cond.instanceMethod ({ cls := "JumpFence$BackOrder", name := "<init>", desc := "(I)V" } : Jvm.MethodName)) ∈ lw_all := lw_g (lw_at lw_m5 126 rfl) rfl
theorem q1188 : (Jvm.Cond.code ({ cls := "JumpFence$BackOrder", name := "<init>", desc := "(I)V" } : Jvm.MethodName) prog_3_method_1_code (2 : Nat) (Option.none : Option Jvm.ClassFile.FieldType)) ∈ lw_all := lw_g (lw_at lw_m5 127 rfl) rfl
theorem q1189 : (Jvm.Cond.methodLink "JumpFence$BackOrder" (3 : Nat) ({ cls := "JumpFence$Order", name := "<init>", desc := "(I)V" } : Jvm.MethodName)) ∈ lw_all := lw_g (lw_at lw_m5 128 rfl) rfl
theorem q1190 : (Jvm.Cond.laysFinal "JumpFence$BackOrder" "JumpFence$Order" "entry" "I") ∈ lw_all := lw_g (lw_at lw_m5 129 rfl) rfl
theorem q1191 : (Jvm.Cond.superclass "JumpFence$BackOrder" "JumpFence$Order") ∈ lw_all := lw_g (lw_at lw_m5 130 rfl) rfl
theorem q2130 : (Jvm.Cond.castable "JumpFence$BackOrder" "java/lang/Object") ∈ lw_tbl := lw_at lw_m9 109 rfl
theorem q2148 : (Jvm.Cond.castable "JumpFence$BackOrder" "JumpFence$Order") ∈ lw_tbl := lw_at lw_m9 127 rfl
theorem in_X16 : ∀ w ∈ wsX160, w ∈ lw_all := lw_in wsX160 [1190] (by decide +kernel) (by decide +kernel)

/-! JumpFence$DoorOrder -/
def RX17 : String := "JumpFence$DoorOrder"
def TX17 : u_T := fun k => match k with
  | 0 => ("JumpFence$Order", "entry", "I", true)
  | _ => ("JumpFence$DoorOrder", "says", "LJumpFence$Atom;", true)
def tyX17 : Nat → FieldType := fun k => match k with
  | 0 => .int
  | _ => .object "JumpFence$Atom"
abbrev wsX170 : List Cond := u_ws RX17 TX17 2
theorem nmX17 : ∀ a, a < 2 → ∀ b, b < 2 → a ≠ b → (TX17 a).2.1 ≠ (TX17 b).2.1 := by decide +kernel
theorem tyX17_ok : ∀ k, k < 2 → parseFieldDescriptor (TX17 k).2.2.1 = some (tyX17 k) := by decide +kernel
abbrev cX17_word : ByteArray := prog_6_method_2_code
def yX17_word : MethodName := ⟨RX17, "word", "()I"⟩
abbrev cX17_does : ByteArray := prog_6_method_4_code
def yX17_does : MethodName := ⟨RX17, "does", "(LJumpFence$Machine;I)I"⟩
abbrev cX17_mayDo : ByteArray := prog_6_method_3_code
def yX17_mayDo : MethodName := ⟨RX17, "mayDo", "(I)Z"⟩
abbrev cX17_init : ByteArray := prog_6_method_1_code
def yX17_init : MethodName := ⟨RX17, "<init>", "(ILJumpFence$Atom;)V"⟩
theorem q125 : (Jvm.Cond.initialized "JumpFence$DoorOrder") ∈ lw_all := lw_g (lw_at lw_m1 24 rfl) rfl
theorem q577 : (Jvm.Cond.selects "JumpFence$DoorOrder" ({ cls := "JumpFence$Order", name := "word", desc := "()I" } : Jvm.MethodName) ({ cls := "JumpFence$DoorOrder", name := "word", desc := "()I" } : Jvm.MethodName)) ∈ lw_all := lw_g (lw_at lw_m2 236 rfl) rfl
theorem q578 : (Jvm.Cond.instanceMethod ({ cls := "JumpFence$DoorOrder", name := "word", desc := "()I" } : Jvm.MethodName)) ∈ lw_all := lw_g (lw_at lw_m2 237 rfl) rfl
theorem q579 : (Jvm.Cond.code ({ cls := "JumpFence$DoorOrder", name := "word", desc := "()I" } : Jvm.MethodName) prog_6_method_2_code (1 : Nat) (Option.some Jvm.ClassFile.FieldType.int)) ∈ lw_all := lw_g (lw_at lw_m2 238 rfl) rfl
theorem q614 : (Jvm.Cond.selects "JumpFence$DoorOrder" ({ cls := "JumpFence$Order", name := "cell", desc := "()I" } : Jvm.MethodName) ({ cls := "JumpFence$Order", name := "cell", desc := "()I" } : Jvm.MethodName)) ∈ lw_all := lw_g (lw_at lw_m3 33 rfl) rfl
theorem q640 : (Jvm.Cond.selects "JumpFence$DoorOrder" ({ cls := "JumpFence$Order", name := "does", desc := "(LJumpFence$Machine;I)I" } : Jvm.MethodName) ({ cls := "JumpFence$DoorOrder", name := "does", desc := "(LJumpFence$Machine;I)I" } : Jvm.MethodName)) ∈ lw_all := lw_g (lw_at lw_m3 59 rfl) rfl
theorem q641 : (Jvm.Cond.instanceMethod ({ cls := "JumpFence$DoorOrder", name := "does", desc := "(LJumpFence$Machine;I)I" } : Jvm.MethodName)) ∈ lw_all := lw_g (lw_at lw_m3 60 rfl) rfl
theorem q642 : (Jvm.Cond.code ({ cls := "JumpFence$DoorOrder", name := "does", desc := "(LJumpFence$Machine;I)I" } : Jvm.MethodName) prog_6_method_4_code (3 : Nat) (Option.some Jvm.ClassFile.FieldType.int)) ∈ lw_all := lw_g (lw_at lw_m3 61 rfl) rfl
theorem q643 : (Jvm.Cond.methodLink "JumpFence$DoorOrder" (24 : Nat) ({ cls := "JumpFence$Atom", name := "of", desc := "(LJumpFence$Machine;)I" } : Jvm.MethodName)) ∈ lw_all := lw_g (lw_at lw_m3 62 rfl) rfl
theorem q647 : (Jvm.Cond.methodLink "JumpFence$DoorOrder" (28 : Nat) ({ cls := "JumpFence$Machine", name := "says", desc := "(I)V" } : Jvm.MethodName)) ∈ lw_all := lw_g (lw_at lw_m3 66 rfl) rfl
theorem q705 : (Jvm.Cond.selects "JumpFence$DoorOrder" ({ cls := "JumpFence$Order", name := "isJump", desc := "()Z" } : Jvm.MethodName) ({ cls := "JumpFence$Order", name := "isJump", desc := "()Z" } : Jvm.MethodName)) ∈ lw_all := lw_g (lw_at lw_m3 124 rfl) rfl
theorem q766 : (Jvm.Cond.selects "JumpFence$DoorOrder" ({ cls := "JumpFence$Order", name := "puts", desc := "()Z" } : Jvm.MethodName) ({ cls := "JumpFence$Order", name := "puts", desc := "()Z" } : Jvm.MethodName)) ∈ lw_all := lw_g (lw_at lw_m3 185 rfl) rfl
theorem q782 : (Jvm.Cond.selects "JumpFence$DoorOrder" ({ cls := "JumpFence$Order", name := "kind", desc := "()I" } : Jvm.MethodName) ({ cls := "JumpFence$Order", name := "kind", desc := "()I" } : Jvm.MethodName)) ∈ lw_all := lw_g (lw_at lw_m3 201 rfl) rfl
theorem q806 : (Jvm.Cond.selects "JumpFence$DoorOrder" ({ cls := "JumpFence$Order", name := "within", desc := "(LJumpFence$Program;I)J" } : Jvm.MethodName) ({ cls := "JumpFence$Order", name := "within", desc := "(LJumpFence$Program;I)J" } : Jvm.MethodName)) ∈ lw_all := lw_g (lw_at lw_m3 225 rfl) rfl
theorem q837 : (Jvm.Cond.selects "JumpFence$DoorOrder" ({ cls := "JumpFence$Order", name := "place", desc := "()I" } : Jvm.MethodName) ({ cls := "JumpFence$Order", name := "place", desc := "()I" } : Jvm.MethodName)) ∈ lw_all := lw_g (lw_at lw_m4 16 rfl) rfl
theorem q879 : (Jvm.Cond.instanceMethod ({ cls := "JumpFence$DoorOrder", name := "mayDo", desc := "(I)Z" } : Jvm.MethodName)) ∈ lw_all := lw_g (lw_at lw_m4 58 rfl) rfl
theorem q880 : (Jvm.Cond.selects "JumpFence$DoorOrder" ({ cls := "JumpFence$DoorOrder", name := "mayDo", desc := "(I)Z" } : Jvm.MethodName) ({ cls := "JumpFence$DoorOrder", name := "mayDo", desc := "(I)Z" } : Jvm.MethodName)) ∈ lw_all := lw_g (lw_at lw_m4 59 rfl) rfl
theorem q881 : (Jvm.Cond.code ({ cls := "JumpFence$DoorOrder", name := "mayDo", desc := "(I)Z" } : Jvm.MethodName) prog_6_method_3_code (2 : Nat) (Option.some Jvm.ClassFile.FieldType.boolean)) ∈ lw_all := lw_g (lw_at lw_m4 60 rfl) rfl
theorem q901 : (Jvm.Cond.selects "JumpFence$DoorOrder" ({ cls := "JumpFence$Order", name := "may", desc := "(LJumpFence$Program;I[IIZ)J" } : Jvm.MethodName) ({ cls := "JumpFence$Order", name := "may", desc := "(LJumpFence$Program;I[IIZ)J" } : Jvm.MethodName)) ∈ lw_all := lw_g (lw_at lw_m4 80 rfl) rfl
theorem q1045 : (Jvm.Cond.fieldLinkNest "JumpFence$DoorOrder" (15 : Nat) "JumpFence$Atom" "cell" "I" "JumpFence") ∈ lw_tbl := lw_at lw_m4 224 rfl
theorem q1050 : (Jvm.Cond.fieldLinkNest "JumpFence$DoorOrder" (21 : Nat) "JumpFence$Atom" "number" "I" "JumpFence") ∈ lw_tbl := lw_at lw_m4 229 rfl
theorem q1193 : (Jvm.Cond.instantiable "JumpFence$DoorOrder" (2 : Nat)) ∈ lw_all := lw_g (lw_at lw_m5 132 rfl) rfl
theorem q1195 : (Jvm.Cond.instanceMethod ({ cls := "JumpFence$DoorOrder", name := "<init>", desc := "(ILJumpFence$Atom;)V" } : Jvm.MethodName)) ∈ lw_all := lw_g (lw_at lw_m5 134 rfl) rfl
theorem q1196 : (Jvm.Cond.code ({ cls := "JumpFence$DoorOrder", name := "<init>", desc := "(ILJumpFence$Atom;)V" } : Jvm.MethodName) prog_6_method_1_code (3 : Nat) (Option.none : Option Jvm.ClassFile.FieldType)) ∈ lw_all := lw_g (lw_at lw_m5 135 rfl) rfl
theorem q1197 : (Jvm.Cond.methodLink "JumpFence$DoorOrder" (3 : Nat) ({ cls := "JumpFence$Order", name := "<init>", desc := "(I)V" } : Jvm.MethodName)) ∈ lw_all := lw_g (lw_at lw_m5 136 rfl) rfl
theorem q1198 : (Jvm.Cond.fieldLink "JumpFence$DoorOrder" (9 : Nat) "JumpFence$DoorOrder" "says" "LJumpFence$Atom;") ∈ lw_all := lw_g (lw_at lw_m5 137 rfl) rfl
theorem q1200 : (Jvm.Cond.laysFinal "JumpFence$DoorOrder" "JumpFence$DoorOrder" "says" "LJumpFence$Atom;") ∈ lw_all := lw_g (lw_at lw_m5 139 rfl) rfl
theorem q1201 : (Jvm.Cond.soleField "JumpFence$DoorOrder" "says") ∈ lw_all := lw_g (lw_at lw_m5 140 rfl) rfl
theorem q1202 : (Jvm.Cond.laysFinal "JumpFence$DoorOrder" "JumpFence$Order" "entry" "I") ∈ lw_all := lw_g (lw_at lw_m5 141 rfl) rfl
theorem q1203 : (Jvm.Cond.superclass "JumpFence$DoorOrder" "JumpFence$Order") ∈ lw_all := lw_g (lw_at lw_m5 142 rfl) rfl
theorem q2131 : (Jvm.Cond.castable "JumpFence$DoorOrder" "java/lang/Object") ∈ lw_tbl := lw_at lw_m9 110 rfl
theorem q2149 : (Jvm.Cond.castable "JumpFence$DoorOrder" "JumpFence$Order") ∈ lw_tbl := lw_at lw_m9 128 rfl
theorem in_X17 : ∀ w ∈ wsX170, w ∈ lw_all := lw_in wsX170 [1202, 1200] (by decide +kernel) (by decide +kernel)

/-! JumpFence$StopOrder -/
def RX18 : String := "JumpFence$StopOrder"
def TX18 : u_T := fun k => match k with
  | _ => ("JumpFence$Order", "entry", "I", true)
def tyX18 : Nat → FieldType := fun k => match k with
  | _ => .int
abbrev wsX180 : List Cond := u_ws RX18 TX18 1
theorem nmX18 : ∀ a, a < 1 → ∀ b, b < 1 → a ≠ b → (TX18 a).2.1 ≠ (TX18 b).2.1 := by decide +kernel
theorem tyX18_ok : ∀ k, k < 1 → parseFieldDescriptor (TX18 k).2.2.1 = some (tyX18 k) := by decide +kernel
abbrev cX18_word : ByteArray := prog_15_method_2_code
def yX18_word : MethodName := ⟨RX18, "word", "()I"⟩
abbrev cX18_does : ByteArray := prog_15_method_5_code
def yX18_does : MethodName := ⟨RX18, "does", "(LJumpFence$Machine;I)I"⟩
abbrev cX18_within : ByteArray := prog_15_method_3_code
def yX18_within : MethodName := ⟨RX18, "within", "(LJumpFence$Program;I)J"⟩
abbrev cX18_may : ByteArray := prog_15_method_4_code
def yX18_may : MethodName := ⟨RX18, "may", "(LJumpFence$Program;I[IIZ)J"⟩
abbrev cX18_init : ByteArray := prog_15_method_1_code
def yX18_init : MethodName := ⟨RX18, "<init>", "(I)V"⟩
theorem q126 : (Jvm.Cond.initialized "JumpFence$StopOrder") ∈ lw_all := lw_g (lw_at lw_m1 25 rfl) rfl
theorem q403 : (Jvm.Cond.fieldLinkNest "JumpFence$StopOrder" (9 : Nat) "JumpFence$Machine" "ends" "I" "JumpFence") ∈ lw_tbl := lw_at lw_m2 62 rfl
theorem q592 : (Jvm.Cond.selects "JumpFence$StopOrder" ({ cls := "JumpFence$Order", name := "word", desc := "()I" } : Jvm.MethodName) ({ cls := "JumpFence$StopOrder", name := "word", desc := "()I" } : Jvm.MethodName)) ∈ lw_all := lw_g (lw_at lw_m3 11 rfl) rfl
theorem q593 : (Jvm.Cond.instanceMethod ({ cls := "JumpFence$StopOrder", name := "word", desc := "()I" } : Jvm.MethodName)) ∈ lw_all := lw_g (lw_at lw_m3 12 rfl) rfl
theorem q594 : (Jvm.Cond.code ({ cls := "JumpFence$StopOrder", name := "word", desc := "()I" } : Jvm.MethodName) prog_15_method_2_code (1 : Nat) (Option.some Jvm.ClassFile.FieldType.int)) ∈ lw_all := lw_g (lw_at lw_m3 13 rfl) rfl
theorem q619 : (Jvm.Cond.selects "JumpFence$StopOrder" ({ cls := "JumpFence$Order", name := "cell", desc := "()I" } : Jvm.MethodName) ({ cls := "JumpFence$Order", name := "cell", desc := "()I" } : Jvm.MethodName)) ∈ lw_all := lw_g (lw_at lw_m3 38 rfl) rfl
theorem q678 : (Jvm.Cond.selects "JumpFence$StopOrder" ({ cls := "JumpFence$Order", name := "does", desc := "(LJumpFence$Machine;I)I" } : Jvm.MethodName) ({ cls := "JumpFence$StopOrder", name := "does", desc := "(LJumpFence$Machine;I)I" } : Jvm.MethodName)) ∈ lw_all := lw_g (lw_at lw_m3 97 rfl) rfl
theorem q679 : (Jvm.Cond.instanceMethod ({ cls := "JumpFence$StopOrder", name := "does", desc := "(LJumpFence$Machine;I)I" } : Jvm.MethodName)) ∈ lw_all := lw_g (lw_at lw_m3 98 rfl) rfl
theorem q680 : (Jvm.Cond.code ({ cls := "JumpFence$StopOrder", name := "does", desc := "(LJumpFence$Machine;I)I" } : Jvm.MethodName) prog_15_method_5_code (3 : Nat) (Option.some Jvm.ClassFile.FieldType.int)) ∈ lw_all := lw_g (lw_at lw_m3 99 rfl) rfl
theorem q710 : (Jvm.Cond.selects "JumpFence$StopOrder" ({ cls := "JumpFence$Order", name := "isJump", desc := "()Z" } : Jvm.MethodName) ({ cls := "JumpFence$Order", name := "isJump", desc := "()Z" } : Jvm.MethodName)) ∈ lw_all := lw_g (lw_at lw_m3 129 rfl) rfl
theorem q771 : (Jvm.Cond.selects "JumpFence$StopOrder" ({ cls := "JumpFence$Order", name := "puts", desc := "()Z" } : Jvm.MethodName) ({ cls := "JumpFence$Order", name := "puts", desc := "()Z" } : Jvm.MethodName)) ∈ lw_all := lw_g (lw_at lw_m3 190 rfl) rfl
theorem q787 : (Jvm.Cond.selects "JumpFence$StopOrder" ({ cls := "JumpFence$Order", name := "kind", desc := "()I" } : Jvm.MethodName) ({ cls := "JumpFence$Order", name := "kind", desc := "()I" } : Jvm.MethodName)) ∈ lw_all := lw_g (lw_at lw_m3 206 rfl) rfl
theorem q817 : (Jvm.Cond.selects "JumpFence$StopOrder" ({ cls := "JumpFence$Order", name := "within", desc := "(LJumpFence$Program;I)J" } : Jvm.MethodName) ({ cls := "JumpFence$StopOrder", name := "within", desc := "(LJumpFence$Program;I)J" } : Jvm.MethodName)) ∈ lw_all := lw_g (lw_at lw_m3 236 rfl) rfl
theorem q818 : (Jvm.Cond.instanceMethod ({ cls := "JumpFence$StopOrder", name := "within", desc := "(LJumpFence$Program;I)J" } : Jvm.MethodName)) ∈ lw_all := lw_g (lw_at lw_m3 237 rfl) rfl
theorem q819 : (Jvm.Cond.code ({ cls := "JumpFence$StopOrder", name := "within", desc := "(LJumpFence$Program;I)J" } : Jvm.MethodName) prog_15_method_3_code (3 : Nat) (Option.some Jvm.ClassFile.FieldType.long)) ∈ lw_all := lw_g (lw_at lw_m3 238 rfl) rfl
theorem q848 : (Jvm.Cond.selects "JumpFence$StopOrder" ({ cls := "JumpFence$Order", name := "place", desc := "()I" } : Jvm.MethodName) ({ cls := "JumpFence$Order", name := "place", desc := "()I" } : Jvm.MethodName)) ∈ lw_all := lw_g (lw_at lw_m4 27 rfl) rfl
theorem q910 : (Jvm.Cond.selects "JumpFence$StopOrder" ({ cls := "JumpFence$Order", name := "may", desc := "(LJumpFence$Program;I[IIZ)J" } : Jvm.MethodName) ({ cls := "JumpFence$StopOrder", name := "may", desc := "(LJumpFence$Program;I[IIZ)J" } : Jvm.MethodName)) ∈ lw_all := lw_g (lw_at lw_m4 89 rfl) rfl
theorem q911 : (Jvm.Cond.instanceMethod ({ cls := "JumpFence$StopOrder", name := "may", desc := "(LJumpFence$Program;I[IIZ)J" } : Jvm.MethodName)) ∈ lw_all := lw_g (lw_at lw_m4 90 rfl) rfl
theorem q912 : (Jvm.Cond.code ({ cls := "JumpFence$StopOrder", name := "may", desc := "(LJumpFence$Program;I[IIZ)J" } : Jvm.MethodName) prog_15_method_4_code (6 : Nat) (Option.some Jvm.ClassFile.FieldType.long)) ∈ lw_all := lw_g (lw_at lw_m4 91 rfl) rfl
theorem q1205 : (Jvm.Cond.instantiable "JumpFence$StopOrder" (1 : Nat)) ∈ lw_all := lw_g (lw_at lw_m5 144 rfl) rfl
theorem q1207 : (Jvm.Cond.instanceMethod ({ cls := "JumpFence$StopOrder", name := "<init>", desc := "(I)V" } : Jvm.MethodName)) ∈ lw_all := lw_g (lw_at lw_m5 146 rfl) rfl
theorem q1208 : (Jvm.Cond.code ({ cls := "JumpFence$StopOrder", name := "<init>", desc := "(I)V" } : Jvm.MethodName) prog_15_method_1_code (2 : Nat) (Option.none : Option Jvm.ClassFile.FieldType)) ∈ lw_all := lw_g (lw_at lw_m5 147 rfl) rfl
theorem q1209 : (Jvm.Cond.methodLink "JumpFence$StopOrder" (3 : Nat) ({ cls := "JumpFence$Order", name := "<init>", desc := "(I)V" } : Jvm.MethodName)) ∈ lw_all := lw_g (lw_at lw_m5 148 rfl) rfl
theorem q1210 : (Jvm.Cond.laysFinal "JumpFence$StopOrder" "JumpFence$Order" "entry" "I") ∈ lw_all := lw_g (lw_at lw_m5 149 rfl) rfl
theorem q1211 : (Jvm.Cond.superclass "JumpFence$StopOrder" "JumpFence$Order") ∈ lw_all := lw_g (lw_at lw_m5 150 rfl) rfl
theorem q2132 : (Jvm.Cond.castable "JumpFence$StopOrder" "java/lang/Object") ∈ lw_tbl := lw_at lw_m9 111 rfl
theorem q2150 : (Jvm.Cond.castable "JumpFence$StopOrder" "JumpFence$Order") ∈ lw_tbl := lw_at lw_m9 129 rfl
theorem in_X18 : ∀ w ∈ wsX180, w ∈ lw_all := lw_in wsX180 [1210] (by decide +kernel) (by decide +kernel)

/-! java/lang/Throwable -/
def RJ0 : String := "java/lang/Throwable"
def TJ0 : u_T := fun k => match k with
  | 0 => ("java/lang/Throwable", "cause", "Ljava/lang/Throwable;", false)
  | 1 => ("java/lang/Throwable", "stackTrace", "[Ljava/lang/StackTraceElement;", false)
  | 2 => ("java/lang/Throwable", "suppressedExceptions", "Ljava/util/List;", false)
  | 3 => ("java/lang/Throwable", "detailMessage", "Ljava/lang/String;", false)
  | _ => ("java/lang/Throwable", "backtrace", "Ljava/lang/Object;", false)
def tyJ0 : Nat → FieldType := fun k => match k with
  | 0 => .object "java/lang/Throwable"
  | 1 => .array (.object "java/lang/StackTraceElement")
  | 2 => .object "java/util/List"
  | 3 => .object "java/lang/String"
  | _ => .object "java/lang/Object"
abbrev wsJ00 : List Cond := u_ws RJ0 TJ0 5
theorem nmJ0 : ∀ a, a < 5 → ∀ b, b < 5 → a ≠ b → (TJ0 a).2.1 ≠ (TJ0 b).2.1 := by decide +kernel
theorem tyJ0_ok : ∀ k, k < 5 → parseFieldDescriptor (TJ0 k).2.2.1 = some (tyJ0 k) := by decide +kernel
abbrev cJ0_init : ByteArray := prog_33_method_1_code
def yJ0_init : MethodName := ⟨RJ0, "<init>", "()V"⟩
abbrev cJ0_init_2 : ByteArray := prog_33_method_5_code
def yJ0_init_2 : MethodName := ⟨RJ0, "<init>", "(Ljava/lang/String;Ljava/lang/Throwable;ZZ)V"⟩
abbrev cJ0_init_3 : ByteArray := prog_33_method_2_code
def yJ0_init_3 : MethodName := ⟨RJ0, "<init>", "(Ljava/lang/String;)V"⟩
theorem q104 : (Jvm.Cond.initialized "java/lang/Throwable") ∈ lw_all := lw_g (lw_at lw_m1 3 rfl) rfl
theorem q172 : (Jvm.Cond.declares ({ cls := "java/lang/Throwable", name := "<init>", desc := "()V" } : Jvm.MethodName)) ∈ lw_tbl := lw_at lw_m1 71 rfl
theorem q173 : (Jvm.Cond.declares ({ cls := "java/lang/Throwable", name := "<init>", desc := "(Ljava/lang/String;)V" } : Jvm.MethodName)) ∈ lw_tbl := lw_at lw_m1 72 rfl
theorem q177 : (Jvm.Cond.lays "java/lang/Throwable" "java/lang/Throwable" "cause" "Ljava/lang/Throwable;") ∈ lw_all := lw_g (lw_at lw_m1 76 rfl) rfl
theorem q179 : (Jvm.Cond.lays "java/lang/Throwable" "java/lang/Throwable" "stackTrace" "[Ljava/lang/StackTraceElement;") ∈ lw_all := lw_g (lw_at lw_m1 78 rfl) rfl
theorem q181 : (Jvm.Cond.lays "java/lang/Throwable" "java/lang/Throwable" "suppressedExceptions" "Ljava/util/List;") ∈ lw_all := lw_g (lw_at lw_m1 80 rfl) rfl
theorem q183 : (Jvm.Cond.lays "java/lang/Throwable" "java/lang/Throwable" "detailMessage" "Ljava/lang/String;") ∈ lw_all := lw_g (lw_at lw_m1 82 rfl) rfl
theorem q185 : (Jvm.Cond.lays "java/lang/Throwable" "java/lang/Throwable" "backtrace" "Ljava/lang/Object;") ∈ lw_all := lw_g (lw_at lw_m1 84 rfl) rfl
theorem q186 : (Jvm.Cond.fieldLink "java/lang/Throwable" (198 : Nat) "java/lang/Throwable" "backtrace" "Ljava/lang/Object;") ∈ lw_all := lw_g (lw_at lw_m1 85 rfl) rfl
theorem q187 : (Jvm.Cond.superclass "java/lang/Throwable" "java/lang/Object") ∈ lw_all := lw_g (lw_at lw_m1 86 rfl) rfl
theorem q188 : (Jvm.Cond.instanceMethod ({ cls := "java/lang/Throwable", name := "<init>", desc := "()V" } : Jvm.MethodName)) ∈ lw_all := lw_g (lw_at lw_m1 87 rfl) rfl
theorem q189 : (Jvm.Cond.code ({ cls := "java/lang/Throwable", name := "<init>", desc := "()V" } : Jvm.MethodName) prog_33_method_1_code (1 : Nat) (Option.none : Option Jvm.ClassFile.FieldType)) ∈ lw_all := lw_g (lw_at lw_m1 88 rfl) rfl
theorem q190 : (Jvm.Cond.methodLink "java/lang/Throwable" (1 : Nat) ({ cls := "java/lang/Object", name := "<init>", desc := "()V" } : Jvm.MethodName)) ∈ lw_all := lw_g (lw_at lw_m1 89 rfl) rfl
theorem q191 : (Jvm.Cond.fieldLink "java/lang/Throwable" (13 : Nat) "java/lang/Throwable" "UNASSIGNED_STACK" "[Ljava/lang/StackTraceElement;") ∈ lw_all := lw_g (lw_at lw_m1 90 rfl) rfl
theorem q192 : (Jvm.Cond.laysStatic "java/lang/Throwable" "UNASSIGNED_STACK" "[Ljava/lang/StackTraceElement;") ∈ lw_tbl := lw_at lw_m1 91 rfl
theorem q193 : (Jvm.Cond.fieldLink "java/lang/Throwable" (20 : Nat) "java/lang/Throwable" "SUPPRESSED_SENTINEL" "Ljava/util/List;") ∈ lw_all := lw_g (lw_at lw_m1 92 rfl) rfl
theorem q194 : (Jvm.Cond.laysStatic "java/lang/Throwable" "SUPPRESSED_SENTINEL" "Ljava/util/List;") ∈ lw_tbl := lw_at lw_m1 93 rfl
theorem q195 : (Jvm.Cond.methodLink "java/lang/Throwable" (27 : Nat) ({ cls := "java/lang/Throwable", name := "fillInStackTrace", desc := "()Ljava/lang/Throwable;" } : Jvm.MethodName)) ∈ lw_all := lw_g (lw_at lw_m1 94 rfl) rfl
theorem q196 : (Jvm.Cond.instanceMethod ({ cls := "java/lang/Throwable", name := "fillInStackTrace", desc := "()Ljava/lang/Throwable;" } : Jvm.MethodName)) ∈ lw_all := lw_g (lw_at lw_m1 95 rfl) rfl
theorem q197 : (Jvm.Cond.sameMethod "java/lang/Throwable" "java/lang/Throwable" "fillInStackTrace" "()Ljava/lang/Throwable;") ∈ lw_all := lw_g (lw_at lw_m1 96 rfl) rfl
theorem q204 : (Jvm.Cond.codeSync ({ cls := "java/lang/Throwable", name := "fillInStackTrace", desc := "()Ljava/lang/Throwable;" } : Jvm.MethodName) prog_33_method_18_code (1 : Nat) (Option.some (Jvm.ClassFile.FieldType.object "java/lang/Throwable"))) ∈ lw_all := lw_g (lw_at lw_m1 103 rfl) rfl
theorem q205 : (Jvm.Cond.methodLink "java/lang/Throwable" (202 : Nat) ({ cls := "java/lang/Throwable", name := "fillInStackTrace", desc := "(I)Ljava/lang/Throwable;" } : Jvm.MethodName)) ∈ lw_all := lw_g (lw_at lw_m1 104 rfl) rfl
theorem q206 : (Jvm.Cond.privateMethod ({ cls := "java/lang/Throwable", name := "fillInStackTrace", desc := "(I)Ljava/lang/Throwable;" } : Jvm.MethodName)) ∈ lw_tbl := lw_at lw_m1 105 rfl
theorem q207 : (Jvm.Cond.instanceMethod ({ cls := "java/lang/Throwable", name := "fillInStackTrace", desc := "(I)Ljava/lang/Throwable;" } : Jvm.MethodName)) ∈ lw_all := lw_g (lw_at lw_m1 106 rfl) rfl
theorem q208 : (Jvm.Cond.instantiable "java/lang/Throwable" (6 : Nat)) ∈ lw_all := lw_g (lw_at lw_m1 107 rfl) rfl
theorem q209 : (Jvm.Cond.native ({ cls := "java/lang/Throwable", name := "fillInStackTrace", desc := "(I)Ljava/lang/Throwable;" } : Jvm.MethodName)) ∈ lw_all := lw_g (lw_at lw_m1 108 rfl) rfl
theorem q220 : (Jvm.Cond.instanceMethod ({ cls := "java/lang/Throwable", name := "<init>", desc := "(Ljava/lang/String;Ljava/lang/Throwable;ZZ)V" } : Jvm.MethodName)) ∈ lw_all := lw_g (lw_at lw_m1 119 rfl) rfl
theorem q221 : (Jvm.Cond.code ({ cls := "java/lang/Throwable", name := "<init>", desc := "(Ljava/lang/String;Ljava/lang/Throwable;ZZ)V" } : Jvm.MethodName) prog_33_method_5_code (5 : Nat) (Option.none : Option Jvm.ClassFile.FieldType)) ∈ lw_all := lw_g (lw_at lw_m1 120 rfl) rfl
theorem q224 : (Jvm.Cond.fieldLink "java/lang/Throwable" (198 : Nat) "java/lang/Throwable" "backtrace" "Ljava/lang/Object;") ∈ lw_all := lw_g (lw_at lw_m1 123 rfl) rfl
theorem q225 : (Jvm.Cond.fieldLink "java/lang/Throwable" (31 : Nat) "java/lang/Throwable" "detailMessage" "Ljava/lang/String;") ∈ lw_all := lw_g (lw_at lw_m1 124 rfl) rfl
theorem q226 : (Jvm.Cond.fieldLink "java/lang/Throwable" (7 : Nat) "java/lang/Throwable" "cause" "Ljava/lang/Throwable;") ∈ lw_all := lw_g (lw_at lw_m1 125 rfl) rfl
theorem q227 : (Jvm.Cond.fieldLink "java/lang/Throwable" (17 : Nat) "java/lang/Throwable" "stackTrace" "[Ljava/lang/StackTraceElement;") ∈ lw_all := lw_g (lw_at lw_m1 126 rfl) rfl
theorem q228 : (Jvm.Cond.fieldLink "java/lang/Throwable" (24 : Nat) "java/lang/Throwable" "suppressedExceptions" "Ljava/util/List;") ∈ lw_all := lw_g (lw_at lw_m1 127 rfl) rfl
theorem q231 : (Jvm.Cond.soleField "java/lang/Throwable" "backtrace") ∈ lw_all := lw_g (lw_at lw_m1 130 rfl) rfl
theorem q232 : (Jvm.Cond.soleField "java/lang/Throwable" "detailMessage") ∈ lw_all := lw_g (lw_at lw_m1 131 rfl) rfl
theorem q233 : (Jvm.Cond.soleField "java/lang/Throwable" "cause") ∈ lw_all := lw_g (lw_at lw_m1 132 rfl) rfl
theorem q234 : (Jvm.Cond.soleField "java/lang/Throwable" "stackTrace") ∈ lw_all := lw_g (lw_at lw_m1 133 rfl) rfl
theorem q236 : (Jvm.Cond.soleField "java/lang/Throwable" "depth") ∈ lw_all := lw_g (lw_at lw_m1 135 rfl) rfl
theorem q237 : (Jvm.Cond.soleField "java/lang/Throwable" "suppressedExceptions") ∈ lw_all := lw_g (lw_at lw_m1 136 rfl) rfl
theorem q1251 : (Jvm.Cond.instanceMethod ({ cls := "java/lang/Throwable", name := "<init>", desc := "(Ljava/lang/String;)V" } : Jvm.MethodName)) ∈ lw_all := lw_g (lw_at lw_m5 190 rfl) rfl
theorem q1252 : (Jvm.Cond.code ({ cls := "java/lang/Throwable", name := "<init>", desc := "(Ljava/lang/String;)V" } : Jvm.MethodName) prog_33_method_2_code (2 : Nat) (Option.none : Option Jvm.ClassFile.FieldType)) ∈ lw_all := lw_g (lw_at lw_m5 191 rfl) rfl
theorem q2113 : (Jvm.Cond.sameMethod "java/lang/Throwable" "java/lang/Throwable" "fillInStackTrace" "(I)Ljava/lang/Throwable;") ∈ lw_all := lw_g (lw_at lw_m9 92 rfl) rfl
theorem q2139 : (Jvm.Cond.castable "java/lang/Throwable" "java/lang/Object") ∈ lw_tbl := lw_at lw_m9 118 rfl
theorem in_J0 : ∀ w ∈ wsJ00, w ∈ lw_all := lw_in wsJ00 [177, 179, 181, 183, 185] (by decide +kernel) (by decide +kernel)

/-! java/lang/Exception -/
def RJ1 : String := "java/lang/Exception"
abbrev cJ1_init : ByteArray := prog_22_method_5_code
def yJ1_init : MethodName := ⟨RJ1, "<init>", "(Ljava/lang/String;Ljava/lang/Throwable;ZZ)V"⟩
abbrev cJ1_init_2 : ByteArray := prog_22_method_1_code
def yJ1_init_2 : MethodName := ⟨RJ1, "<init>", "()V"⟩
abbrev cJ1_init_3 : ByteArray := prog_22_method_2_code
def yJ1_init_3 : MethodName := ⟨RJ1, "<init>", "(Ljava/lang/String;)V"⟩
theorem q105 : (Jvm.Cond.initialized "java/lang/Exception") ∈ lw_all := lw_g (lw_at lw_m1 4 rfl) rfl
theorem q170 : (Jvm.Cond.declares ({ cls := "java/lang/Exception", name := "<init>", desc := "()V" } : Jvm.MethodName)) ∈ lw_tbl := lw_at lw_m1 69 rfl
theorem q171 : (Jvm.Cond.declares ({ cls := "java/lang/Exception", name := "<init>", desc := "(Ljava/lang/String;)V" } : Jvm.MethodName)) ∈ lw_tbl := lw_at lw_m1 70 rfl
theorem q217 : (Jvm.Cond.instanceMethod ({ cls := "java/lang/Exception", name := "<init>", desc := "(Ljava/lang/String;Ljava/lang/Throwable;ZZ)V" } : Jvm.MethodName)) ∈ lw_all := lw_g (lw_at lw_m1 116 rfl) rfl
theorem q218 : (Jvm.Cond.code ({ cls := "java/lang/Exception", name := "<init>", desc := "(Ljava/lang/String;Ljava/lang/Throwable;ZZ)V" } : Jvm.MethodName) prog_22_method_5_code (5 : Nat) (Option.none : Option Jvm.ClassFile.FieldType)) ∈ lw_all := lw_g (lw_at lw_m1 117 rfl) rfl
theorem q219 : (Jvm.Cond.methodLink "java/lang/Exception" (16 : Nat) ({ cls := "java/lang/Throwable", name := "<init>", desc := "(Ljava/lang/String;Ljava/lang/Throwable;ZZ)V" } : Jvm.MethodName)) ∈ lw_all := lw_g (lw_at lw_m1 118 rfl) rfl
theorem q1228 : (Jvm.Cond.instanceMethod ({ cls := "java/lang/Exception", name := "<init>", desc := "()V" } : Jvm.MethodName)) ∈ lw_all := lw_g (lw_at lw_m5 167 rfl) rfl
theorem q1229 : (Jvm.Cond.code ({ cls := "java/lang/Exception", name := "<init>", desc := "()V" } : Jvm.MethodName) prog_22_method_1_code (1 : Nat) (Option.none : Option Jvm.ClassFile.FieldType)) ∈ lw_all := lw_g (lw_at lw_m5 168 rfl) rfl
theorem q1230 : (Jvm.Cond.methodLink "java/lang/Exception" (1 : Nat) ({ cls := "java/lang/Throwable", name := "<init>", desc := "()V" } : Jvm.MethodName)) ∈ lw_all := lw_g (lw_at lw_m5 169 rfl) rfl
theorem q1248 : (Jvm.Cond.instanceMethod ({ cls := "java/lang/Exception", name := "<init>", desc := "(Ljava/lang/String;)V" } : Jvm.MethodName)) ∈ lw_all := lw_g (lw_at lw_m5 187 rfl) rfl
theorem q1249 : (Jvm.Cond.code ({ cls := "java/lang/Exception", name := "<init>", desc := "(Ljava/lang/String;)V" } : Jvm.MethodName) prog_22_method_2_code (2 : Nat) (Option.none : Option Jvm.ClassFile.FieldType)) ∈ lw_all := lw_g (lw_at lw_m5 188 rfl) rfl
theorem q1250 : (Jvm.Cond.methodLink "java/lang/Exception" (7 : Nat) ({ cls := "java/lang/Throwable", name := "<init>", desc := "(Ljava/lang/String;)V" } : Jvm.MethodName)) ∈ lw_all := lw_g (lw_at lw_m5 189 rfl) rfl

/-! java/lang/RuntimeException -/
def RJ2 : String := "java/lang/RuntimeException"
abbrev cJ2_init : ByteArray := prog_28_method_5_code
def yJ2_init : MethodName := ⟨RJ2, "<init>", "(Ljava/lang/String;Ljava/lang/Throwable;ZZ)V"⟩
abbrev cJ2_init_2 : ByteArray := prog_28_method_1_code
def yJ2_init_2 : MethodName := ⟨RJ2, "<init>", "()V"⟩
abbrev cJ2_init_3 : ByteArray := prog_28_method_2_code
def yJ2_init_3 : MethodName := ⟨RJ2, "<init>", "(Ljava/lang/String;)V"⟩
theorem q106 : (Jvm.Cond.initialized "java/lang/RuntimeException") ∈ lw_all := lw_g (lw_at lw_m1 5 rfl) rfl
theorem q168 : (Jvm.Cond.declares ({ cls := "java/lang/RuntimeException", name := "<init>", desc := "()V" } : Jvm.MethodName)) ∈ lw_tbl := lw_at lw_m1 67 rfl
theorem q169 : (Jvm.Cond.declares ({ cls := "java/lang/RuntimeException", name := "<init>", desc := "(Ljava/lang/String;)V" } : Jvm.MethodName)) ∈ lw_tbl := lw_at lw_m1 68 rfl
theorem q214 : (Jvm.Cond.instanceMethod ({ cls := "java/lang/RuntimeException", name := "<init>", desc := "(Ljava/lang/String;Ljava/lang/Throwable;ZZ)V" } : Jvm.MethodName)) ∈ lw_all := lw_g (lw_at lw_m1 113 rfl) rfl
theorem q215 : (Jvm.Cond.code ({ cls := "java/lang/RuntimeException", name := "<init>", desc := "(Ljava/lang/String;Ljava/lang/Throwable;ZZ)V" } : Jvm.MethodName) prog_28_method_5_code (5 : Nat) (Option.none : Option Jvm.ClassFile.FieldType)) ∈ lw_all := lw_g (lw_at lw_m1 114 rfl) rfl
theorem q216 : (Jvm.Cond.methodLink "java/lang/RuntimeException" (16 : Nat) ({ cls := "java/lang/Exception", name := "<init>", desc := "(Ljava/lang/String;Ljava/lang/Throwable;ZZ)V" } : Jvm.MethodName)) ∈ lw_all := lw_g (lw_at lw_m1 115 rfl) rfl
theorem q1225 : (Jvm.Cond.instanceMethod ({ cls := "java/lang/RuntimeException", name := "<init>", desc := "()V" } : Jvm.MethodName)) ∈ lw_all := lw_g (lw_at lw_m5 164 rfl) rfl
theorem q1226 : (Jvm.Cond.code ({ cls := "java/lang/RuntimeException", name := "<init>", desc := "()V" } : Jvm.MethodName) prog_28_method_1_code (1 : Nat) (Option.none : Option Jvm.ClassFile.FieldType)) ∈ lw_all := lw_g (lw_at lw_m5 165 rfl) rfl
theorem q1227 : (Jvm.Cond.methodLink "java/lang/RuntimeException" (1 : Nat) ({ cls := "java/lang/Exception", name := "<init>", desc := "()V" } : Jvm.MethodName)) ∈ lw_all := lw_g (lw_at lw_m5 166 rfl) rfl
theorem q1245 : (Jvm.Cond.instanceMethod ({ cls := "java/lang/RuntimeException", name := "<init>", desc := "(Ljava/lang/String;)V" } : Jvm.MethodName)) ∈ lw_all := lw_g (lw_at lw_m5 184 rfl) rfl
theorem q1246 : (Jvm.Cond.code ({ cls := "java/lang/RuntimeException", name := "<init>", desc := "(Ljava/lang/String;)V" } : Jvm.MethodName) prog_28_method_2_code (2 : Nat) (Option.none : Option Jvm.ClassFile.FieldType)) ∈ lw_all := lw_g (lw_at lw_m5 185 rfl) rfl
theorem q1247 : (Jvm.Cond.methodLink "java/lang/RuntimeException" (7 : Nat) ({ cls := "java/lang/Exception", name := "<init>", desc := "(Ljava/lang/String;)V" } : Jvm.MethodName)) ∈ lw_all := lw_g (lw_at lw_m5 186 rfl) rfl

/-! java/lang/String -/
def RJ3 : String := "java/lang/String"
def TJ3 : u_T := fun k => match k with
  | 0 => ("java/lang/String", "value", "[B", true)
  | _ => ("java/lang/String", "coder", "B", true)
def tyJ3 : Nat → FieldType := fun k => match k with
  | 0 => .array .byte
  | _ => .byte
abbrev wsJ30 : List Cond := u_ws RJ3 TJ3 2
theorem nmJ3 : ∀ a, a < 2 → ∀ b, b < 2 → a ≠ b → (TJ3 a).2.1 ≠ (TJ3 b).2.1 := by decide +kernel
theorem tyJ3_ok : ∀ k, k < 2 → parseFieldDescriptor (TJ3 k).2.2.1 = some (tyJ3 k) := by decide +kernel
abbrev cJ3_length : ByteArray := prog_29_method_54_code
def yJ3_length : MethodName := ⟨RJ3, "length", "()I"⟩
abbrev cJ3_coder : ByteArray := prog_29_method_152_code
def yJ3_coder : MethodName := ⟨RJ3, "coder", "()B"⟩
abbrev cJ3_charAt : ByteArray := prog_29_method_56_code
def yJ3_charAt : MethodName := ⟨RJ3, "charAt", "(I)C"⟩
abbrev cJ3_isLatin1 : ByteArray := prog_29_method_154_code
def yJ3_isLatin1 : MethodName := ⟨RJ3, "isLatin1", "()Z"⟩
abbrev cJ3_checkIndex : ByteArray := prog_29_method_155_code
def yJ3_checkIndex : MethodName := ⟨RJ3, "checkIndex", "(II)V"⟩
theorem q111 : (Jvm.Cond.initialized "java/lang/String") ∈ lw_all := lw_g (lw_at lw_m1 10 rfl) rfl
theorem q966 : (Jvm.Cond.instanceMethod ({ cls := "java/lang/String", name := "length", desc := "()I" } : Jvm.MethodName)) ∈ lw_all := lw_g (lw_at lw_m4 145 rfl) rfl
theorem q967 : (Jvm.Cond.selects "java/lang/String" ({ cls := "java/lang/String", name := "length", desc := "()I" } : Jvm.MethodName) ({ cls := "java/lang/String", name := "length", desc := "()I" } : Jvm.MethodName)) ∈ lw_all := lw_g (lw_at lw_m4 146 rfl) rfl
theorem q968 : (Jvm.Cond.code ({ cls := "java/lang/String", name := "length", desc := "()I" } : Jvm.MethodName) prog_29_method_54_code (1 : Nat) (Option.some Jvm.ClassFile.FieldType.int)) ∈ lw_all := lw_g (lw_at lw_m4 147 rfl) rfl
theorem q969 : (Jvm.Cond.methodLink "java/lang/String" (335 : Nat) ({ cls := "java/lang/String", name := "coder", desc := "()B" } : Jvm.MethodName)) ∈ lw_all := lw_g (lw_at lw_m4 148 rfl) rfl
theorem q970 : (Jvm.Cond.instanceMethod ({ cls := "java/lang/String", name := "coder", desc := "()B" } : Jvm.MethodName)) ∈ lw_all := lw_g (lw_at lw_m4 149 rfl) rfl
theorem q971 : (Jvm.Cond.selects "java/lang/String" ({ cls := "java/lang/String", name := "coder", desc := "()B" } : Jvm.MethodName) ({ cls := "java/lang/String", name := "coder", desc := "()B" } : Jvm.MethodName)) ∈ lw_all := lw_g (lw_at lw_m4 150 rfl) rfl
theorem q972 : (Jvm.Cond.code ({ cls := "java/lang/String", name := "coder", desc := "()B" } : Jvm.MethodName) prog_29_method_152_code (1 : Nat) (Option.some Jvm.ClassFile.FieldType.byte)) ∈ lw_all := lw_g (lw_at lw_m4 151 rfl) rfl
theorem q973 : (Jvm.Cond.fieldLink "java/lang/String" (38 : Nat) "java/lang/String" "COMPACT_STRINGS" "Z") ∈ lw_all := lw_g (lw_at lw_m4 152 rfl) rfl
theorem q974 : (Jvm.Cond.laysStatic "java/lang/String" "COMPACT_STRINGS" "Z") ∈ lw_tbl := lw_at lw_m4 153 rfl
theorem q976 : (Jvm.Cond.instanceMethod ({ cls := "java/lang/String", name := "charAt", desc := "(I)C" } : Jvm.MethodName)) ∈ lw_all := lw_g (lw_at lw_m4 155 rfl) rfl
theorem q977 : (Jvm.Cond.selects "java/lang/String" ({ cls := "java/lang/String", name := "charAt", desc := "(I)C" } : Jvm.MethodName) ({ cls := "java/lang/String", name := "charAt", desc := "(I)C" } : Jvm.MethodName)) ∈ lw_all := lw_g (lw_at lw_m4 156 rfl) rfl
theorem q978 : (Jvm.Cond.code ({ cls := "java/lang/String", name := "charAt", desc := "(I)C" } : Jvm.MethodName) prog_29_method_56_code (2 : Nat) (Option.some Jvm.ClassFile.FieldType.char)) ∈ lw_all := lw_g (lw_at lw_m4 157 rfl) rfl
theorem q979 : (Jvm.Cond.methodLink "java/lang/String" (492 : Nat) ({ cls := "java/lang/String", name := "isLatin1", desc := "()Z" } : Jvm.MethodName)) ∈ lw_all := lw_g (lw_at lw_m4 158 rfl) rfl
theorem q980 : (Jvm.Cond.instanceMethod ({ cls := "java/lang/String", name := "isLatin1", desc := "()Z" } : Jvm.MethodName)) ∈ lw_all := lw_g (lw_at lw_m4 159 rfl) rfl
theorem q981 : (Jvm.Cond.selects "java/lang/String" ({ cls := "java/lang/String", name := "isLatin1", desc := "()Z" } : Jvm.MethodName) ({ cls := "java/lang/String", name := "isLatin1", desc := "()Z" } : Jvm.MethodName)) ∈ lw_all := lw_g (lw_at lw_m4 160 rfl) rfl
theorem q982 : (Jvm.Cond.code ({ cls := "java/lang/String", name := "isLatin1", desc := "()Z" } : Jvm.MethodName) prog_29_method_154_code (1 : Nat) (Option.some Jvm.ClassFile.FieldType.boolean)) ∈ lw_all := lw_g (lw_at lw_m4 161 rfl) rfl
theorem q983 : (Jvm.Cond.methodLink "java/lang/String" (495 : Nat) ({ cls := "java/lang/StringLatin1", name := "charAt", desc := "([BI)C" } : Jvm.MethodName)) ∈ lw_all := lw_g (lw_at lw_m4 162 rfl) rfl
theorem q987 : (Jvm.Cond.static ({ cls := "java/lang/String", name := "checkIndex", desc := "(II)V" } : Jvm.MethodName)) ∈ lw_all := lw_g (lw_at lw_m4 166 rfl) rfl
theorem q988 : (Jvm.Cond.code ({ cls := "java/lang/String", name := "checkIndex", desc := "(II)V" } : Jvm.MethodName) prog_29_method_155_code (2 : Nat) (Option.none : Option Jvm.ClassFile.FieldType)) ∈ lw_all := lw_g (lw_at lw_m4 167 rfl) rfl
theorem q989 : (Jvm.Cond.fieldLink "java/lang/String" (1053 : Nat) "jdk/internal/util/Preconditions" "SIOOBE_FORMATTER" "Ljava/util/function/BiFunction;") ∈ lw_all := lw_g (lw_at lw_m4 168 rfl) rfl
theorem q991 : (Jvm.Cond.methodLink "java/lang/String" (1059 : Nat) ({ cls := "jdk/internal/util/Preconditions", name := "checkIndex", desc := "(IILjava/util/function/BiFunction;)I" } : Jvm.MethodName)) ∈ lw_all := lw_g (lw_at lw_m4 170 rfl) rfl
theorem q994 : (Jvm.Cond.methodLink "java/lang/String" (498 : Nat) ({ cls := "java/lang/StringUTF16", name := "charAt", desc := "([BI)C" } : Jvm.MethodName)) ∈ lw_all := lw_g (lw_at lw_m4 173 rfl) rfl
theorem q1264 : (Jvm.Cond.instantiable "java/lang/String" (4 : Nat)) ∈ lw_all := lw_g (lw_at lw_m5 203 rfl) rfl
theorem q1265 : (Jvm.Cond.laysFinal "java/lang/String" "java/lang/String" "value" "[B") ∈ lw_all := lw_g (lw_at lw_m5 204 rfl) rfl
theorem q1266 : (Jvm.Cond.soleField "java/lang/String" "value") ∈ lw_all := lw_g (lw_at lw_m5 205 rfl) rfl
theorem q1267 : (Jvm.Cond.laysFinal "java/lang/String" "java/lang/String" "coder" "B") ∈ lw_all := lw_g (lw_at lw_m5 206 rfl) rfl
theorem q1268 : (Jvm.Cond.soleField "java/lang/String" "coder") ∈ lw_all := lw_g (lw_at lw_m5 207 rfl) rfl
theorem q2140 : (Jvm.Cond.castable "java/lang/String" "java/lang/Object") ∈ lw_tbl := lw_at lw_m9 119 rfl
theorem q2151 : (Jvm.Cond.fieldLink "java/lang/String" (9 : Nat) "java/lang/String" "value" "[B") ∈ lw_all := lw_g (lw_at lw_m9 130 rfl) rfl
theorem q2152 : (Jvm.Cond.fieldLink "java/lang/String" (15 : Nat) "java/lang/String" "coder" "B") ∈ lw_all := lw_g (lw_at lw_m9 131 rfl) rfl
theorem in_J3 : ∀ w ∈ wsJ30, w ∈ lw_all := lw_in wsJ30 [1265, 1267] (by decide +kernel) (by decide +kernel)

/-! java/lang/StringLatin1 -/
def RJ4 : String := "java/lang/StringLatin1"
abbrev cJ4_charAt : ByteArray := prog_30_method_2_code
def yJ4_charAt : MethodName := ⟨RJ4, "charAt", "([BI)C"⟩
theorem q112 : (Jvm.Cond.initialized "java/lang/StringLatin1") ∈ lw_all := lw_g (lw_at lw_m1 11 rfl) rfl
theorem q984 : (Jvm.Cond.static ({ cls := "java/lang/StringLatin1", name := "charAt", desc := "([BI)C" } : Jvm.MethodName)) ∈ lw_all := lw_g (lw_at lw_m4 163 rfl) rfl
theorem q985 : (Jvm.Cond.code ({ cls := "java/lang/StringLatin1", name := "charAt", desc := "([BI)C" } : Jvm.MethodName) prog_30_method_2_code (2 : Nat) (Option.some Jvm.ClassFile.FieldType.char)) ∈ lw_all := lw_g (lw_at lw_m4 164 rfl) rfl
theorem q986 : (Jvm.Cond.methodLink "java/lang/StringLatin1" (9 : Nat) ({ cls := "java/lang/String", name := "checkIndex", desc := "(II)V" } : Jvm.MethodName)) ∈ lw_all := lw_g (lw_at lw_m4 165 rfl) rfl

/-! jdk/internal/util/Preconditions -/
def RJ5 : String := "jdk/internal/util/Preconditions"
abbrev cJ5_checkIndex : ByteArray := prog_36_method_11_code
def yJ5_checkIndex : MethodName := ⟨RJ5, "checkIndex", "(IILjava/util/function/BiFunction;)I"⟩
theorem q113 : (Jvm.Cond.initialized "jdk/internal/util/Preconditions") ∈ lw_all := lw_g (lw_at lw_m1 12 rfl) rfl
theorem q990 : (Jvm.Cond.laysStatic "jdk/internal/util/Preconditions" "SIOOBE_FORMATTER" "Ljava/util/function/BiFunction;") ∈ lw_tbl := lw_at lw_m4 169 rfl
theorem q992 : (Jvm.Cond.static ({ cls := "jdk/internal/util/Preconditions", name := "checkIndex", desc := "(IILjava/util/function/BiFunction;)I" } : Jvm.MethodName)) ∈ lw_all := lw_g (lw_at lw_m4 171 rfl) rfl
theorem q993 : (Jvm.Cond.code ({ cls := "jdk/internal/util/Preconditions", name := "checkIndex", desc := "(IILjava/util/function/BiFunction;)I" } : Jvm.MethodName) prog_36_method_11_code (3 : Nat) (Option.some Jvm.ClassFile.FieldType.int)) ∈ lw_all := lw_g (lw_at lw_m4 172 rfl) rfl

/-! java/lang/StringUTF16 -/
def RJ6 : String := "java/lang/StringUTF16"
abbrev cJ6_charAt : ByteArray := prog_31_method_83_code
def yJ6_charAt : MethodName := ⟨RJ6, "charAt", "([BI)C"⟩
abbrev cJ6_checkIndex : ByteArray := prog_31_method_91_code
def yJ6_checkIndex : MethodName := ⟨RJ6, "checkIndex", "(I[B)V"⟩
abbrev cJ6_length : ByteArray := prog_31_method_6_code
def yJ6_length : MethodName := ⟨RJ6, "length", "([B)I"⟩
abbrev cJ6_getChar : ByteArray := prog_31_method_5_code
def yJ6_getChar : MethodName := ⟨RJ6, "getChar", "([BI)C"⟩
theorem q114 : (Jvm.Cond.initialized "java/lang/StringUTF16") ∈ lw_all := lw_g (lw_at lw_m1 13 rfl) rfl
theorem q995 : (Jvm.Cond.static ({ cls := "java/lang/StringUTF16", name := "charAt", desc := "([BI)C" } : Jvm.MethodName)) ∈ lw_all := lw_g (lw_at lw_m4 174 rfl) rfl
theorem q996 : (Jvm.Cond.code ({ cls := "java/lang/StringUTF16", name := "charAt", desc := "([BI)C" } : Jvm.MethodName) prog_31_method_83_code (2 : Nat) (Option.some Jvm.ClassFile.FieldType.char)) ∈ lw_all := lw_g (lw_at lw_m4 175 rfl) rfl
theorem q997 : (Jvm.Cond.methodLink "java/lang/StringUTF16" (67 : Nat) ({ cls := "java/lang/StringUTF16", name := "checkIndex", desc := "(I[B)V" } : Jvm.MethodName)) ∈ lw_all := lw_g (lw_at lw_m4 176 rfl) rfl
theorem q998 : (Jvm.Cond.static ({ cls := "java/lang/StringUTF16", name := "checkIndex", desc := "(I[B)V" } : Jvm.MethodName)) ∈ lw_all := lw_g (lw_at lw_m4 177 rfl) rfl
theorem q999 : (Jvm.Cond.code ({ cls := "java/lang/StringUTF16", name := "checkIndex", desc := "(I[B)V" } : Jvm.MethodName) prog_31_method_91_code (2 : Nat) (Option.none : Option Jvm.ClassFile.FieldType)) ∈ lw_all := lw_g (lw_at lw_m4 178 rfl) rfl
theorem q1000 : (Jvm.Cond.methodLink "java/lang/StringUTF16" (48 : Nat) ({ cls := "java/lang/StringUTF16", name := "length", desc := "([B)I" } : Jvm.MethodName)) ∈ lw_all := lw_g (lw_at lw_m4 179 rfl) rfl
theorem q1001 : (Jvm.Cond.static ({ cls := "java/lang/StringUTF16", name := "length", desc := "([B)I" } : Jvm.MethodName)) ∈ lw_all := lw_g (lw_at lw_m4 180 rfl) rfl
theorem q1002 : (Jvm.Cond.code ({ cls := "java/lang/StringUTF16", name := "length", desc := "([B)I" } : Jvm.MethodName) prog_31_method_6_code (1 : Nat) (Option.some Jvm.ClassFile.FieldType.int)) ∈ lw_all := lw_g (lw_at lw_m4 181 rfl) rfl
theorem q1003 : (Jvm.Cond.methodLink "java/lang/StringUTF16" (414 : Nat) ({ cls := "java/lang/String", name := "checkIndex", desc := "(II)V" } : Jvm.MethodName)) ∈ lw_all := lw_g (lw_at lw_m4 182 rfl) rfl
theorem q1004 : (Jvm.Cond.methodLink "java/lang/StringUTF16" (71 : Nat) ({ cls := "java/lang/StringUTF16", name := "getChar", desc := "([BI)C" } : Jvm.MethodName)) ∈ lw_all := lw_g (lw_at lw_m4 183 rfl) rfl
theorem q1005 : (Jvm.Cond.static ({ cls := "java/lang/StringUTF16", name := "getChar", desc := "([BI)C" } : Jvm.MethodName)) ∈ lw_all := lw_g (lw_at lw_m4 184 rfl) rfl
theorem q1006 : (Jvm.Cond.code ({ cls := "java/lang/StringUTF16", name := "getChar", desc := "([BI)C" } : Jvm.MethodName) prog_31_method_5_code (2 : Nat) (Option.some Jvm.ClassFile.FieldType.char)) ∈ lw_all := lw_g (lw_at lw_m4 185 rfl) rfl
theorem q1007 : (Jvm.Cond.fieldLink "java/lang/StringUTF16" (44 : Nat) "java/lang/StringUTF16" "$assertionsDisabled" "Z") ∈ lw_all := lw_g (lw_at lw_m4 186 rfl) rfl
theorem q1008 : (Jvm.Cond.laysStatic "java/lang/StringUTF16" "$assertionsDisabled" "Z") ∈ lw_tbl := lw_at lw_m4 187 rfl
theorem q1009 : (Jvm.Cond.fieldLink "java/lang/StringUTF16" (59 : Nat) "java/lang/StringUTF16" "HI_BYTE_SHIFT" "I") ∈ lw_all := lw_g (lw_at lw_m4 188 rfl) rfl
theorem q1010 : (Jvm.Cond.laysStatic "java/lang/StringUTF16" "HI_BYTE_SHIFT" "I") ∈ lw_tbl := lw_at lw_m4 189 rfl
theorem q1011 : (Jvm.Cond.fieldLink "java/lang/StringUTF16" (63 : Nat) "java/lang/StringUTF16" "LO_BYTE_SHIFT" "I") ∈ lw_all := lw_g (lw_at lw_m4 190 rfl) rfl
theorem q1012 : (Jvm.Cond.laysStatic "java/lang/StringUTF16" "LO_BYTE_SHIFT" "I") ∈ lw_tbl := lw_at lw_m4 191 rfl

/-! java/lang/IllegalArgumentException -/
def RJ7 : String := "java/lang/IllegalArgumentException"
def TJ7 : u_T := fun k => match k with
  | 0 => ("java/lang/Throwable", "cause", "Ljava/lang/Throwable;", false)
  | 1 => ("java/lang/Throwable", "stackTrace", "[Ljava/lang/StackTraceElement;", false)
  | 2 => ("java/lang/Throwable", "suppressedExceptions", "Ljava/util/List;", false)
  | 3 => ("java/lang/Throwable", "detailMessage", "Ljava/lang/String;", false)
  | 4 => ("java/lang/Throwable", "backtrace", "Ljava/lang/Object;", false)
  | _ => ("java/lang/Throwable", "depth", "I", false)
def tyJ7 : Nat → FieldType := fun k => match k with
  | 0 => .object "java/lang/Throwable"
  | 1 => .array (.object "java/lang/StackTraceElement")
  | 2 => .object "java/util/List"
  | 3 => .object "java/lang/String"
  | 4 => .object "java/lang/Object"
  | _ => .int
abbrev wsJ70 : List Cond := u_ws RJ7 TJ7 6
theorem nmJ7 : ∀ a, a < 6 → ∀ b, b < 6 → a ≠ b → (TJ7 a).2.1 ≠ (TJ7 b).2.1 := by decide +kernel
theorem tyJ7_ok : ∀ k, k < 6 → parseFieldDescriptor (TJ7 k).2.2.1 = some (tyJ7 k) := by decide +kernel
abbrev cJ7_init : ByteArray := prog_23_method_1_code
def yJ7_init : MethodName := ⟨RJ7, "<init>", "()V"⟩
theorem q127 : (Jvm.Cond.initialized "java/lang/IllegalArgumentException") ∈ lw_all := lw_g (lw_at lw_m1 26 rfl) rfl
theorem q200 : (Jvm.Cond.selects "java/lang/IllegalArgumentException" ({ cls := "java/lang/Throwable", name := "fillInStackTrace", desc := "()Ljava/lang/Throwable;" } : Jvm.MethodName) ({ cls := "java/lang/Throwable", name := "fillInStackTrace", desc := "()Ljava/lang/Throwable;" } : Jvm.MethodName)) ∈ lw_all := lw_g (lw_at lw_m1 99 rfl) rfl
theorem q1213 : (Jvm.Cond.instantiable "java/lang/IllegalArgumentException" (6 : Nat)) ∈ lw_all := lw_g (lw_at lw_m5 152 rfl) rfl
theorem q1214 : (Jvm.Cond.castable "java/lang/IllegalArgumentException" "java/lang/IllegalArgumentException") ∈ lw_tbl := lw_at lw_m5 153 rfl
theorem q1215 : (Jvm.Cond.selects "java/lang/IllegalArgumentException" ({ cls := "java/lang/Throwable", name := "fillInStackTrace", desc := "(I)Ljava/lang/Throwable;" } : Jvm.MethodName) ({ cls := "java/lang/Throwable", name := "fillInStackTrace", desc := "(I)Ljava/lang/Throwable;" } : Jvm.MethodName)) ∈ lw_all := lw_g (lw_at lw_m5 154 rfl) rfl
theorem q1216 : (Jvm.Cond.lays "java/lang/IllegalArgumentException" "java/lang/Throwable" "cause" "Ljava/lang/Throwable;") ∈ lw_all := lw_g (lw_at lw_m5 155 rfl) rfl
theorem q1217 : (Jvm.Cond.lays "java/lang/IllegalArgumentException" "java/lang/Throwable" "stackTrace" "[Ljava/lang/StackTraceElement;") ∈ lw_all := lw_g (lw_at lw_m5 156 rfl) rfl
theorem q1218 : (Jvm.Cond.lays "java/lang/IllegalArgumentException" "java/lang/Throwable" "suppressedExceptions" "Ljava/util/List;") ∈ lw_all := lw_g (lw_at lw_m5 157 rfl) rfl
theorem q1219 : (Jvm.Cond.lays "java/lang/IllegalArgumentException" "java/lang/Throwable" "detailMessage" "Ljava/lang/String;") ∈ lw_all := lw_g (lw_at lw_m5 158 rfl) rfl
theorem q1220 : (Jvm.Cond.lays "java/lang/IllegalArgumentException" "java/lang/Throwable" "backtrace" "Ljava/lang/Object;") ∈ lw_all := lw_g (lw_at lw_m5 159 rfl) rfl
theorem q1222 : (Jvm.Cond.instanceMethod ({ cls := "java/lang/IllegalArgumentException", name := "<init>", desc := "()V" } : Jvm.MethodName)) ∈ lw_all := lw_g (lw_at lw_m5 161 rfl) rfl
theorem q1223 : (Jvm.Cond.code ({ cls := "java/lang/IllegalArgumentException", name := "<init>", desc := "()V" } : Jvm.MethodName) prog_23_method_1_code (1 : Nat) (Option.none : Option Jvm.ClassFile.FieldType)) ∈ lw_all := lw_g (lw_at lw_m5 162 rfl) rfl
theorem q1224 : (Jvm.Cond.methodLink "java/lang/IllegalArgumentException" (1 : Nat) ({ cls := "java/lang/RuntimeException", name := "<init>", desc := "()V" } : Jvm.MethodName)) ∈ lw_all := lw_g (lw_at lw_m5 163 rfl) rfl
theorem q1231 : (Jvm.Cond.lays "java/lang/IllegalArgumentException" "java/lang/Throwable" "depth" "I") ∈ lw_all := lw_g (lw_at lw_m5 170 rfl) rfl
theorem q1232 : (Jvm.Cond.superclass "java/lang/IllegalArgumentException" "java/lang/RuntimeException") ∈ lw_all := lw_g (lw_at lw_m5 171 rfl) rfl
theorem q2133 : (Jvm.Cond.castable "java/lang/IllegalArgumentException" "java/lang/Object") ∈ lw_tbl := lw_at lw_m9 112 rfl
theorem in_J7 : ∀ w ∈ wsJ70, w ∈ lw_all := lw_in wsJ70 [1216, 1217, 1218, 1219, 1220, 1231] (by decide +kernel) (by decide +kernel)

/-! java/lang/IndexOutOfBoundsException -/
def RJ8 : String := "java/lang/IndexOutOfBoundsException"
def TJ8 : u_T := fun k => match k with
  | 0 => ("java/lang/Throwable", "cause", "Ljava/lang/Throwable;", false)
  | 1 => ("java/lang/Throwable", "stackTrace", "[Ljava/lang/StackTraceElement;", false)
  | 2 => ("java/lang/Throwable", "suppressedExceptions", "Ljava/util/List;", false)
  | 3 => ("java/lang/Throwable", "detailMessage", "Ljava/lang/String;", false)
  | 4 => ("java/lang/Throwable", "backtrace", "Ljava/lang/Object;", false)
  | _ => ("java/lang/Throwable", "depth", "I", false)
def tyJ8 : Nat → FieldType := fun k => match k with
  | 0 => .object "java/lang/Throwable"
  | 1 => .array (.object "java/lang/StackTraceElement")
  | 2 => .object "java/util/List"
  | 3 => .object "java/lang/String"
  | 4 => .object "java/lang/Object"
  | _ => .int
abbrev wsJ80 : List Cond := u_ws RJ8 TJ8 6
theorem nmJ8 : ∀ a, a < 6 → ∀ b, b < 6 → a ≠ b → (TJ8 a).2.1 ≠ (TJ8 b).2.1 := by decide +kernel
theorem tyJ8_ok : ∀ k, k < 6 → parseFieldDescriptor (TJ8 k).2.2.1 = some (tyJ8 k) := by decide +kernel
abbrev cJ8_init : ByteArray := prog_24_method_2_code
def yJ8_init : MethodName := ⟨RJ8, "<init>", "(Ljava/lang/String;)V"⟩
abbrev cJ8_init_2 : ByteArray := prog_24_method_1_code
def yJ8_init_2 : MethodName := ⟨RJ8, "<init>", "()V"⟩
theorem q128 : (Jvm.Cond.initialized "java/lang/IndexOutOfBoundsException") ∈ lw_all := lw_g (lw_at lw_m1 27 rfl) rfl
theorem q201 : (Jvm.Cond.selects "java/lang/IndexOutOfBoundsException" ({ cls := "java/lang/Throwable", name := "fillInStackTrace", desc := "()Ljava/lang/Throwable;" } : Jvm.MethodName) ({ cls := "java/lang/Throwable", name := "fillInStackTrace", desc := "()Ljava/lang/Throwable;" } : Jvm.MethodName)) ∈ lw_all := lw_g (lw_at lw_m1 100 rfl) rfl
theorem q1242 : (Jvm.Cond.instanceMethod ({ cls := "java/lang/IndexOutOfBoundsException", name := "<init>", desc := "(Ljava/lang/String;)V" } : Jvm.MethodName)) ∈ lw_all := lw_g (lw_at lw_m5 181 rfl) rfl
theorem q1243 : (Jvm.Cond.code ({ cls := "java/lang/IndexOutOfBoundsException", name := "<init>", desc := "(Ljava/lang/String;)V" } : Jvm.MethodName) prog_24_method_2_code (2 : Nat) (Option.none : Option Jvm.ClassFile.FieldType)) ∈ lw_all := lw_g (lw_at lw_m5 182 rfl) rfl
theorem q1244 : (Jvm.Cond.methodLink "java/lang/IndexOutOfBoundsException" (7 : Nat) ({ cls := "java/lang/RuntimeException", name := "<init>", desc := "(Ljava/lang/String;)V" } : Jvm.MethodName)) ∈ lw_all := lw_g (lw_at lw_m5 183 rfl) rfl
theorem q1261 : (Jvm.Cond.declares ({ cls := "java/lang/IndexOutOfBoundsException", name := "<init>", desc := "()V" } : Jvm.MethodName)) ∈ lw_tbl := lw_at lw_m5 200 rfl
theorem q1262 : (Jvm.Cond.declares ({ cls := "java/lang/IndexOutOfBoundsException", name := "<init>", desc := "(Ljava/lang/String;)V" } : Jvm.MethodName)) ∈ lw_tbl := lw_at lw_m5 201 rfl
theorem q1282 : (Jvm.Cond.instantiable "java/lang/IndexOutOfBoundsException" (6 : Nat)) ∈ lw_all := lw_g (lw_at lw_m5 221 rfl) rfl
theorem q1283 : (Jvm.Cond.castable "java/lang/IndexOutOfBoundsException" "java/lang/IndexOutOfBoundsException") ∈ lw_tbl := lw_at lw_m5 222 rfl
theorem q1284 : (Jvm.Cond.selects "java/lang/IndexOutOfBoundsException" ({ cls := "java/lang/Throwable", name := "fillInStackTrace", desc := "(I)Ljava/lang/Throwable;" } : Jvm.MethodName) ({ cls := "java/lang/Throwable", name := "fillInStackTrace", desc := "(I)Ljava/lang/Throwable;" } : Jvm.MethodName)) ∈ lw_all := lw_g (lw_at lw_m5 223 rfl) rfl
theorem q1285 : (Jvm.Cond.lays "java/lang/IndexOutOfBoundsException" "java/lang/Throwable" "cause" "Ljava/lang/Throwable;") ∈ lw_all := lw_g (lw_at lw_m5 224 rfl) rfl
theorem q1286 : (Jvm.Cond.lays "java/lang/IndexOutOfBoundsException" "java/lang/Throwable" "stackTrace" "[Ljava/lang/StackTraceElement;") ∈ lw_all := lw_g (lw_at lw_m5 225 rfl) rfl
theorem q1287 : (Jvm.Cond.lays "java/lang/IndexOutOfBoundsException" "java/lang/Throwable" "suppressedExceptions" "Ljava/util/List;") ∈ lw_all := lw_g (lw_at lw_m5 226 rfl) rfl
theorem q1288 : (Jvm.Cond.lays "java/lang/IndexOutOfBoundsException" "java/lang/Throwable" "detailMessage" "Ljava/lang/String;") ∈ lw_all := lw_g (lw_at lw_m5 227 rfl) rfl
theorem q1289 : (Jvm.Cond.lays "java/lang/IndexOutOfBoundsException" "java/lang/Throwable" "backtrace" "Ljava/lang/Object;") ∈ lw_all := lw_g (lw_at lw_m5 228 rfl) rfl
theorem q1291 : (Jvm.Cond.instanceMethod ({ cls := "java/lang/IndexOutOfBoundsException", name := "<init>", desc := "()V" } : Jvm.MethodName)) ∈ lw_all := lw_g (lw_at lw_m5 230 rfl) rfl
theorem q1292 : (Jvm.Cond.code ({ cls := "java/lang/IndexOutOfBoundsException", name := "<init>", desc := "()V" } : Jvm.MethodName) prog_24_method_1_code (1 : Nat) (Option.none : Option Jvm.ClassFile.FieldType)) ∈ lw_all := lw_g (lw_at lw_m5 231 rfl) rfl
theorem q1293 : (Jvm.Cond.methodLink "java/lang/IndexOutOfBoundsException" (1 : Nat) ({ cls := "java/lang/RuntimeException", name := "<init>", desc := "()V" } : Jvm.MethodName)) ∈ lw_all := lw_g (lw_at lw_m5 232 rfl) rfl
theorem q1294 : (Jvm.Cond.lays "java/lang/IndexOutOfBoundsException" "java/lang/Throwable" "depth" "I") ∈ lw_all := lw_g (lw_at lw_m5 233 rfl) rfl
theorem q1295 : (Jvm.Cond.superclass "java/lang/IndexOutOfBoundsException" "java/lang/RuntimeException") ∈ lw_all := lw_g (lw_at lw_m5 234 rfl) rfl
theorem q2135 : (Jvm.Cond.castable "java/lang/IndexOutOfBoundsException" "java/lang/Object") ∈ lw_tbl := lw_at lw_m9 114 rfl
theorem in_J8 : ∀ w ∈ wsJ80, w ∈ lw_all := lw_in wsJ80 [1285, 1286, 1287, 1288, 1289, 1294] (by decide +kernel) (by decide +kernel)

/-! java/lang/ArrayIndexOutOfBoundsException -/
def RJ9 : String := "java/lang/ArrayIndexOutOfBoundsException"
def TJ9 : u_T := fun k => match k with
  | 0 => ("java/lang/Throwable", "backtrace", "Ljava/lang/Object;", false)
  | 1 => ("java/lang/Throwable", "detailMessage", "Ljava/lang/String;", false)
  | 2 => ("java/lang/Throwable", "cause", "Ljava/lang/Throwable;", false)
  | 3 => ("java/lang/Throwable", "stackTrace", "[Ljava/lang/StackTraceElement;", false)
  | 4 => ("java/lang/Throwable", "depth", "I", false)
  | _ => ("java/lang/Throwable", "suppressedExceptions", "Ljava/util/List;", false)
def tyJ9 : Nat → FieldType := fun k => match k with
  | 0 => .object "java/lang/Object"
  | 1 => .object "java/lang/String"
  | 2 => .object "java/lang/Throwable"
  | 3 => .array (.object "java/lang/StackTraceElement")
  | 4 => .int
  | _ => .object "java/util/List"
abbrev wsJ90 : List Cond := u_ws RJ9 TJ9 6
theorem nmJ9 : ∀ a, a < 6 → ∀ b, b < 6 → a ≠ b → (TJ9 a).2.1 ≠ (TJ9 b).2.1 := by decide +kernel
theorem tyJ9_ok : ∀ k, k < 6 → parseFieldDescriptor (TJ9 k).2.2.1 = some (tyJ9 k) := by decide +kernel
abbrev cJ9_init : ByteArray := prog_20_method_2_code
def yJ9_init : MethodName := ⟨RJ9, "<init>", "(Ljava/lang/String;)V"⟩
theorem q129 : (Jvm.Cond.initialized "java/lang/ArrayIndexOutOfBoundsException") ∈ lw_all := lw_g (lw_at lw_m1 28 rfl) rfl
theorem q198 : (Jvm.Cond.selects "java/lang/ArrayIndexOutOfBoundsException" ({ cls := "java/lang/Throwable", name := "fillInStackTrace", desc := "()Ljava/lang/Throwable;" } : Jvm.MethodName) ({ cls := "java/lang/Throwable", name := "fillInStackTrace", desc := "()Ljava/lang/Throwable;" } : Jvm.MethodName)) ∈ lw_all := lw_g (lw_at lw_m1 97 rfl) rfl
theorem q1238 : (Jvm.Cond.instantiable "java/lang/ArrayIndexOutOfBoundsException" (6 : Nat)) ∈ lw_all := lw_g (lw_at lw_m5 177 rfl) rfl
theorem q1239 : (Jvm.Cond.instanceMethod ({ cls := "java/lang/ArrayIndexOutOfBoundsException", name := "<init>", desc := "(Ljava/lang/String;)V" } : Jvm.MethodName)) ∈ lw_all := lw_g (lw_at lw_m5 178 rfl) rfl
theorem q1240 : (Jvm.Cond.code ({ cls := "java/lang/ArrayIndexOutOfBoundsException", name := "<init>", desc := "(Ljava/lang/String;)V" } : Jvm.MethodName) prog_20_method_2_code (2 : Nat) (Option.none : Option Jvm.ClassFile.FieldType)) ∈ lw_all := lw_g (lw_at lw_m5 179 rfl) rfl
theorem q1241 : (Jvm.Cond.methodLink "java/lang/ArrayIndexOutOfBoundsException" (7 : Nat) ({ cls := "java/lang/IndexOutOfBoundsException", name := "<init>", desc := "(Ljava/lang/String;)V" } : Jvm.MethodName)) ∈ lw_all := lw_g (lw_at lw_m5 180 rfl) rfl
theorem q1253 : (Jvm.Cond.lays "java/lang/ArrayIndexOutOfBoundsException" "java/lang/Throwable" "backtrace" "Ljava/lang/Object;") ∈ lw_all := lw_g (lw_at lw_m5 192 rfl) rfl
theorem q1254 : (Jvm.Cond.lays "java/lang/ArrayIndexOutOfBoundsException" "java/lang/Throwable" "detailMessage" "Ljava/lang/String;") ∈ lw_all := lw_g (lw_at lw_m5 193 rfl) rfl
theorem q1255 : (Jvm.Cond.lays "java/lang/ArrayIndexOutOfBoundsException" "java/lang/Throwable" "cause" "Ljava/lang/Throwable;") ∈ lw_all := lw_g (lw_at lw_m5 194 rfl) rfl
theorem q1256 : (Jvm.Cond.lays "java/lang/ArrayIndexOutOfBoundsException" "java/lang/Throwable" "stackTrace" "[Ljava/lang/StackTraceElement;") ∈ lw_all := lw_g (lw_at lw_m5 195 rfl) rfl
theorem q1257 : (Jvm.Cond.lays "java/lang/ArrayIndexOutOfBoundsException" "java/lang/Throwable" "depth" "I") ∈ lw_all := lw_g (lw_at lw_m5 196 rfl) rfl
theorem q1258 : (Jvm.Cond.lays "java/lang/ArrayIndexOutOfBoundsException" "java/lang/Throwable" "suppressedExceptions" "Ljava/util/List;") ∈ lw_all := lw_g (lw_at lw_m5 197 rfl) rfl
theorem q1259 : (Jvm.Cond.superclass "java/lang/ArrayIndexOutOfBoundsException" "java/lang/IndexOutOfBoundsException") ∈ lw_all := lw_g (lw_at lw_m5 198 rfl) rfl
theorem q1260 : (Jvm.Cond.castable "java/lang/ArrayIndexOutOfBoundsException" "java/lang/ArrayIndexOutOfBoundsException") ∈ lw_tbl := lw_at lw_m5 199 rfl
theorem q1263 : (Jvm.Cond.selects "java/lang/ArrayIndexOutOfBoundsException" ({ cls := "java/lang/Throwable", name := "fillInStackTrace", desc := "(I)Ljava/lang/Throwable;" } : Jvm.MethodName) ({ cls := "java/lang/Throwable", name := "fillInStackTrace", desc := "(I)Ljava/lang/Throwable;" } : Jvm.MethodName)) ∈ lw_all := lw_g (lw_at lw_m5 202 rfl) rfl
theorem q2115 : (Jvm.Cond.castable "java/lang/ArrayIndexOutOfBoundsException" "java/lang/IndexOutOfBoundsException") ∈ lw_tbl := lw_at lw_m9 94 rfl
theorem q2134 : (Jvm.Cond.castable "java/lang/ArrayIndexOutOfBoundsException" "java/lang/Object") ∈ lw_tbl := lw_at lw_m9 113 rfl
theorem in_J9 : ∀ w ∈ wsJ90, w ∈ lw_all := lw_in wsJ90 [1253, 1254, 1255, 1256, 1257, 1258] (by decide +kernel) (by decide +kernel)

/-! java/util/NoSuchElementException -/
def RJ10 : String := "java/util/NoSuchElementException"
def TJ10 : u_T := fun k => match k with
  | 0 => ("java/lang/Throwable", "cause", "Ljava/lang/Throwable;", false)
  | 1 => ("java/lang/Throwable", "stackTrace", "[Ljava/lang/StackTraceElement;", false)
  | 2 => ("java/lang/Throwable", "suppressedExceptions", "Ljava/util/List;", false)
  | 3 => ("java/lang/Throwable", "detailMessage", "Ljava/lang/String;", false)
  | 4 => ("java/lang/Throwable", "backtrace", "Ljava/lang/Object;", false)
  | _ => ("java/lang/Throwable", "depth", "I", false)
def tyJ10 : Nat → FieldType := fun k => match k with
  | 0 => .object "java/lang/Throwable"
  | 1 => .array (.object "java/lang/StackTraceElement")
  | 2 => .object "java/util/List"
  | 3 => .object "java/lang/String"
  | 4 => .object "java/lang/Object"
  | _ => .int
abbrev wsJ100 : List Cond := u_ws RJ10 TJ10 6
theorem nmJ10 : ∀ a, a < 6 → ∀ b, b < 6 → a ≠ b → (TJ10 a).2.1 ≠ (TJ10 b).2.1 := by decide +kernel
theorem tyJ10_ok : ∀ k, k < 6 → parseFieldDescriptor (TJ10 k).2.2.1 = some (tyJ10 k) := by decide +kernel
abbrev cJ10_init : ByteArray := prog_35_method_1_code
def yJ10_init : MethodName := ⟨RJ10, "<init>", "()V"⟩
theorem q130 : (Jvm.Cond.initialized "java/util/NoSuchElementException") ∈ lw_all := lw_g (lw_at lw_m1 29 rfl) rfl
theorem q203 : (Jvm.Cond.selects "java/util/NoSuchElementException" ({ cls := "java/lang/Throwable", name := "fillInStackTrace", desc := "()Ljava/lang/Throwable;" } : Jvm.MethodName) ({ cls := "java/lang/Throwable", name := "fillInStackTrace", desc := "()Ljava/lang/Throwable;" } : Jvm.MethodName)) ∈ lw_all := lw_g (lw_at lw_m1 102 rfl) rfl
theorem q1299 : (Jvm.Cond.instantiable "java/util/NoSuchElementException" (6 : Nat)) ∈ lw_all := lw_g (lw_at lw_m5 238 rfl) rfl
theorem q1300 : (Jvm.Cond.castable "java/util/NoSuchElementException" "java/util/NoSuchElementException") ∈ lw_tbl := lw_at lw_m5 239 rfl
theorem q1301 : (Jvm.Cond.selects "java/util/NoSuchElementException" ({ cls := "java/lang/Throwable", name := "fillInStackTrace", desc := "(I)Ljava/lang/Throwable;" } : Jvm.MethodName) ({ cls := "java/lang/Throwable", name := "fillInStackTrace", desc := "(I)Ljava/lang/Throwable;" } : Jvm.MethodName)) ∈ lw_all := lw_g (lw_at lw_m6 0 rfl) rfl
theorem q1302 : (Jvm.Cond.lays "java/util/NoSuchElementException" "java/lang/Throwable" "cause" "Ljava/lang/Throwable;") ∈ lw_all := lw_g (lw_at lw_m6 1 rfl) rfl
theorem q1303 : (Jvm.Cond.lays "java/util/NoSuchElementException" "java/lang/Throwable" "stackTrace" "[Ljava/lang/StackTraceElement;") ∈ lw_all := lw_g (lw_at lw_m6 2 rfl) rfl
theorem q1304 : (Jvm.Cond.lays "java/util/NoSuchElementException" "java/lang/Throwable" "suppressedExceptions" "Ljava/util/List;") ∈ lw_all := lw_g (lw_at lw_m6 3 rfl) rfl
theorem q1305 : (Jvm.Cond.lays "java/util/NoSuchElementException" "java/lang/Throwable" "detailMessage" "Ljava/lang/String;") ∈ lw_all := lw_g (lw_at lw_m6 4 rfl) rfl
theorem q1306 : (Jvm.Cond.lays "java/util/NoSuchElementException" "java/lang/Throwable" "backtrace" "Ljava/lang/Object;") ∈ lw_all := lw_g (lw_at lw_m6 5 rfl) rfl
theorem q1308 : (Jvm.Cond.instanceMethod ({ cls := "java/util/NoSuchElementException", name := "<init>", desc := "()V" } : Jvm.MethodName)) ∈ lw_all := lw_g (lw_at lw_m6 7 rfl) rfl
theorem q1309 : (Jvm.Cond.code ({ cls := "java/util/NoSuchElementException", name := "<init>", desc := "()V" } : Jvm.MethodName) prog_35_method_1_code (1 : Nat) (Option.none : Option Jvm.ClassFile.FieldType)) ∈ lw_all := lw_g (lw_at lw_m6 8 rfl) rfl
theorem q1310 : (Jvm.Cond.methodLink "java/util/NoSuchElementException" (1 : Nat) ({ cls := "java/lang/RuntimeException", name := "<init>", desc := "()V" } : Jvm.MethodName)) ∈ lw_all := lw_g (lw_at lw_m6 9 rfl) rfl
theorem q1311 : (Jvm.Cond.lays "java/util/NoSuchElementException" "java/lang/Throwable" "depth" "I") ∈ lw_all := lw_g (lw_at lw_m6 10 rfl) rfl
theorem q1312 : (Jvm.Cond.superclass "java/util/NoSuchElementException" "java/lang/RuntimeException") ∈ lw_all := lw_g (lw_at lw_m6 11 rfl) rfl
theorem q2136 : (Jvm.Cond.castable "java/util/NoSuchElementException" "java/lang/Object") ∈ lw_tbl := lw_at lw_m9 115 rfl
theorem in_J10 : ∀ w ∈ wsJ100, w ∈ lw_all := lw_in wsJ100 [1302, 1303, 1304, 1305, 1306, 1311] (by decide +kernel) (by decide +kernel)

/-! java/lang/ClassCastException -/
def RJ11 : String := "java/lang/ClassCastException"
def TJ11 : u_T := fun k => match k with
  | 0 => ("java/lang/Throwable", "backtrace", "Ljava/lang/Object;", false)
  | 1 => ("java/lang/Throwable", "detailMessage", "Ljava/lang/String;", false)
  | 2 => ("java/lang/Throwable", "cause", "Ljava/lang/Throwable;", false)
  | 3 => ("java/lang/Throwable", "stackTrace", "[Ljava/lang/StackTraceElement;", false)
  | 4 => ("java/lang/Throwable", "depth", "I", false)
  | _ => ("java/lang/Throwable", "suppressedExceptions", "Ljava/util/List;", false)
def tyJ11 : Nat → FieldType := fun k => match k with
  | 0 => .object "java/lang/Object"
  | 1 => .object "java/lang/String"
  | 2 => .object "java/lang/Throwable"
  | 3 => .array (.object "java/lang/StackTraceElement")
  | 4 => .int
  | _ => .object "java/util/List"
abbrev wsJ110 : List Cond := u_ws RJ11 TJ11 6
theorem nmJ11 : ∀ a, a < 6 → ∀ b, b < 6 → a ≠ b → (TJ11 a).2.1 ≠ (TJ11 b).2.1 := by decide +kernel
theorem tyJ11_ok : ∀ k, k < 6 → parseFieldDescriptor (TJ11 k).2.2.1 = some (tyJ11 k) := by decide +kernel
abbrev cJ11_init : ByteArray := prog_21_method_2_code
def yJ11_init : MethodName := ⟨RJ11, "<init>", "(Ljava/lang/String;)V"⟩
abbrev cJ11_init_2 : ByteArray := prog_21_method_1_code
def yJ11_init_2 : MethodName := ⟨RJ11, "<init>", "()V"⟩
theorem q131 : (Jvm.Cond.initialized "java/lang/ClassCastException") ∈ lw_all := lw_g (lw_at lw_m1 30 rfl) rfl
theorem q199 : (Jvm.Cond.selects "java/lang/ClassCastException" ({ cls := "java/lang/Throwable", name := "fillInStackTrace", desc := "()Ljava/lang/Throwable;" } : Jvm.MethodName) ({ cls := "java/lang/Throwable", name := "fillInStackTrace", desc := "()Ljava/lang/Throwable;" } : Jvm.MethodName)) ∈ lw_all := lw_g (lw_at lw_m1 98 rfl) rfl
theorem q1317 : (Jvm.Cond.instantiable "java/lang/ClassCastException" (6 : Nat)) ∈ lw_all := lw_g (lw_at lw_m6 16 rfl) rfl
theorem q1318 : (Jvm.Cond.instanceMethod ({ cls := "java/lang/ClassCastException", name := "<init>", desc := "(Ljava/lang/String;)V" } : Jvm.MethodName)) ∈ lw_all := lw_g (lw_at lw_m6 17 rfl) rfl
theorem q1319 : (Jvm.Cond.code ({ cls := "java/lang/ClassCastException", name := "<init>", desc := "(Ljava/lang/String;)V" } : Jvm.MethodName) prog_21_method_2_code (2 : Nat) (Option.none : Option Jvm.ClassFile.FieldType)) ∈ lw_all := lw_g (lw_at lw_m6 18 rfl) rfl
theorem q1320 : (Jvm.Cond.methodLink "java/lang/ClassCastException" (7 : Nat) ({ cls := "java/lang/RuntimeException", name := "<init>", desc := "(Ljava/lang/String;)V" } : Jvm.MethodName)) ∈ lw_all := lw_g (lw_at lw_m6 19 rfl) rfl
theorem q1321 : (Jvm.Cond.lays "java/lang/ClassCastException" "java/lang/Throwable" "backtrace" "Ljava/lang/Object;") ∈ lw_all := lw_g (lw_at lw_m6 20 rfl) rfl
theorem q1322 : (Jvm.Cond.lays "java/lang/ClassCastException" "java/lang/Throwable" "detailMessage" "Ljava/lang/String;") ∈ lw_all := lw_g (lw_at lw_m6 21 rfl) rfl
theorem q1323 : (Jvm.Cond.lays "java/lang/ClassCastException" "java/lang/Throwable" "cause" "Ljava/lang/Throwable;") ∈ lw_all := lw_g (lw_at lw_m6 22 rfl) rfl
theorem q1324 : (Jvm.Cond.lays "java/lang/ClassCastException" "java/lang/Throwable" "stackTrace" "[Ljava/lang/StackTraceElement;") ∈ lw_all := lw_g (lw_at lw_m6 23 rfl) rfl
theorem q1325 : (Jvm.Cond.lays "java/lang/ClassCastException" "java/lang/Throwable" "depth" "I") ∈ lw_all := lw_g (lw_at lw_m6 24 rfl) rfl
theorem q1326 : (Jvm.Cond.lays "java/lang/ClassCastException" "java/lang/Throwable" "suppressedExceptions" "Ljava/util/List;") ∈ lw_all := lw_g (lw_at lw_m6 25 rfl) rfl
theorem q1327 : (Jvm.Cond.superclass "java/lang/ClassCastException" "java/lang/RuntimeException") ∈ lw_all := lw_g (lw_at lw_m6 26 rfl) rfl
theorem q1328 : (Jvm.Cond.castable "java/lang/ClassCastException" "java/lang/ClassCastException") ∈ lw_tbl := lw_at lw_m6 27 rfl
theorem q1329 : (Jvm.Cond.selects "java/lang/ClassCastException" ({ cls := "java/lang/Throwable", name := "fillInStackTrace", desc := "(I)Ljava/lang/Throwable;" } : Jvm.MethodName) ({ cls := "java/lang/Throwable", name := "fillInStackTrace", desc := "(I)Ljava/lang/Throwable;" } : Jvm.MethodName)) ∈ lw_all := lw_g (lw_at lw_m6 28 rfl) rfl
theorem q1340 : (Jvm.Cond.instanceMethod ({ cls := "java/lang/ClassCastException", name := "<init>", desc := "()V" } : Jvm.MethodName)) ∈ lw_all := lw_g (lw_at lw_m6 39 rfl) rfl
theorem q1341 : (Jvm.Cond.code ({ cls := "java/lang/ClassCastException", name := "<init>", desc := "()V" } : Jvm.MethodName) prog_21_method_1_code (1 : Nat) (Option.none : Option Jvm.ClassFile.FieldType)) ∈ lw_all := lw_g (lw_at lw_m6 40 rfl) rfl
theorem q1342 : (Jvm.Cond.methodLink "java/lang/ClassCastException" (1 : Nat) ({ cls := "java/lang/RuntimeException", name := "<init>", desc := "()V" } : Jvm.MethodName)) ∈ lw_all := lw_g (lw_at lw_m6 41 rfl) rfl
theorem q2137 : (Jvm.Cond.castable "java/lang/ClassCastException" "java/lang/Object") ∈ lw_tbl := lw_at lw_m9 116 rfl
theorem in_J11 : ∀ w ∈ wsJ110, w ∈ lw_all := lw_in wsJ110 [1321, 1322, 1323, 1324, 1325, 1326] (by decide +kernel) (by decide +kernel)

/-! java/lang/UnsupportedOperationException -/
def RJ12 : String := "java/lang/UnsupportedOperationException"
def TJ12 : u_T := fun k => match k with
  | 0 => ("java/lang/Throwable", "cause", "Ljava/lang/Throwable;", false)
  | 1 => ("java/lang/Throwable", "stackTrace", "[Ljava/lang/StackTraceElement;", false)
  | 2 => ("java/lang/Throwable", "suppressedExceptions", "Ljava/util/List;", false)
  | 3 => ("java/lang/Throwable", "detailMessage", "Ljava/lang/String;", false)
  | 4 => ("java/lang/Throwable", "backtrace", "Ljava/lang/Object;", false)
  | _ => ("java/lang/Throwable", "depth", "I", false)
def tyJ12 : Nat → FieldType := fun k => match k with
  | 0 => .object "java/lang/Throwable"
  | 1 => .array (.object "java/lang/StackTraceElement")
  | 2 => .object "java/util/List"
  | 3 => .object "java/lang/String"
  | 4 => .object "java/lang/Object"
  | _ => .int
abbrev wsJ120 : List Cond := u_ws RJ12 TJ12 6
theorem nmJ12 : ∀ a, a < 6 → ∀ b, b < 6 → a ≠ b → (TJ12 a).2.1 ≠ (TJ12 b).2.1 := by decide +kernel
theorem tyJ12_ok : ∀ k, k < 6 → parseFieldDescriptor (TJ12 k).2.2.1 = some (tyJ12 k) := by decide +kernel
abbrev cJ12_init : ByteArray := prog_34_method_1_code
def yJ12_init : MethodName := ⟨RJ12, "<init>", "()V"⟩
theorem q132 : (Jvm.Cond.initialized "java/lang/UnsupportedOperationException") ∈ lw_all := lw_g (lw_at lw_m1 31 rfl) rfl
theorem q202 : (Jvm.Cond.selects "java/lang/UnsupportedOperationException" ({ cls := "java/lang/Throwable", name := "fillInStackTrace", desc := "()Ljava/lang/Throwable;" } : Jvm.MethodName) ({ cls := "java/lang/Throwable", name := "fillInStackTrace", desc := "()Ljava/lang/Throwable;" } : Jvm.MethodName)) ∈ lw_all := lw_g (lw_at lw_m1 101 rfl) rfl
theorem q1396 : (Jvm.Cond.instantiable "java/lang/UnsupportedOperationException" (6 : Nat)) ∈ lw_all := lw_g (lw_at lw_m6 95 rfl) rfl
theorem q1397 : (Jvm.Cond.castable "java/lang/UnsupportedOperationException" "java/lang/UnsupportedOperationException") ∈ lw_tbl := lw_at lw_m6 96 rfl
theorem q1398 : (Jvm.Cond.selects "java/lang/UnsupportedOperationException" ({ cls := "java/lang/Throwable", name := "fillInStackTrace", desc := "(I)Ljava/lang/Throwable;" } : Jvm.MethodName) ({ cls := "java/lang/Throwable", name := "fillInStackTrace", desc := "(I)Ljava/lang/Throwable;" } : Jvm.MethodName)) ∈ lw_all := lw_g (lw_at lw_m6 97 rfl) rfl
theorem q1399 : (Jvm.Cond.lays "java/lang/UnsupportedOperationException" "java/lang/Throwable" "cause" "Ljava/lang/Throwable;") ∈ lw_all := lw_g (lw_at lw_m6 98 rfl) rfl
theorem q1400 : (Jvm.Cond.lays "java/lang/UnsupportedOperationException" "java/lang/Throwable" "stackTrace" "[Ljava/lang/StackTraceElement;") ∈ lw_all := lw_g (lw_at lw_m6 99 rfl) rfl
theorem q1401 : (Jvm.Cond.lays "java/lang/UnsupportedOperationException" "java/lang/Throwable" "suppressedExceptions" "Ljava/util/List;") ∈ lw_all := lw_g (lw_at lw_m6 100 rfl) rfl
theorem q1402 : (Jvm.Cond.lays "java/lang/UnsupportedOperationException" "java/lang/Throwable" "detailMessage" "Ljava/lang/String;") ∈ lw_all := lw_g (lw_at lw_m6 101 rfl) rfl
theorem q1403 : (Jvm.Cond.lays "java/lang/UnsupportedOperationException" "java/lang/Throwable" "backtrace" "Ljava/lang/Object;") ∈ lw_all := lw_g (lw_at lw_m6 102 rfl) rfl
theorem q1405 : (Jvm.Cond.instanceMethod ({ cls := "java/lang/UnsupportedOperationException", name := "<init>", desc := "()V" } : Jvm.MethodName)) ∈ lw_all := lw_g (lw_at lw_m6 104 rfl) rfl
theorem q1406 : (Jvm.Cond.code ({ cls := "java/lang/UnsupportedOperationException", name := "<init>", desc := "()V" } : Jvm.MethodName) prog_34_method_1_code (1 : Nat) (Option.none : Option Jvm.ClassFile.FieldType)) ∈ lw_all := lw_g (lw_at lw_m6 105 rfl) rfl
theorem q1407 : (Jvm.Cond.methodLink "java/lang/UnsupportedOperationException" (1 : Nat) ({ cls := "java/lang/RuntimeException", name := "<init>", desc := "()V" } : Jvm.MethodName)) ∈ lw_all := lw_g (lw_at lw_m6 106 rfl) rfl
theorem q1408 : (Jvm.Cond.lays "java/lang/UnsupportedOperationException" "java/lang/Throwable" "depth" "I") ∈ lw_all := lw_g (lw_at lw_m6 107 rfl) rfl
theorem q1409 : (Jvm.Cond.superclass "java/lang/UnsupportedOperationException" "java/lang/RuntimeException") ∈ lw_all := lw_g (lw_at lw_m6 108 rfl) rfl
theorem q2138 : (Jvm.Cond.castable "java/lang/UnsupportedOperationException" "java/lang/Object") ∈ lw_tbl := lw_at lw_m9 117 rfl
theorem in_J12 : ∀ w ∈ wsJ120, w ∈ lw_all := lw_in wsJ120 [1399, 1400, 1401, 1402, 1403, 1408] (by decide +kernel) (by decide +kernel)

/-! java/lang/Math -/
def RJ13 : String := "java/lang/Math"
abbrev cJ13_abs : ByteArray := prog_27_method_61_code
def yJ13_abs : MethodName := ⟨RJ13, "abs", "(J)J"⟩
abbrev cJ13_min : ByteArray := prog_27_method_69_code
def yJ13_min : MethodName := ⟨RJ13, "min", "(II)I"⟩
theorem q133 : (Jvm.Cond.initialized "java/lang/Math") ∈ lw_all := lw_g (lw_at lw_m1 32 rfl) rfl
theorem q673 : (Jvm.Cond.static ({ cls := "java/lang/Math", name := "abs", desc := "(J)J" } : Jvm.MethodName)) ∈ lw_all := lw_g (lw_at lw_m3 92 rfl) rfl
theorem q674 : (Jvm.Cond.code ({ cls := "java/lang/Math", name := "abs", desc := "(J)J" } : Jvm.MethodName) prog_27_method_61_code (2 : Nat) (Option.some Jvm.ClassFile.FieldType.long)) ∈ lw_all := lw_g (lw_at lw_m3 93 rfl) rfl
theorem q1525 : (Jvm.Cond.static ({ cls := "java/lang/Math", name := "min", desc := "(II)I" } : Jvm.MethodName)) ∈ lw_all := lw_g (lw_at lw_m6 224 rfl) rfl
theorem q1526 : (Jvm.Cond.code ({ cls := "java/lang/Math", name := "min", desc := "(II)I" } : Jvm.MethodName) prog_27_method_69_code (2 : Nat) (Option.some Jvm.ClassFile.FieldType.int)) ∈ lw_all := lw_g (lw_at lw_m6 225 rfl) rfl

/-! java/lang/Long -/
def RJ14 : String := "java/lang/Long"
abbrev cJ14_bitCount : ByteArray := prog_26_method_50_code
def yJ14_bitCount : MethodName := ⟨RJ14, "bitCount", "(J)I"⟩
theorem q135 : (Jvm.Cond.initialized "java/lang/Long") ∈ lw_all := lw_g (lw_at lw_m1 34 rfl) rfl
theorem q1504 : (Jvm.Cond.static ({ cls := "java/lang/Long", name := "bitCount", desc := "(J)I" } : Jvm.MethodName)) ∈ lw_all := lw_g (lw_at lw_m6 203 rfl) rfl
theorem q1505 : (Jvm.Cond.code ({ cls := "java/lang/Long", name := "bitCount", desc := "(J)I" } : Jvm.MethodName) prog_26_method_50_code (2 : Nat) (Option.some Jvm.ClassFile.FieldType.int)) ∈ lw_all := lw_g (lw_at lw_m6 204 rfl) rfl
theorem q1506 : (Jvm.Cond.constantLong "java/lang/Long" (314 : Nat) (6148914691236517205 : Int64)) ∈ lw_all := lw_g (lw_at lw_m6 205 rfl) rfl
theorem q1507 : (Jvm.Cond.constantLong "java/lang/Long" (316 : Nat) (3689348814741910323 : Int64)) ∈ lw_all := lw_g (lw_at lw_m6 206 rfl) rfl
theorem q1508 : (Jvm.Cond.constantLong "java/lang/Long" (318 : Nat) (1085102592571150095 : Int64)) ∈ lw_all := lw_g (lw_at lw_m6 207 rfl) rfl

/-! java/lang/Integer -/
def RJ15 : String := "java/lang/Integer"
abbrev cJ15_bitCount : ByteArray := prog_25_method_49_code
def yJ15_bitCount : MethodName := ⟨RJ15, "bitCount", "(I)I"⟩
theorem q136 : (Jvm.Cond.initialized "java/lang/Integer") ∈ lw_all := lw_g (lw_at lw_m1 35 rfl) rfl
theorem q860 : (Jvm.Cond.static ({ cls := "java/lang/Integer", name := "bitCount", desc := "(I)I" } : Jvm.MethodName)) ∈ lw_all := lw_g (lw_at lw_m4 39 rfl) rfl
theorem q861 : (Jvm.Cond.code ({ cls := "java/lang/Integer", name := "bitCount", desc := "(I)I" } : Jvm.MethodName) prog_25_method_49_code (1 : Nat) (Option.some Jvm.ClassFile.FieldType.int)) ∈ lw_all := lw_g (lw_at lw_m4 40 rfl) rfl
theorem q862 : (Jvm.Cond.constant "java/lang/Integer" (265 : Nat) (1431655765 : Int32)) ∈ lw_all := lw_g (lw_at lw_m4 41 rfl) rfl
theorem q863 : (Jvm.Cond.constant "java/lang/Integer" (266 : Nat) (858993459 : Int32)) ∈ lw_all := lw_g (lw_at lw_m4 42 rfl) rfl
theorem q864 : (Jvm.Cond.constant "java/lang/Integer" (267 : Nat) (252645135 : Int32)) ∈ lw_all := lw_g (lw_at lw_m4 43 rfl) rfl

/-! java/lang/Object -/
def RJ16 : String := "java/lang/Object"
abbrev cJ16_init : ByteArray := object_method_1_code
def yJ16_init : MethodName := ⟨RJ16, "<init>", "()V"⟩
theorem q143 : (Jvm.Cond.instanceMethod ({ cls := "java/lang/Object", name := "<init>", desc := "()V" } : Jvm.MethodName)) ∈ lw_all := lw_g (lw_at lw_m1 42 rfl) rfl
theorem q144 : (Jvm.Cond.code ({ cls := "java/lang/Object", name := "<init>", desc := "()V" } : Jvm.MethodName) object_method_1_code (1 : Nat) (Option.none : Option Jvm.ClassFile.FieldType)) ∈ lw_all := lw_g (lw_at lw_m1 43 rfl) rfl

/-! the law's own entry -/
abbrev cL_law : ByteArray := code

theorem q152 : (Jvm.Cond.arrayOver (Jvm.ClassFile.FieldType.object "java/lang/String")) ∈ lw_tbl := lw_at lw_m1 51 rfl
theorem q164 : (Jvm.Cond.arrayOver (Jvm.ClassFile.FieldType.object "JumpFence$Order")) ∈ lw_tbl := lw_at lw_m1 63 rfl
theorem q239 : (Jvm.Cond.arrayClass Jvm.ClassFile.FieldType.byte) ∈ lw_all := lw_g (lw_at lw_m1 138 rfl) rfl
theorem q362 : (Jvm.Cond.arrayClass Jvm.ClassFile.FieldType.int) ∈ lw_all := lw_g (lw_at lw_m2 21 rfl) rfl
theorem q363 : (Jvm.Cond.arrayClass Jvm.ClassFile.FieldType.boolean) ∈ lw_all := lw_g (lw_at lw_m2 22 rfl) rfl
theorem q364 : (Jvm.Cond.arrayClass Jvm.ClassFile.FieldType.long) ∈ lw_all := lw_g (lw_at lw_m2 23 rfl) rfl

theorem q134 : (Jvm.Cond.initialized "java/lang/System") ∈ lw_all := lw_g (lw_at lw_m1 33 rfl) rfl
theorem q734 : (Jvm.Cond.static ({ cls := "java/lang/System", name := "arraycopy", desc := "(Ljava/lang/Object;ILjava/lang/Object;II)V" } : Jvm.MethodName)) ∈ lw_all := lw_g (lw_at lw_m3 153 rfl) rfl
theorem q735 : (Jvm.Cond.native ({ cls := "java/lang/System", name := "arraycopy", desc := "(Ljava/lang/Object;ILjava/lang/Object;II)V" } : Jvm.MethodName)) ∈ lw_all := lw_g (lw_at lw_m3 154 rfl) rfl

set_option maxRecDepth 100000
def dkwX1_order_3 : List UInt8 := [172, 45, 182, 0, 144, 172, 187, 0, 67, 89, 183, 0, 69, 191]
abbrev dktX1_order_3 : List UInt8 := dkwX1_order_3 ++ []
def dkwX1_order_2 : List UInt8 := [45, 182, 0, 134, 172, 45, 180, 0, 138, 172, 42, 180, 0, 19, 180, 0, 128, 27, 46, 172, 45, 182, 0, 141]
abbrev dktX1_order_2 : List UInt8 := dkwX1_order_2 ++ dktX1_order_3
def dkwX1_order_1 : List UInt8 := [170, 0, 0, 0, 63, 0, 0, 0, 0, 0, 0, 0, 4, 0, 0, 0, 33, 0, 0, 0, 38, 0, 0, 0, 43, 0, 0, 0, 53, 0, 0, 0, 58]
abbrev dktX1_order_1 : List UInt8 := dkwX1_order_1 ++ dktX1_order_2
def dkwX1_order_0 : List UInt8 := [42, 27, 182, 0, 85, 78, 28]
abbrev dktX1_order_0 : List UInt8 := dkwX1_order_0 ++ dktX1_order_1
theorem dksX1_order_0 : cX1_order.data.toList.drop 0 = dktX1_order_0 := by decide +kernel
theorem dksX1_order_1 : cX1_order.data.toList.drop 7 = dktX1_order_1 := dk_seg dksX1_order_0 7 rfl rfl
theorem dksX1_order_2 : cX1_order.data.toList.drop 40 = dktX1_order_2 := dk_seg dksX1_order_1 33 rfl rfl
theorem dksX1_order_3 : cX1_order.data.toList.drop 64 = dktX1_order_3 := dk_seg dksX1_order_2 24 rfl rfl
theorem dX1_order_0 : decode cX1_order 0 = .ok (.aload_n 0, 1) := dk_42 (dk_at dksX1_order_0 0 rfl rfl)
theorem dX1_order_1 : decode cX1_order 1 = .ok (.iload_n 1, 1) := dk_27 (dk_at dksX1_order_0 1 rfl rfl)
theorem dX1_order_2 : decode cX1_order 2 = .ok (.invokevirtual 85, 3) := dk_182 0 85 (dk_at dksX1_order_0 2 rfl rfl)
theorem dX1_order_5 : decode cX1_order 5 = .ok (.astore_n 3, 1) := dk_78 (dk_at dksX1_order_0 5 rfl rfl)
theorem dX1_order_6 : decode cX1_order 6 = .ok (.iload_n 2, 1) := dk_28 (dk_at dksX1_order_0 6 rfl rfl)
theorem dX1_order_7 : decode cX1_order 7 = .ok (.tableswitch 63 0 4 #[33, 38, 43, 53, 58], 33) := by decide +kernel
theorem dX1_order_40 : decode cX1_order 40 = .ok (.aload_n 3, 1) := dk_45 (dk_at dksX1_order_2 0 rfl rfl)
theorem dX1_order_41 : decode cX1_order 41 = .ok (.invokevirtual 134, 3) := dk_182 0 134 (dk_at dksX1_order_2 1 rfl rfl)
theorem dX1_order_44 : decode cX1_order 44 = .ok (.ireturn, 1) := dk_172 (dk_at dksX1_order_2 4 rfl rfl)
theorem dX1_order_45 : decode cX1_order 45 = .ok (.aload_n 3, 1) := dk_45 (dk_at dksX1_order_2 5 rfl rfl)
theorem dX1_order_46 : decode cX1_order 46 = .ok (.getfield 138, 3) := dk_180 0 138 (dk_at dksX1_order_2 6 rfl rfl)
theorem dX1_order_49 : decode cX1_order 49 = .ok (.ireturn, 1) := dk_172 (dk_at dksX1_order_2 9 rfl rfl)
theorem dX1_order_50 : decode cX1_order 50 = .ok (.aload_n 0, 1) := dk_42 (dk_at dksX1_order_2 10 rfl rfl)
theorem dX1_order_51 : decode cX1_order 51 = .ok (.getfield 19, 3) := dk_180 0 19 (dk_at dksX1_order_2 11 rfl rfl)
theorem dX1_order_54 : decode cX1_order 54 = .ok (.getfield 128, 3) := dk_180 0 128 (dk_at dksX1_order_2 14 rfl rfl)
theorem dX1_order_57 : decode cX1_order 57 = .ok (.iload_n 1, 1) := dk_27 (dk_at dksX1_order_2 17 rfl rfl)
theorem dX1_order_58 : decode cX1_order 58 = .ok (.iaload, 1) := dk_46 (dk_at dksX1_order_2 18 rfl rfl)
theorem dX1_order_59 : decode cX1_order 59 = .ok (.ireturn, 1) := dk_172 (dk_at dksX1_order_2 19 rfl rfl)
theorem dX1_order_60 : decode cX1_order 60 = .ok (.aload_n 3, 1) := dk_45 (dk_at dksX1_order_2 20 rfl rfl)
theorem dX1_order_61 : decode cX1_order 61 = .ok (.invokevirtual 141, 3) := dk_182 0 141 (dk_at dksX1_order_2 21 rfl rfl)
theorem dX1_order_64 : decode cX1_order 64 = .ok (.ireturn, 1) := dk_172 (dk_at dksX1_order_3 0 rfl rfl)
theorem dX1_order_65 : decode cX1_order 65 = .ok (.aload_n 3, 1) := dk_45 (dk_at dksX1_order_3 1 rfl rfl)
theorem dX1_order_66 : decode cX1_order 66 = .ok (.invokevirtual 144, 3) := dk_182 0 144 (dk_at dksX1_order_3 2 rfl rfl)
theorem dX1_order_69 : decode cX1_order 69 = .ok (.ireturn, 1) := dk_172 (dk_at dksX1_order_3 5 rfl rfl)
theorem dX1_order_70 : decode cX1_order 70 = .ok (.new 67, 3) := dk_187 0 67 (dk_at dksX1_order_3 6 rfl rfl)
theorem dX1_order_73 : decode cX1_order 73 = .ok (.dup, 1) := dk_89 (dk_at dksX1_order_3 9 rfl rfl)
theorem dX1_order_74 : decode cX1_order 74 = .ok (.invokespecial 69, 3) := dk_183 0 69 (dk_at dksX1_order_3 10 rfl rfl)
theorem dX1_order_77 : decode cX1_order 77 = .ok (.athrow, 1) := dk_191 (dk_at dksX1_order_3 13 rfl rfl)
def dkwX1_orderAt_1 : List UInt8 := [27, 50, 176]
abbrev dktX1_orderAt_1 : List UInt8 := dkwX1_orderAt_1 ++ []
def dkwX1_orderAt_0 : List UInt8 := [27, 3, 42, 180, 0, 19, 180, 0, 70, 4, 100, 184, 0, 73, 184, 0, 77, 42, 180, 0, 19, 180, 0, 81]
abbrev dktX1_orderAt_0 : List UInt8 := dkwX1_orderAt_0 ++ dktX1_orderAt_1
theorem dksX1_orderAt_0 : cX1_orderAt.data.toList.drop 0 = dktX1_orderAt_0 := by decide +kernel
theorem dksX1_orderAt_1 : cX1_orderAt.data.toList.drop 24 = dktX1_orderAt_1 := dk_seg dksX1_orderAt_0 24 rfl rfl
theorem dX1_orderAt_0 : decode cX1_orderAt 0 = .ok (.iload_n 1, 1) := dk_27 (dk_at dksX1_orderAt_0 0 rfl rfl)
theorem dX1_orderAt_1 : decode cX1_orderAt 1 = .ok (.iconst 0, 1) := dk_3 (dk_at dksX1_orderAt_0 1 rfl rfl)
theorem dX1_orderAt_2 : decode cX1_orderAt 2 = .ok (.aload_n 0, 1) := dk_42 (dk_at dksX1_orderAt_0 2 rfl rfl)
theorem dX1_orderAt_3 : decode cX1_orderAt 3 = .ok (.getfield 19, 3) := dk_180 0 19 (dk_at dksX1_orderAt_0 3 rfl rfl)
theorem dX1_orderAt_6 : decode cX1_orderAt 6 = .ok (.getfield 70, 3) := dk_180 0 70 (dk_at dksX1_orderAt_0 6 rfl rfl)
theorem dX1_orderAt_9 : decode cX1_orderAt 9 = .ok (.iconst 1, 1) := dk_4 (dk_at dksX1_orderAt_0 9 rfl rfl)
theorem dX1_orderAt_10 : decode cX1_orderAt 10 = .ok (.isub, 1) := dk_100 (dk_at dksX1_orderAt_0 10 rfl rfl)
theorem dX1_orderAt_11 : decode cX1_orderAt 11 = .ok (.invokestatic 73, 3) := dk_184 0 73 (dk_at dksX1_orderAt_0 11 rfl rfl)
theorem dX1_orderAt_14 : decode cX1_orderAt 14 = .ok (.invokestatic 77, 3) := dk_184 0 77 (dk_at dksX1_orderAt_0 14 rfl rfl)
theorem dX1_orderAt_17 : decode cX1_orderAt 17 = .ok (.aload_n 0, 1) := dk_42 (dk_at dksX1_orderAt_0 17 rfl rfl)
theorem dX1_orderAt_18 : decode cX1_orderAt 18 = .ok (.getfield 19, 3) := dk_180 0 19 (dk_at dksX1_orderAt_0 18 rfl rfl)
theorem dX1_orderAt_21 : decode cX1_orderAt 21 = .ok (.getfield 81, 3) := dk_180 0 81 (dk_at dksX1_orderAt_0 21 rfl rfl)
theorem dX1_orderAt_24 : decode cX1_orderAt 24 = .ok (.iload_n 1, 1) := dk_27 (dk_at dksX1_orderAt_1 0 rfl rfl)
theorem dX1_orderAt_25 : decode cX1_orderAt 25 = .ok (.aaload, 1) := dk_50 (dk_at dksX1_orderAt_1 1 rfl rfl)
theorem dX1_orderAt_26 : decode cX1_orderAt 26 = .ok (.areturn, 1) := dk_176 (dk_at dksX1_orderAt_1 2 rfl rfl)
def dkwX1_mustBe_0 : List UInt8 := [26, 154, 0, 11, 187, 0, 64, 89, 183, 0, 66, 191, 177]
abbrev dktX1_mustBe_0 : List UInt8 := dkwX1_mustBe_0 ++ []
theorem dksX1_mustBe_0 : cX1_mustBe.data.toList.drop 0 = dktX1_mustBe_0 := by decide +kernel
theorem dX1_mustBe_0 : decode cX1_mustBe 0 = .ok (.iload_n 0, 1) := dk_26 (dk_at dksX1_mustBe_0 0 rfl rfl)
theorem dX1_mustBe_1 : decode cX1_mustBe 1 = .ok (.ifCond .ne 11, 3) := dk_154 0 11 (dk_at dksX1_mustBe_0 1 rfl rfl)
theorem dX1_mustBe_4 : decode cX1_mustBe 4 = .ok (.new 64, 3) := dk_187 0 64 (dk_at dksX1_mustBe_0 4 rfl rfl)
theorem dX1_mustBe_7 : decode cX1_mustBe 7 = .ok (.dup, 1) := dk_89 (dk_at dksX1_mustBe_0 7 rfl rfl)
theorem dX1_mustBe_8 : decode cX1_mustBe 8 = .ok (.invokespecial 66, 3) := dk_183 0 66 (dk_at dksX1_mustBe_0 8 rfl rfl)
theorem dX1_mustBe_11 : decode cX1_mustBe 11 = .ok (.athrow, 1) := dk_191 (dk_at dksX1_mustBe_0 11 rfl rfl)
theorem dX1_mustBe_12 : decode cX1_mustBe 12 = .ok (.return_, 1) := dk_177 (dk_at dksX1_mustBe_0 12 rfl rfl)
def dkwX1_grade_1 : List UInt8 := [159, 0, 7, 4, 167, 0, 4, 3, 62, 42, 180, 0, 19, 180, 0, 128, 27, 28, 79, 29, 172]
abbrev dktX1_grade_1 : List UInt8 := dkwX1_grade_1 ++ []
def dkwX1_grade_0 : List UInt8 := [42, 27, 182, 0, 146, 28, 3, 6, 184, 0, 73, 184, 0, 148, 42, 180, 0, 19, 180, 0, 128, 27, 46, 28]
abbrev dktX1_grade_0 : List UInt8 := dkwX1_grade_0 ++ dktX1_grade_1
theorem dksX1_grade_0 : cX1_grade.data.toList.drop 0 = dktX1_grade_0 := by decide +kernel
theorem dksX1_grade_1 : cX1_grade.data.toList.drop 24 = dktX1_grade_1 := dk_seg dksX1_grade_0 24 rfl rfl
theorem dX1_grade_0 : decode cX1_grade 0 = .ok (.aload_n 0, 1) := dk_42 (dk_at dksX1_grade_0 0 rfl rfl)
theorem dX1_grade_1 : decode cX1_grade 1 = .ok (.iload_n 1, 1) := dk_27 (dk_at dksX1_grade_0 1 rfl rfl)
theorem dX1_grade_2 : decode cX1_grade 2 = .ok (.invokevirtual 146, 3) := dk_182 0 146 (dk_at dksX1_grade_0 2 rfl rfl)
theorem dX1_grade_5 : decode cX1_grade 5 = .ok (.iload_n 2, 1) := dk_28 (dk_at dksX1_grade_0 5 rfl rfl)
theorem dX1_grade_6 : decode cX1_grade 6 = .ok (.iconst 0, 1) := dk_3 (dk_at dksX1_grade_0 6 rfl rfl)
theorem dX1_grade_7 : decode cX1_grade 7 = .ok (.iconst 3, 1) := dk_6 (dk_at dksX1_grade_0 7 rfl rfl)
theorem dX1_grade_8 : decode cX1_grade 8 = .ok (.invokestatic 73, 3) := dk_184 0 73 (dk_at dksX1_grade_0 8 rfl rfl)
theorem dX1_grade_11 : decode cX1_grade 11 = .ok (.invokestatic 148, 3) := dk_184 0 148 (dk_at dksX1_grade_0 11 rfl rfl)
theorem dX1_grade_14 : decode cX1_grade 14 = .ok (.aload_n 0, 1) := dk_42 (dk_at dksX1_grade_0 14 rfl rfl)
theorem dX1_grade_15 : decode cX1_grade 15 = .ok (.getfield 19, 3) := dk_180 0 19 (dk_at dksX1_grade_0 15 rfl rfl)
theorem dX1_grade_18 : decode cX1_grade 18 = .ok (.getfield 128, 3) := dk_180 0 128 (dk_at dksX1_grade_0 18 rfl rfl)
theorem dX1_grade_21 : decode cX1_grade 21 = .ok (.iload_n 1, 1) := dk_27 (dk_at dksX1_grade_0 21 rfl rfl)
theorem dX1_grade_22 : decode cX1_grade 22 = .ok (.iaload, 1) := dk_46 (dk_at dksX1_grade_0 22 rfl rfl)
theorem dX1_grade_23 : decode cX1_grade 23 = .ok (.iload_n 2, 1) := dk_28 (dk_at dksX1_grade_0 23 rfl rfl)
theorem dX1_grade_24 : decode cX1_grade 24 = .ok (.if_icmp .eq 7, 3) := dk_159 0 7 (dk_at dksX1_grade_1 0 rfl rfl)
theorem dX1_grade_27 : decode cX1_grade 27 = .ok (.iconst 1, 1) := dk_4 (dk_at dksX1_grade_1 3 rfl rfl)
theorem dX1_grade_28 : decode cX1_grade 28 = .ok (.goto 4, 3) := dk_167 0 4 (dk_at dksX1_grade_1 4 rfl rfl)
theorem dX1_grade_31 : decode cX1_grade 31 = .ok (.iconst 0, 1) := dk_3 (dk_at dksX1_grade_1 7 rfl rfl)
theorem dX1_grade_32 : decode cX1_grade 32 = .ok (.istore_n 3, 1) := dk_62 (dk_at dksX1_grade_1 8 rfl rfl)
theorem dX1_grade_33 : decode cX1_grade 33 = .ok (.aload_n 0, 1) := dk_42 (dk_at dksX1_grade_1 9 rfl rfl)
theorem dX1_grade_34 : decode cX1_grade 34 = .ok (.getfield 19, 3) := dk_180 0 19 (dk_at dksX1_grade_1 10 rfl rfl)
theorem dX1_grade_37 : decode cX1_grade 37 = .ok (.getfield 128, 3) := dk_180 0 128 (dk_at dksX1_grade_1 13 rfl rfl)
theorem dX1_grade_40 : decode cX1_grade 40 = .ok (.iload_n 1, 1) := dk_27 (dk_at dksX1_grade_1 16 rfl rfl)
theorem dX1_grade_41 : decode cX1_grade 41 = .ok (.iload_n 2, 1) := dk_28 (dk_at dksX1_grade_1 17 rfl rfl)
theorem dX1_grade_42 : decode cX1_grade 42 = .ok (.iastore, 1) := dk_79 (dk_at dksX1_grade_1 18 rfl rfl)
theorem dX1_grade_43 : decode cX1_grade 43 = .ok (.iload_n 3, 1) := dk_29 (dk_at dksX1_grade_1 19 rfl rfl)
theorem dX1_grade_44 : decode cX1_grade 44 = .ok (.ireturn, 1) := dk_172 (dk_at dksX1_grade_1 20 rfl rfl)
def dkwX1_isJump_0 : List UInt8 := [42, 27, 182, 0, 85, 77, 44, 182, 0, 89, 154, 0, 11, 187, 0, 95, 89, 183, 0, 97, 191, 177]
abbrev dktX1_isJump_0 : List UInt8 := dkwX1_isJump_0 ++ []
theorem dksX1_isJump_0 : cX1_isJump.data.toList.drop 0 = dktX1_isJump_0 := by decide +kernel
theorem dX1_isJump_0 : decode cX1_isJump 0 = .ok (.aload_n 0, 1) := dk_42 (dk_at dksX1_isJump_0 0 rfl rfl)
theorem dX1_isJump_1 : decode cX1_isJump 1 = .ok (.iload_n 1, 1) := dk_27 (dk_at dksX1_isJump_0 1 rfl rfl)
theorem dX1_isJump_2 : decode cX1_isJump 2 = .ok (.invokevirtual 85, 3) := dk_182 0 85 (dk_at dksX1_isJump_0 2 rfl rfl)
theorem dX1_isJump_5 : decode cX1_isJump 5 = .ok (.astore_n 2, 1) := dk_77 (dk_at dksX1_isJump_0 5 rfl rfl)
theorem dX1_isJump_6 : decode cX1_isJump 6 = .ok (.aload_n 2, 1) := dk_44 (dk_at dksX1_isJump_0 6 rfl rfl)
theorem dX1_isJump_7 : decode cX1_isJump 7 = .ok (.invokevirtual 89, 3) := dk_182 0 89 (dk_at dksX1_isJump_0 7 rfl rfl)
theorem dX1_isJump_10 : decode cX1_isJump 10 = .ok (.ifCond .ne 11, 3) := dk_154 0 11 (dk_at dksX1_isJump_0 10 rfl rfl)
theorem dX1_isJump_13 : decode cX1_isJump 13 = .ok (.new 95, 3) := dk_187 0 95 (dk_at dksX1_isJump_0 13 rfl rfl)
theorem dX1_isJump_16 : decode cX1_isJump 16 = .ok (.dup, 1) := dk_89 (dk_at dksX1_isJump_0 16 rfl rfl)
theorem dX1_isJump_17 : decode cX1_isJump 17 = .ok (.invokespecial 97, 3) := dk_183 0 97 (dk_at dksX1_isJump_0 17 rfl rfl)
theorem dX1_isJump_20 : decode cX1_isJump 20 = .ok (.athrow, 1) := dk_191 (dk_at dksX1_isJump_0 20 rfl rfl)
theorem dX1_isJump_21 : decode cX1_isJump 21 = .ok (.return_, 1) := dk_177 (dk_at dksX1_isJump_0 21 rfl rfl)
def dkwX1_must_0 : List UInt8 := [26, 154, 0, 11, 187, 0, 58, 89, 183, 0, 60, 191, 177]
abbrev dktX1_must_0 : List UInt8 := dkwX1_must_0 ++ []
theorem dksX1_must_0 : cX1_must.data.toList.drop 0 = dktX1_must_0 := by decide +kernel
theorem dX1_must_0 : decode cX1_must 0 = .ok (.iload_n 0, 1) := dk_26 (dk_at dksX1_must_0 0 rfl rfl)
theorem dX1_must_1 : decode cX1_must 1 = .ok (.ifCond .ne 11, 3) := dk_154 0 11 (dk_at dksX1_must_0 1 rfl rfl)
theorem dX1_must_4 : decode cX1_must 4 = .ok (.new 58, 3) := dk_187 0 58 (dk_at dksX1_must_0 4 rfl rfl)
theorem dX1_must_7 : decode cX1_must 7 = .ok (.dup, 1) := dk_89 (dk_at dksX1_must_0 7 rfl rfl)
theorem dX1_must_8 : decode cX1_must 8 = .ok (.invokespecial 60, 3) := dk_183 0 60 (dk_at dksX1_must_0 8 rfl rfl)
theorem dX1_must_11 : decode cX1_must 11 = .ok (.athrow, 1) := dk_191 (dk_at dksX1_must_0 11 rfl rfl)
theorem dX1_must_12 : decode cX1_must 12 = .ok (.return_, 1) := dk_177 (dk_at dksX1_must_0 12 rfl rfl)
def dkwX1_ticks_1 : List UInt8 := [184, 0, 148, 42, 180, 0, 19, 180, 0, 151, 27, 28, 79, 177]
abbrev dktX1_ticks_1 : List UInt8 := dkwX1_ticks_1 ++ []
def dkwX1_ticks_0 : List UInt8 := [27, 4, 6, 184, 0, 73, 153, 0, 17, 28, 4, 16, 99, 184, 0, 73, 153, 0, 7, 4, 167, 0, 4, 3]
abbrev dktX1_ticks_0 : List UInt8 := dkwX1_ticks_0 ++ dktX1_ticks_1
theorem dksX1_ticks_0 : cX1_ticks.data.toList.drop 0 = dktX1_ticks_0 := by decide +kernel
theorem dksX1_ticks_1 : cX1_ticks.data.toList.drop 24 = dktX1_ticks_1 := dk_seg dksX1_ticks_0 24 rfl rfl
theorem dX1_ticks_0 : decode cX1_ticks 0 = .ok (.iload_n 1, 1) := dk_27 (dk_at dksX1_ticks_0 0 rfl rfl)
theorem dX1_ticks_1 : decode cX1_ticks 1 = .ok (.iconst 1, 1) := dk_4 (dk_at dksX1_ticks_0 1 rfl rfl)
theorem dX1_ticks_2 : decode cX1_ticks 2 = .ok (.iconst 3, 1) := dk_6 (dk_at dksX1_ticks_0 2 rfl rfl)
theorem dX1_ticks_3 : decode cX1_ticks 3 = .ok (.invokestatic 73, 3) := dk_184 0 73 (dk_at dksX1_ticks_0 3 rfl rfl)
theorem dX1_ticks_6 : decode cX1_ticks 6 = .ok (.ifCond .eq 17, 3) := dk_153 0 17 (dk_at dksX1_ticks_0 6 rfl rfl)
theorem dX1_ticks_9 : decode cX1_ticks 9 = .ok (.iload_n 2, 1) := dk_28 (dk_at dksX1_ticks_0 9 rfl rfl)
theorem dX1_ticks_10 : decode cX1_ticks 10 = .ok (.iconst 1, 1) := dk_4 (dk_at dksX1_ticks_0 10 rfl rfl)
theorem dX1_ticks_11 : decode cX1_ticks 11 = .ok (.bipush 99, 2) := dk_16 99 (dk_at dksX1_ticks_0 11 rfl rfl)
theorem dX1_ticks_13 : decode cX1_ticks 13 = .ok (.invokestatic 73, 3) := dk_184 0 73 (dk_at dksX1_ticks_0 13 rfl rfl)
theorem dX1_ticks_16 : decode cX1_ticks 16 = .ok (.ifCond .eq 7, 3) := dk_153 0 7 (dk_at dksX1_ticks_0 16 rfl rfl)
theorem dX1_ticks_19 : decode cX1_ticks 19 = .ok (.iconst 1, 1) := dk_4 (dk_at dksX1_ticks_0 19 rfl rfl)
theorem dX1_ticks_20 : decode cX1_ticks 20 = .ok (.goto 4, 3) := dk_167 0 4 (dk_at dksX1_ticks_0 20 rfl rfl)
theorem dX1_ticks_23 : decode cX1_ticks 23 = .ok (.iconst 0, 1) := dk_3 (dk_at dksX1_ticks_0 23 rfl rfl)
theorem dX1_ticks_24 : decode cX1_ticks 24 = .ok (.invokestatic 148, 3) := dk_184 0 148 (dk_at dksX1_ticks_1 0 rfl rfl)
theorem dX1_ticks_27 : decode cX1_ticks 27 = .ok (.aload_n 0, 1) := dk_42 (dk_at dksX1_ticks_1 3 rfl rfl)
theorem dX1_ticks_28 : decode cX1_ticks 28 = .ok (.getfield 19, 3) := dk_180 0 19 (dk_at dksX1_ticks_1 4 rfl rfl)
theorem dX1_ticks_31 : decode cX1_ticks 31 = .ok (.getfield 151, 3) := dk_180 0 151 (dk_at dksX1_ticks_1 7 rfl rfl)
theorem dX1_ticks_34 : decode cX1_ticks 34 = .ok (.iload_n 1, 1) := dk_27 (dk_at dksX1_ticks_1 10 rfl rfl)
theorem dX1_ticks_35 : decode cX1_ticks 35 = .ok (.iload_n 2, 1) := dk_28 (dk_at dksX1_ticks_1 11 rfl rfl)
theorem dX1_ticks_36 : decode cX1_ticks 36 = .ok (.iastore, 1) := dk_79 (dk_at dksX1_ticks_1 12 rfl rfl)
theorem dX1_ticks_37 : decode cX1_ticks 37 = .ok (.return_, 1) := dk_177 (dk_at dksX1_ticks_1 13 rfl rfl)
def dkwX1_landings_1 : List UInt8 := [180, 0, 19, 180, 0, 158, 27, 47, 173]
abbrev dktX1_landings_1 : List UInt8 := dkwX1_landings_1 ++ []
def dkwX1_landings_0 : List UInt8 := [42, 27, 182, 0, 146, 28, 153, 0, 15, 42, 180, 0, 19, 180, 0, 154, 27, 47, 167, 0, 12, 42]
abbrev dktX1_landings_0 : List UInt8 := dkwX1_landings_0 ++ dktX1_landings_1
theorem dksX1_landings_0 : cX1_landings.data.toList.drop 0 = dktX1_landings_0 := by decide +kernel
theorem dksX1_landings_1 : cX1_landings.data.toList.drop 22 = dktX1_landings_1 := dk_seg dksX1_landings_0 22 rfl rfl
theorem dX1_landings_0 : decode cX1_landings 0 = .ok (.aload_n 0, 1) := dk_42 (dk_at dksX1_landings_0 0 rfl rfl)
theorem dX1_landings_1 : decode cX1_landings 1 = .ok (.iload_n 1, 1) := dk_27 (dk_at dksX1_landings_0 1 rfl rfl)
theorem dX1_landings_2 : decode cX1_landings 2 = .ok (.invokevirtual 146, 3) := dk_182 0 146 (dk_at dksX1_landings_0 2 rfl rfl)
theorem dX1_landings_5 : decode cX1_landings 5 = .ok (.iload_n 2, 1) := dk_28 (dk_at dksX1_landings_0 5 rfl rfl)
theorem dX1_landings_6 : decode cX1_landings 6 = .ok (.ifCond .eq 15, 3) := dk_153 0 15 (dk_at dksX1_landings_0 6 rfl rfl)
theorem dX1_landings_9 : decode cX1_landings 9 = .ok (.aload_n 0, 1) := dk_42 (dk_at dksX1_landings_0 9 rfl rfl)
theorem dX1_landings_10 : decode cX1_landings 10 = .ok (.getfield 19, 3) := dk_180 0 19 (dk_at dksX1_landings_0 10 rfl rfl)
theorem dX1_landings_13 : decode cX1_landings 13 = .ok (.getfield 154, 3) := dk_180 0 154 (dk_at dksX1_landings_0 13 rfl rfl)
theorem dX1_landings_16 : decode cX1_landings 16 = .ok (.iload_n 1, 1) := dk_27 (dk_at dksX1_landings_0 16 rfl rfl)
theorem dX1_landings_17 : decode cX1_landings 17 = .ok (.laload, 1) := dk_47 (dk_at dksX1_landings_0 17 rfl rfl)
theorem dX1_landings_18 : decode cX1_landings 18 = .ok (.goto 12, 3) := dk_167 0 12 (dk_at dksX1_landings_0 18 rfl rfl)
theorem dX1_landings_21 : decode cX1_landings 21 = .ok (.aload_n 0, 1) := dk_42 (dk_at dksX1_landings_0 21 rfl rfl)
theorem dX1_landings_22 : decode cX1_landings 22 = .ok (.getfield 19, 3) := dk_180 0 19 (dk_at dksX1_landings_1 0 rfl rfl)
theorem dX1_landings_25 : decode cX1_landings 25 = .ok (.getfield 158, 3) := dk_180 0 158 (dk_at dksX1_landings_1 3 rfl rfl)
theorem dX1_landings_28 : decode cX1_landings 28 = .ok (.iload_n 1, 1) := dk_27 (dk_at dksX1_landings_1 6 rfl rfl)
theorem dX1_landings_29 : decode cX1_landings 29 = .ok (.laload, 1) := dk_47 (dk_at dksX1_landings_1 7 rfl rfl)
theorem dX1_landings_30 : decode cX1_landings 30 = .ok (.lreturn, 1) := dk_173 (dk_at dksX1_landings_1 8 rfl rfl)
def dkwX1_lets_0 : List UInt8 := [42, 27, 182, 0, 146, 42, 180, 0, 19, 27, 42, 180, 0, 19, 180, 0, 128, 27, 46, 182, 0, 161, 173]
abbrev dktX1_lets_0 : List UInt8 := dkwX1_lets_0 ++ []
theorem dksX1_lets_0 : cX1_lets.data.toList.drop 0 = dktX1_lets_0 := by decide +kernel
theorem dX1_lets_0 : decode cX1_lets 0 = .ok (.aload_n 0, 1) := dk_42 (dk_at dksX1_lets_0 0 rfl rfl)
theorem dX1_lets_1 : decode cX1_lets 1 = .ok (.iload_n 1, 1) := dk_27 (dk_at dksX1_lets_0 1 rfl rfl)
theorem dX1_lets_2 : decode cX1_lets 2 = .ok (.invokevirtual 146, 3) := dk_182 0 146 (dk_at dksX1_lets_0 2 rfl rfl)
theorem dX1_lets_5 : decode cX1_lets 5 = .ok (.aload_n 0, 1) := dk_42 (dk_at dksX1_lets_0 5 rfl rfl)
theorem dX1_lets_6 : decode cX1_lets 6 = .ok (.getfield 19, 3) := dk_180 0 19 (dk_at dksX1_lets_0 6 rfl rfl)
theorem dX1_lets_9 : decode cX1_lets 9 = .ok (.iload_n 1, 1) := dk_27 (dk_at dksX1_lets_0 9 rfl rfl)
theorem dX1_lets_10 : decode cX1_lets 10 = .ok (.aload_n 0, 1) := dk_42 (dk_at dksX1_lets_0 10 rfl rfl)
theorem dX1_lets_11 : decode cX1_lets 11 = .ok (.getfield 19, 3) := dk_180 0 19 (dk_at dksX1_lets_0 11 rfl rfl)
theorem dX1_lets_14 : decode cX1_lets 14 = .ok (.getfield 128, 3) := dk_180 0 128 (dk_at dksX1_lets_0 14 rfl rfl)
theorem dX1_lets_17 : decode cX1_lets 17 = .ok (.iload_n 1, 1) := dk_27 (dk_at dksX1_lets_0 17 rfl rfl)
theorem dX1_lets_18 : decode cX1_lets 18 = .ok (.iaload, 1) := dk_46 (dk_at dksX1_lets_0 18 rfl rfl)
theorem dX1_lets_19 : decode cX1_lets 19 = .ok (.invokevirtual 161, 3) := dk_182 0 161 (dk_at dksX1_lets_0 19 rfl rfl)
theorem dX1_lets_22 : decode cX1_lets 22 = .ok (.lreturn, 1) := dk_173 (dk_at dksX1_lets_0 22 rfl rfl)
def dkwX1_holds_0 : List UInt8 := [27, 16, 16, 184, 0, 165, 42, 180, 0, 19, 180, 0, 168, 27, 47, 173]
abbrev dktX1_holds_0 : List UInt8 := dkwX1_holds_0 ++ []
theorem dksX1_holds_0 : cX1_holds.data.toList.drop 0 = dktX1_holds_0 := by decide +kernel
theorem dX1_holds_0 : decode cX1_holds 0 = .ok (.iload_n 1, 1) := dk_27 (dk_at dksX1_holds_0 0 rfl rfl)
theorem dX1_holds_1 : decode cX1_holds 1 = .ok (.bipush 16, 2) := dk_16 16 (dk_at dksX1_holds_0 1 rfl rfl)
theorem dX1_holds_3 : decode cX1_holds 3 = .ok (.invokestatic 165, 3) := dk_184 0 165 (dk_at dksX1_holds_0 3 rfl rfl)
theorem dX1_holds_6 : decode cX1_holds 6 = .ok (.aload_n 0, 1) := dk_42 (dk_at dksX1_holds_0 6 rfl rfl)
theorem dX1_holds_7 : decode cX1_holds 7 = .ok (.getfield 19, 3) := dk_180 0 19 (dk_at dksX1_holds_0 7 rfl rfl)
theorem dX1_holds_10 : decode cX1_holds 10 = .ok (.getfield 168, 3) := dk_180 0 168 (dk_at dksX1_holds_0 10 rfl rfl)
theorem dX1_holds_13 : decode cX1_holds 13 = .ok (.iload_n 1, 1) := dk_27 (dk_at dksX1_holds_0 13 rfl rfl)
theorem dX1_holds_14 : decode cX1_holds 14 = .ok (.laload, 1) := dk_47 (dk_at dksX1_holds_0 14 rfl rfl)
theorem dX1_holds_15 : decode cX1_holds 15 = .ok (.lreturn, 1) := dk_173 (dk_at dksX1_holds_0 15 rfl rfl)
def dkwX1_isCell_0 : List UInt8 := [26, 3, 27, 4, 100, 184, 0, 73, 184, 0, 77, 177]
abbrev dktX1_isCell_0 : List UInt8 := dkwX1_isCell_0 ++ []
theorem dksX1_isCell_0 : cX1_isCell.data.toList.drop 0 = dktX1_isCell_0 := by decide +kernel
theorem dX1_isCell_0 : decode cX1_isCell 0 = .ok (.iload_n 0, 1) := dk_26 (dk_at dksX1_isCell_0 0 rfl rfl)
theorem dX1_isCell_1 : decode cX1_isCell 1 = .ok (.iconst 0, 1) := dk_3 (dk_at dksX1_isCell_0 1 rfl rfl)
theorem dX1_isCell_2 : decode cX1_isCell 2 = .ok (.iload_n 1, 1) := dk_27 (dk_at dksX1_isCell_0 2 rfl rfl)
theorem dX1_isCell_3 : decode cX1_isCell 3 = .ok (.iconst 1, 1) := dk_4 (dk_at dksX1_isCell_0 3 rfl rfl)
theorem dX1_isCell_4 : decode cX1_isCell 4 = .ok (.isub, 1) := dk_100 (dk_at dksX1_isCell_0 4 rfl rfl)
theorem dX1_isCell_5 : decode cX1_isCell 5 = .ok (.invokestatic 73, 3) := dk_184 0 73 (dk_at dksX1_isCell_0 5 rfl rfl)
theorem dX1_isCell_8 : decode cX1_isCell 8 = .ok (.invokestatic 77, 3) := dk_184 0 77 (dk_at dksX1_isCell_0 8 rfl rfl)
theorem dX1_isCell_11 : decode cX1_isCell 11 = .ok (.return_, 1) := dk_177 (dk_at dksX1_isCell_0 11 rfl rfl)
def dkwX1_odd_1 : List UInt8 := [167, 0, 4, 3, 172]
abbrev dktX1_odd_1 : List UInt8 := dkwX1_odd_1 ++ []
def dkwX1_odd_0 : List UInt8 := [27, 16, 16, 184, 0, 165, 42, 180, 0, 19, 180, 0, 171, 27, 122, 4, 126, 4, 160, 0, 7, 4]
abbrev dktX1_odd_0 : List UInt8 := dkwX1_odd_0 ++ dktX1_odd_1
theorem dksX1_odd_0 : cX1_odd.data.toList.drop 0 = dktX1_odd_0 := by decide +kernel
theorem dksX1_odd_1 : cX1_odd.data.toList.drop 22 = dktX1_odd_1 := dk_seg dksX1_odd_0 22 rfl rfl
theorem dX1_odd_0 : decode cX1_odd 0 = .ok (.iload_n 1, 1) := dk_27 (dk_at dksX1_odd_0 0 rfl rfl)
theorem dX1_odd_1 : decode cX1_odd 1 = .ok (.bipush 16, 2) := dk_16 16 (dk_at dksX1_odd_0 1 rfl rfl)
theorem dX1_odd_3 : decode cX1_odd 3 = .ok (.invokestatic 165, 3) := dk_184 0 165 (dk_at dksX1_odd_0 3 rfl rfl)
theorem dX1_odd_6 : decode cX1_odd 6 = .ok (.aload_n 0, 1) := dk_42 (dk_at dksX1_odd_0 6 rfl rfl)
theorem dX1_odd_7 : decode cX1_odd 7 = .ok (.getfield 19, 3) := dk_180 0 19 (dk_at dksX1_odd_0 7 rfl rfl)
theorem dX1_odd_10 : decode cX1_odd 10 = .ok (.getfield 171, 3) := dk_180 0 171 (dk_at dksX1_odd_0 10 rfl rfl)
theorem dX1_odd_13 : decode cX1_odd 13 = .ok (.iload_n 1, 1) := dk_27 (dk_at dksX1_odd_0 13 rfl rfl)
theorem dX1_odd_14 : decode cX1_odd 14 = .ok (.ishr, 1) := dk_122 (dk_at dksX1_odd_0 14 rfl rfl)
theorem dX1_odd_15 : decode cX1_odd 15 = .ok (.iconst 1, 1) := dk_4 (dk_at dksX1_odd_0 15 rfl rfl)
theorem dX1_odd_16 : decode cX1_odd 16 = .ok (.iand, 1) := dk_126 (dk_at dksX1_odd_0 16 rfl rfl)
theorem dX1_odd_17 : decode cX1_odd 17 = .ok (.iconst 1, 1) := dk_4 (dk_at dksX1_odd_0 17 rfl rfl)
theorem dX1_odd_18 : decode cX1_odd 18 = .ok (.if_icmp .ne 7, 3) := dk_160 0 7 (dk_at dksX1_odd_0 18 rfl rfl)
theorem dX1_odd_21 : decode cX1_odd 21 = .ok (.iconst 1, 1) := dk_4 (dk_at dksX1_odd_0 21 rfl rfl)
theorem dX1_odd_22 : decode cX1_odd 22 = .ok (.goto 4, 3) := dk_167 0 4 (dk_at dksX1_odd_1 0 rfl rfl)
theorem dX1_odd_25 : decode cX1_odd 25 = .ok (.iconst 0, 1) := dk_3 (dk_at dksX1_odd_1 3 rfl rfl)
theorem dX1_odd_26 : decode cX1_odd 26 = .ok (.ireturn, 1) := dk_172 (dk_at dksX1_odd_1 4 rfl rfl)
def dkwX1_bend_4 : List UInt8 := [96, 181, 0, 174, 42, 180, 0, 19, 180, 0, 174, 4, 100, 172]
abbrev dktX1_bend_4 : List UInt8 := dkwX1_bend_4 ++ []
def dkwX1_bend_3 : List UInt8 := [180, 0, 19, 180, 0, 186, 42, 180, 0, 19, 180, 0, 174, 29, 79, 42, 180, 0, 19, 89, 180, 0, 174, 4]
abbrev dktX1_bend_3 : List UInt8 := dkwX1_bend_3 ++ dktX1_bend_4
def dkwX1_bend_2 : List UInt8 := [180, 0, 174, 27, 79, 42, 180, 0, 19, 180, 0, 183, 42, 180, 0, 19, 180, 0, 174, 28, 79, 42]
abbrev dktX1_bend_2 : List UInt8 := dkwX1_bend_2 ++ dktX1_bend_3
def dkwX1_bend_1 : List UInt8 := [16, 8, 162, 0, 7, 4, 167, 0, 4, 3, 184, 0, 177, 42, 180, 0, 19, 180, 0, 180, 42, 180, 0, 19]
abbrev dktX1_bend_1 : List UInt8 := dkwX1_bend_1 ++ dktX1_bend_2
def dkwX1_bend_0 : List UInt8 := [28, 16, 17, 184, 0, 165, 27, 3, 17, 1, 43, 184, 0, 73, 184, 0, 148, 42, 180, 0, 19, 180, 0, 174]
abbrev dktX1_bend_0 : List UInt8 := dkwX1_bend_0 ++ dktX1_bend_1
theorem dksX1_bend_0 : cX1_bend.data.toList.drop 0 = dktX1_bend_0 := by decide +kernel
theorem dksX1_bend_1 : cX1_bend.data.toList.drop 24 = dktX1_bend_1 := dk_seg dksX1_bend_0 24 rfl rfl
theorem dksX1_bend_2 : cX1_bend.data.toList.drop 48 = dktX1_bend_2 := dk_seg dksX1_bend_1 24 rfl rfl
theorem dksX1_bend_3 : cX1_bend.data.toList.drop 70 = dktX1_bend_3 := dk_seg dksX1_bend_2 22 rfl rfl
theorem dksX1_bend_4 : cX1_bend.data.toList.drop 94 = dktX1_bend_4 := dk_seg dksX1_bend_3 24 rfl rfl
theorem dX1_bend_0 : decode cX1_bend 0 = .ok (.iload_n 2, 1) := dk_28 (dk_at dksX1_bend_0 0 rfl rfl)
theorem dX1_bend_1 : decode cX1_bend 1 = .ok (.bipush 17, 2) := dk_16 17 (dk_at dksX1_bend_0 1 rfl rfl)
theorem dX1_bend_3 : decode cX1_bend 3 = .ok (.invokestatic 165, 3) := dk_184 0 165 (dk_at dksX1_bend_0 3 rfl rfl)
theorem dX1_bend_6 : decode cX1_bend 6 = .ok (.iload_n 1, 1) := dk_27 (dk_at dksX1_bend_0 6 rfl rfl)
theorem dX1_bend_7 : decode cX1_bend 7 = .ok (.iconst 0, 1) := dk_3 (dk_at dksX1_bend_0 7 rfl rfl)
theorem dX1_bend_8 : decode cX1_bend 8 = .ok (.sipush 299, 3) := dk_17 1 43 (dk_at dksX1_bend_0 8 rfl rfl)
theorem dX1_bend_11 : decode cX1_bend 11 = .ok (.invokestatic 73, 3) := dk_184 0 73 (dk_at dksX1_bend_0 11 rfl rfl)
theorem dX1_bend_14 : decode cX1_bend 14 = .ok (.invokestatic 148, 3) := dk_184 0 148 (dk_at dksX1_bend_0 14 rfl rfl)
theorem dX1_bend_17 : decode cX1_bend 17 = .ok (.aload_n 0, 1) := dk_42 (dk_at dksX1_bend_0 17 rfl rfl)
theorem dX1_bend_18 : decode cX1_bend 18 = .ok (.getfield 19, 3) := dk_180 0 19 (dk_at dksX1_bend_0 18 rfl rfl)
theorem dX1_bend_21 : decode cX1_bend 21 = .ok (.getfield 174, 3) := dk_180 0 174 (dk_at dksX1_bend_0 21 rfl rfl)
theorem dX1_bend_24 : decode cX1_bend 24 = .ok (.bipush 8, 2) := dk_16 8 (dk_at dksX1_bend_1 0 rfl rfl)
theorem dX1_bend_26 : decode cX1_bend 26 = .ok (.if_icmp .ge 7, 3) := dk_162 0 7 (dk_at dksX1_bend_1 2 rfl rfl)
theorem dX1_bend_29 : decode cX1_bend 29 = .ok (.iconst 1, 1) := dk_4 (dk_at dksX1_bend_1 5 rfl rfl)
theorem dX1_bend_30 : decode cX1_bend 30 = .ok (.goto 4, 3) := dk_167 0 4 (dk_at dksX1_bend_1 6 rfl rfl)
theorem dX1_bend_33 : decode cX1_bend 33 = .ok (.iconst 0, 1) := dk_3 (dk_at dksX1_bend_1 9 rfl rfl)
theorem dX1_bend_34 : decode cX1_bend 34 = .ok (.invokestatic 177, 3) := dk_184 0 177 (dk_at dksX1_bend_1 10 rfl rfl)
theorem dX1_bend_37 : decode cX1_bend 37 = .ok (.aload_n 0, 1) := dk_42 (dk_at dksX1_bend_1 13 rfl rfl)
theorem dX1_bend_38 : decode cX1_bend 38 = .ok (.getfield 19, 3) := dk_180 0 19 (dk_at dksX1_bend_1 14 rfl rfl)
theorem dX1_bend_41 : decode cX1_bend 41 = .ok (.getfield 180, 3) := dk_180 0 180 (dk_at dksX1_bend_1 17 rfl rfl)
theorem dX1_bend_44 : decode cX1_bend 44 = .ok (.aload_n 0, 1) := dk_42 (dk_at dksX1_bend_1 20 rfl rfl)
theorem dX1_bend_45 : decode cX1_bend 45 = .ok (.getfield 19, 3) := dk_180 0 19 (dk_at dksX1_bend_1 21 rfl rfl)
theorem dX1_bend_48 : decode cX1_bend 48 = .ok (.getfield 174, 3) := dk_180 0 174 (dk_at dksX1_bend_2 0 rfl rfl)
theorem dX1_bend_51 : decode cX1_bend 51 = .ok (.iload_n 1, 1) := dk_27 (dk_at dksX1_bend_2 3 rfl rfl)
theorem dX1_bend_52 : decode cX1_bend 52 = .ok (.iastore, 1) := dk_79 (dk_at dksX1_bend_2 4 rfl rfl)
theorem dX1_bend_53 : decode cX1_bend 53 = .ok (.aload_n 0, 1) := dk_42 (dk_at dksX1_bend_2 5 rfl rfl)
theorem dX1_bend_54 : decode cX1_bend 54 = .ok (.getfield 19, 3) := dk_180 0 19 (dk_at dksX1_bend_2 6 rfl rfl)
theorem dX1_bend_57 : decode cX1_bend 57 = .ok (.getfield 183, 3) := dk_180 0 183 (dk_at dksX1_bend_2 9 rfl rfl)
theorem dX1_bend_60 : decode cX1_bend 60 = .ok (.aload_n 0, 1) := dk_42 (dk_at dksX1_bend_2 12 rfl rfl)
theorem dX1_bend_61 : decode cX1_bend 61 = .ok (.getfield 19, 3) := dk_180 0 19 (dk_at dksX1_bend_2 13 rfl rfl)
theorem dX1_bend_64 : decode cX1_bend 64 = .ok (.getfield 174, 3) := dk_180 0 174 (dk_at dksX1_bend_2 16 rfl rfl)
theorem dX1_bend_67 : decode cX1_bend 67 = .ok (.iload_n 2, 1) := dk_28 (dk_at dksX1_bend_2 19 rfl rfl)
theorem dX1_bend_68 : decode cX1_bend 68 = .ok (.iastore, 1) := dk_79 (dk_at dksX1_bend_2 20 rfl rfl)
theorem dX1_bend_69 : decode cX1_bend 69 = .ok (.aload_n 0, 1) := dk_42 (dk_at dksX1_bend_2 21 rfl rfl)
theorem dX1_bend_70 : decode cX1_bend 70 = .ok (.getfield 19, 3) := dk_180 0 19 (dk_at dksX1_bend_3 0 rfl rfl)
theorem dX1_bend_73 : decode cX1_bend 73 = .ok (.getfield 186, 3) := dk_180 0 186 (dk_at dksX1_bend_3 3 rfl rfl)
theorem dX1_bend_76 : decode cX1_bend 76 = .ok (.aload_n 0, 1) := dk_42 (dk_at dksX1_bend_3 6 rfl rfl)
theorem dX1_bend_77 : decode cX1_bend 77 = .ok (.getfield 19, 3) := dk_180 0 19 (dk_at dksX1_bend_3 7 rfl rfl)
theorem dX1_bend_80 : decode cX1_bend 80 = .ok (.getfield 174, 3) := dk_180 0 174 (dk_at dksX1_bend_3 10 rfl rfl)
theorem dX1_bend_83 : decode cX1_bend 83 = .ok (.iload_n 3, 1) := dk_29 (dk_at dksX1_bend_3 13 rfl rfl)
theorem dX1_bend_84 : decode cX1_bend 84 = .ok (.iastore, 1) := dk_79 (dk_at dksX1_bend_3 14 rfl rfl)
theorem dX1_bend_85 : decode cX1_bend 85 = .ok (.aload_n 0, 1) := dk_42 (dk_at dksX1_bend_3 15 rfl rfl)
theorem dX1_bend_86 : decode cX1_bend 86 = .ok (.getfield 19, 3) := dk_180 0 19 (dk_at dksX1_bend_3 16 rfl rfl)
theorem dX1_bend_89 : decode cX1_bend 89 = .ok (.dup, 1) := dk_89 (dk_at dksX1_bend_3 19 rfl rfl)
theorem dX1_bend_90 : decode cX1_bend 90 = .ok (.getfield 174, 3) := dk_180 0 174 (dk_at dksX1_bend_3 20 rfl rfl)
theorem dX1_bend_93 : decode cX1_bend 93 = .ok (.iconst 1, 1) := dk_4 (dk_at dksX1_bend_3 23 rfl rfl)
theorem dX1_bend_94 : decode cX1_bend 94 = .ok (.iadd, 1) := dk_96 (dk_at dksX1_bend_4 0 rfl rfl)
theorem dX1_bend_95 : decode cX1_bend 95 = .ok (.putfield 174, 3) := dk_181 0 174 (dk_at dksX1_bend_4 1 rfl rfl)
theorem dX1_bend_98 : decode cX1_bend 98 = .ok (.aload_n 0, 1) := dk_42 (dk_at dksX1_bend_4 4 rfl rfl)
theorem dX1_bend_99 : decode cX1_bend 99 = .ok (.getfield 19, 3) := dk_180 0 19 (dk_at dksX1_bend_4 5 rfl rfl)
theorem dX1_bend_102 : decode cX1_bend 102 = .ok (.getfield 174, 3) := dk_180 0 174 (dk_at dksX1_bend_4 8 rfl rfl)
theorem dX1_bend_105 : decode cX1_bend 105 = .ok (.iconst 1, 1) := dk_4 (dk_at dksX1_bend_4 11 rfl rfl)
theorem dX1_bend_106 : decode cX1_bend 106 = .ok (.isub, 1) := dk_100 (dk_at dksX1_bend_4 12 rfl rfl)
theorem dX1_bend_107 : decode cX1_bend 107 = .ok (.ireturn, 1) := dk_172 (dk_at dksX1_bend_4 13 rfl rfl)
def dkwX1_mayBe_0 : List UInt8 := [26, 154, 0, 11, 187, 0, 61, 89, 183, 0, 63, 191, 177]
abbrev dktX1_mayBe_0 : List UInt8 := dkwX1_mayBe_0 ++ []
theorem dksX1_mayBe_0 : cX1_mayBe.data.toList.drop 0 = dktX1_mayBe_0 := by decide +kernel
theorem dX1_mayBe_0 : decode cX1_mayBe 0 = .ok (.iload_n 0, 1) := dk_26 (dk_at dksX1_mayBe_0 0 rfl rfl)
theorem dX1_mayBe_1 : decode cX1_mayBe 1 = .ok (.ifCond .ne 11, 3) := dk_154 0 11 (dk_at dksX1_mayBe_0 1 rfl rfl)
theorem dX1_mayBe_4 : decode cX1_mayBe 4 = .ok (.new 61, 3) := dk_187 0 61 (dk_at dksX1_mayBe_0 4 rfl rfl)
theorem dX1_mayBe_7 : decode cX1_mayBe 7 = .ok (.dup, 1) := dk_89 (dk_at dksX1_mayBe_0 7 rfl rfl)
theorem dX1_mayBe_8 : decode cX1_mayBe 8 = .ok (.invokespecial 63, 3) := dk_183 0 63 (dk_at dksX1_mayBe_0 8 rfl rfl)
theorem dX1_mayBe_11 : decode cX1_mayBe 11 = .ok (.athrow, 1) := dk_191 (dk_at dksX1_mayBe_0 11 rfl rfl)
theorem dX1_mayBe_12 : decode cX1_mayBe 12 = .ok (.return_, 1) := dk_177 (dk_at dksX1_mayBe_0 12 rfl rfl)
def dkwX1_run_4 : List UInt8 := [42, 180, 0, 31, 180, 0, 213, 172, 42, 180, 0, 31, 180, 0, 216, 172]
abbrev dktX1_run_4 : List UInt8 := dkwX1_run_4 ++ []
def dkwX1_run_3 : List UInt8 := [42, 180, 0, 31, 180, 0, 204, 172, 42, 180, 0, 31, 180, 0, 207, 172, 42, 180, 0, 31, 180, 0, 210, 172]
abbrev dktX1_run_3 : List UInt8 := dkwX1_run_3 ++ dktX1_run_4
def dkwX1_run_2 : List UInt8 := [42, 180, 0, 31, 180, 0, 196, 172, 42, 180, 0, 31, 180, 0, 199, 172, 42, 180, 0, 31, 180, 0, 202, 172]
abbrev dktX1_run_2 : List UInt8 := dkwX1_run_2 ++ dktX1_run_3
def dkwX1_run_1 : List UInt8 := [170, 0, 0, 0, 0, 0, 0, 100, 0, 0, 0, 0, 0, 0, 0, 6, 0, 0, 0, 44, 0, 0, 0, 52, 0, 0, 0, 60, 0, 0, 0, 68, 0, 0, 0, 76, 0, 0, 0, 84, 0, 0, 0, 92]
abbrev dktX1_run_1 : List UInt8 := dkwX1_run_1 ++ dktX1_run_2
def dkwX1_run_0 : List UInt8 := [28, 3, 16, 7, 184, 0, 73, 184, 0, 189, 42, 180, 0, 31, 27, 4, 182, 0, 192, 28]
abbrev dktX1_run_0 : List UInt8 := dkwX1_run_0 ++ dktX1_run_1
theorem dksX1_run_0 : cX1_run.data.toList.drop 0 = dktX1_run_0 := by decide +kernel
theorem dksX1_run_1 : cX1_run.data.toList.drop 20 = dktX1_run_1 := dk_seg dksX1_run_0 20 rfl rfl
theorem dksX1_run_2 : cX1_run.data.toList.drop 64 = dktX1_run_2 := dk_seg dksX1_run_1 44 rfl rfl
theorem dksX1_run_3 : cX1_run.data.toList.drop 88 = dktX1_run_3 := dk_seg dksX1_run_2 24 rfl rfl
theorem dksX1_run_4 : cX1_run.data.toList.drop 112 = dktX1_run_4 := dk_seg dksX1_run_3 24 rfl rfl
theorem dX1_run_0 : decode cX1_run 0 = .ok (.iload_n 2, 1) := dk_28 (dk_at dksX1_run_0 0 rfl rfl)
theorem dX1_run_1 : decode cX1_run 1 = .ok (.iconst 0, 1) := dk_3 (dk_at dksX1_run_0 1 rfl rfl)
theorem dX1_run_2 : decode cX1_run 2 = .ok (.bipush 7, 2) := dk_16 7 (dk_at dksX1_run_0 2 rfl rfl)
theorem dX1_run_4 : decode cX1_run 4 = .ok (.invokestatic 73, 3) := dk_184 0 73 (dk_at dksX1_run_0 4 rfl rfl)
theorem dX1_run_7 : decode cX1_run 7 = .ok (.invokestatic 189, 3) := dk_184 0 189 (dk_at dksX1_run_0 7 rfl rfl)
theorem dX1_run_10 : decode cX1_run 10 = .ok (.aload_n 0, 1) := dk_42 (dk_at dksX1_run_0 10 rfl rfl)
theorem dX1_run_11 : decode cX1_run 11 = .ok (.getfield 31, 3) := dk_180 0 31 (dk_at dksX1_run_0 11 rfl rfl)
theorem dX1_run_14 : decode cX1_run 14 = .ok (.iload_n 1, 1) := dk_27 (dk_at dksX1_run_0 14 rfl rfl)
theorem dX1_run_15 : decode cX1_run 15 = .ok (.iconst 1, 1) := dk_4 (dk_at dksX1_run_0 15 rfl rfl)
theorem dX1_run_16 : decode cX1_run 16 = .ok (.invokevirtual 192, 3) := dk_182 0 192 (dk_at dksX1_run_0 16 rfl rfl)
theorem dX1_run_19 : decode cX1_run 19 = .ok (.iload_n 2, 1) := dk_28 (dk_at dksX1_run_0 19 rfl rfl)
theorem dX1_run_20 : decode cX1_run 20 = .ok (.tableswitch 100 0 6 #[44, 52, 60, 68, 76, 84, 92], 44) := by decide +kernel
theorem dX1_run_64 : decode cX1_run 64 = .ok (.aload_n 0, 1) := dk_42 (dk_at dksX1_run_2 0 rfl rfl)
theorem dX1_run_65 : decode cX1_run 65 = .ok (.getfield 31, 3) := dk_180 0 31 (dk_at dksX1_run_2 1 rfl rfl)
theorem dX1_run_68 : decode cX1_run 68 = .ok (.getfield 196, 3) := dk_180 0 196 (dk_at dksX1_run_2 4 rfl rfl)
theorem dX1_run_71 : decode cX1_run 71 = .ok (.ireturn, 1) := dk_172 (dk_at dksX1_run_2 7 rfl rfl)
theorem dX1_run_72 : decode cX1_run 72 = .ok (.aload_n 0, 1) := dk_42 (dk_at dksX1_run_2 8 rfl rfl)
theorem dX1_run_73 : decode cX1_run 73 = .ok (.getfield 31, 3) := dk_180 0 31 (dk_at dksX1_run_2 9 rfl rfl)
theorem dX1_run_76 : decode cX1_run 76 = .ok (.getfield 199, 3) := dk_180 0 199 (dk_at dksX1_run_2 12 rfl rfl)
theorem dX1_run_79 : decode cX1_run 79 = .ok (.ireturn, 1) := dk_172 (dk_at dksX1_run_2 15 rfl rfl)
theorem dX1_run_80 : decode cX1_run 80 = .ok (.aload_n 0, 1) := dk_42 (dk_at dksX1_run_2 16 rfl rfl)
theorem dX1_run_81 : decode cX1_run 81 = .ok (.getfield 31, 3) := dk_180 0 31 (dk_at dksX1_run_2 17 rfl rfl)
theorem dX1_run_84 : decode cX1_run 84 = .ok (.getfield 202, 3) := dk_180 0 202 (dk_at dksX1_run_2 20 rfl rfl)
theorem dX1_run_87 : decode cX1_run 87 = .ok (.ireturn, 1) := dk_172 (dk_at dksX1_run_2 23 rfl rfl)
theorem dX1_run_88 : decode cX1_run 88 = .ok (.aload_n 0, 1) := dk_42 (dk_at dksX1_run_3 0 rfl rfl)
theorem dX1_run_89 : decode cX1_run 89 = .ok (.getfield 31, 3) := dk_180 0 31 (dk_at dksX1_run_3 1 rfl rfl)
theorem dX1_run_92 : decode cX1_run 92 = .ok (.getfield 204, 3) := dk_180 0 204 (dk_at dksX1_run_3 4 rfl rfl)
theorem dX1_run_95 : decode cX1_run 95 = .ok (.ireturn, 1) := dk_172 (dk_at dksX1_run_3 7 rfl rfl)
theorem dX1_run_96 : decode cX1_run 96 = .ok (.aload_n 0, 1) := dk_42 (dk_at dksX1_run_3 8 rfl rfl)
theorem dX1_run_97 : decode cX1_run 97 = .ok (.getfield 31, 3) := dk_180 0 31 (dk_at dksX1_run_3 9 rfl rfl)
theorem dX1_run_100 : decode cX1_run 100 = .ok (.getfield 207, 3) := dk_180 0 207 (dk_at dksX1_run_3 12 rfl rfl)
theorem dX1_run_103 : decode cX1_run 103 = .ok (.ireturn, 1) := dk_172 (dk_at dksX1_run_3 15 rfl rfl)
theorem dX1_run_104 : decode cX1_run 104 = .ok (.aload_n 0, 1) := dk_42 (dk_at dksX1_run_3 16 rfl rfl)
theorem dX1_run_105 : decode cX1_run 105 = .ok (.getfield 31, 3) := dk_180 0 31 (dk_at dksX1_run_3 17 rfl rfl)
theorem dX1_run_108 : decode cX1_run 108 = .ok (.getfield 210, 3) := dk_180 0 210 (dk_at dksX1_run_3 20 rfl rfl)
theorem dX1_run_111 : decode cX1_run 111 = .ok (.ireturn, 1) := dk_172 (dk_at dksX1_run_3 23 rfl rfl)
theorem dX1_run_112 : decode cX1_run 112 = .ok (.aload_n 0, 1) := dk_42 (dk_at dksX1_run_4 0 rfl rfl)
theorem dX1_run_113 : decode cX1_run 113 = .ok (.getfield 31, 3) := dk_180 0 31 (dk_at dksX1_run_4 1 rfl rfl)
theorem dX1_run_116 : decode cX1_run 116 = .ok (.getfield 213, 3) := dk_180 0 213 (dk_at dksX1_run_4 4 rfl rfl)
theorem dX1_run_119 : decode cX1_run 119 = .ok (.ireturn, 1) := dk_172 (dk_at dksX1_run_4 7 rfl rfl)
theorem dX1_run_120 : decode cX1_run 120 = .ok (.aload_n 0, 1) := dk_42 (dk_at dksX1_run_4 8 rfl rfl)
theorem dX1_run_121 : decode cX1_run 121 = .ok (.getfield 31, 3) := dk_180 0 31 (dk_at dksX1_run_4 9 rfl rfl)
theorem dX1_run_124 : decode cX1_run 124 = .ok (.getfield 216, 3) := dk_180 0 216 (dk_at dksX1_run_4 12 rfl rfl)
theorem dX1_run_127 : decode cX1_run 127 = .ok (.ireturn, 1) := dk_172 (dk_at dksX1_run_4 15 rfl rfl)
def dkwX1_thereIs_0 : List UInt8 := [26, 154, 0, 11, 187, 0, 67, 89, 183, 0, 69, 191, 177]
abbrev dktX1_thereIs_0 : List UInt8 := dkwX1_thereIs_0 ++ []
theorem dksX1_thereIs_0 : cX1_thereIs.data.toList.drop 0 = dktX1_thereIs_0 := by decide +kernel
theorem dX1_thereIs_0 : decode cX1_thereIs 0 = .ok (.iload_n 0, 1) := dk_26 (dk_at dksX1_thereIs_0 0 rfl rfl)
theorem dX1_thereIs_1 : decode cX1_thereIs 1 = .ok (.ifCond .ne 11, 3) := dk_154 0 11 (dk_at dksX1_thereIs_0 1 rfl rfl)
theorem dX1_thereIs_4 : decode cX1_thereIs 4 = .ok (.new 67, 3) := dk_187 0 67 (dk_at dksX1_thereIs_0 4 rfl rfl)
theorem dX1_thereIs_7 : decode cX1_thereIs 7 = .ok (.dup, 1) := dk_89 (dk_at dksX1_thereIs_0 7 rfl rfl)
theorem dX1_thereIs_8 : decode cX1_thereIs 8 = .ok (.invokespecial 69, 3) := dk_183 0 69 (dk_at dksX1_thereIs_0 8 rfl rfl)
theorem dX1_thereIs_11 : decode cX1_thereIs 11 = .ok (.athrow, 1) := dk_191 (dk_at dksX1_thereIs_0 11 rfl rfl)
theorem dX1_thereIs_12 : decode cX1_thereIs 12 = .ok (.return_, 1) := dk_177 (dk_at dksX1_thereIs_0 12 rfl rfl)
def dkwX1_cell_1 : List UInt8 := [172]
abbrev dktX1_cell_1 : List UInt8 := dkwX1_cell_1 ++ []
def dkwX1_cell_0 : List UInt8 := [28, 16, 16, 184, 0, 165, 42, 180, 0, 31, 27, 4, 182, 0, 192, 42, 180, 0, 31, 180, 0, 226, 28, 46]
abbrev dktX1_cell_0 : List UInt8 := dkwX1_cell_0 ++ dktX1_cell_1
theorem dksX1_cell_0 : cX1_cell.data.toList.drop 0 = dktX1_cell_0 := by decide +kernel
theorem dksX1_cell_1 : cX1_cell.data.toList.drop 24 = dktX1_cell_1 := dk_seg dksX1_cell_0 24 rfl rfl
theorem dX1_cell_0 : decode cX1_cell 0 = .ok (.iload_n 2, 1) := dk_28 (dk_at dksX1_cell_0 0 rfl rfl)
theorem dX1_cell_1 : decode cX1_cell 1 = .ok (.bipush 16, 2) := dk_16 16 (dk_at dksX1_cell_0 1 rfl rfl)
theorem dX1_cell_3 : decode cX1_cell 3 = .ok (.invokestatic 165, 3) := dk_184 0 165 (dk_at dksX1_cell_0 3 rfl rfl)
theorem dX1_cell_6 : decode cX1_cell 6 = .ok (.aload_n 0, 1) := dk_42 (dk_at dksX1_cell_0 6 rfl rfl)
theorem dX1_cell_7 : decode cX1_cell 7 = .ok (.getfield 31, 3) := dk_180 0 31 (dk_at dksX1_cell_0 7 rfl rfl)
theorem dX1_cell_10 : decode cX1_cell 10 = .ok (.iload_n 1, 1) := dk_27 (dk_at dksX1_cell_0 10 rfl rfl)
theorem dX1_cell_11 : decode cX1_cell 11 = .ok (.iconst 1, 1) := dk_4 (dk_at dksX1_cell_0 11 rfl rfl)
theorem dX1_cell_12 : decode cX1_cell 12 = .ok (.invokevirtual 192, 3) := dk_182 0 192 (dk_at dksX1_cell_0 12 rfl rfl)
theorem dX1_cell_15 : decode cX1_cell 15 = .ok (.aload_n 0, 1) := dk_42 (dk_at dksX1_cell_0 15 rfl rfl)
theorem dX1_cell_16 : decode cX1_cell 16 = .ok (.getfield 31, 3) := dk_180 0 31 (dk_at dksX1_cell_0 16 rfl rfl)
theorem dX1_cell_19 : decode cX1_cell 19 = .ok (.getfield 226, 3) := dk_180 0 226 (dk_at dksX1_cell_0 19 rfl rfl)
theorem dX1_cell_22 : decode cX1_cell 22 = .ok (.iload_n 2, 1) := dk_28 (dk_at dksX1_cell_0 22 rfl rfl)
theorem dX1_cell_23 : decode cX1_cell 23 = .ok (.iaload, 1) := dk_46 (dk_at dksX1_cell_0 23 rfl rfl)
theorem dX1_cell_24 : decode cX1_cell 24 = .ok (.ireturn, 1) := dk_172 (dk_at dksX1_cell_1 0 rfl rfl)
def dkwX1_power_3 : List UInt8 := [96, 181, 0, 98, 42, 180, 0, 19, 180, 0, 98, 4, 100, 172]
abbrev dktX1_power_3 : List UInt8 := dkwX1_power_3 ++ []
def dkwX1_power_2 : List UInt8 := [180, 0, 19, 180, 0, 233, 42, 180, 0, 19, 180, 0, 98, 28, 84, 42, 180, 0, 19, 89, 180, 0, 98, 4]
abbrev dktX1_power_2 : List UInt8 := dkwX1_power_2 ++ dktX1_power_3
def dkwX1_power_1 : List UInt8 := [167, 0, 4, 3, 184, 0, 177, 42, 180, 0, 19, 180, 0, 230, 42, 180, 0, 19, 180, 0, 98, 27, 79, 42]
abbrev dktX1_power_1 : List UInt8 := dkwX1_power_1 ++ dktX1_power_2
def dkwX1_power_0 : List UInt8 := [27, 3, 18, 229, 184, 0, 73, 184, 0, 148, 42, 180, 0, 19, 180, 0, 98, 16, 6, 162, 0, 7, 4]
abbrev dktX1_power_0 : List UInt8 := dkwX1_power_0 ++ dktX1_power_1
theorem dksX1_power_0 : cX1_power.data.toList.drop 0 = dktX1_power_0 := by decide +kernel
theorem dksX1_power_1 : cX1_power.data.toList.drop 23 = dktX1_power_1 := dk_seg dksX1_power_0 23 rfl rfl
theorem dksX1_power_2 : cX1_power.data.toList.drop 47 = dktX1_power_2 := dk_seg dksX1_power_1 24 rfl rfl
theorem dksX1_power_3 : cX1_power.data.toList.drop 71 = dktX1_power_3 := dk_seg dksX1_power_2 24 rfl rfl
theorem dX1_power_0 : decode cX1_power 0 = .ok (.iload_n 1, 1) := dk_27 (dk_at dksX1_power_0 0 rfl rfl)
theorem dX1_power_1 : decode cX1_power 1 = .ok (.iconst 0, 1) := dk_3 (dk_at dksX1_power_0 1 rfl rfl)
theorem dX1_power_2 : decode cX1_power 2 = .ok (.ldc 229, 2) := dk_18 229 (dk_at dksX1_power_0 2 rfl rfl)
theorem dX1_power_4 : decode cX1_power 4 = .ok (.invokestatic 73, 3) := dk_184 0 73 (dk_at dksX1_power_0 4 rfl rfl)
theorem dX1_power_7 : decode cX1_power 7 = .ok (.invokestatic 148, 3) := dk_184 0 148 (dk_at dksX1_power_0 7 rfl rfl)
theorem dX1_power_10 : decode cX1_power 10 = .ok (.aload_n 0, 1) := dk_42 (dk_at dksX1_power_0 10 rfl rfl)
theorem dX1_power_11 : decode cX1_power 11 = .ok (.getfield 19, 3) := dk_180 0 19 (dk_at dksX1_power_0 11 rfl rfl)
theorem dX1_power_14 : decode cX1_power 14 = .ok (.getfield 98, 3) := dk_180 0 98 (dk_at dksX1_power_0 14 rfl rfl)
theorem dX1_power_17 : decode cX1_power 17 = .ok (.bipush 6, 2) := dk_16 6 (dk_at dksX1_power_0 17 rfl rfl)
theorem dX1_power_19 : decode cX1_power 19 = .ok (.if_icmp .ge 7, 3) := dk_162 0 7 (dk_at dksX1_power_0 19 rfl rfl)
theorem dX1_power_22 : decode cX1_power 22 = .ok (.iconst 1, 1) := dk_4 (dk_at dksX1_power_0 22 rfl rfl)
theorem dX1_power_23 : decode cX1_power 23 = .ok (.goto 4, 3) := dk_167 0 4 (dk_at dksX1_power_1 0 rfl rfl)
theorem dX1_power_26 : decode cX1_power 26 = .ok (.iconst 0, 1) := dk_3 (dk_at dksX1_power_1 3 rfl rfl)
theorem dX1_power_27 : decode cX1_power 27 = .ok (.invokestatic 177, 3) := dk_184 0 177 (dk_at dksX1_power_1 4 rfl rfl)
theorem dX1_power_30 : decode cX1_power 30 = .ok (.aload_n 0, 1) := dk_42 (dk_at dksX1_power_1 7 rfl rfl)
theorem dX1_power_31 : decode cX1_power 31 = .ok (.getfield 19, 3) := dk_180 0 19 (dk_at dksX1_power_1 8 rfl rfl)
theorem dX1_power_34 : decode cX1_power 34 = .ok (.getfield 230, 3) := dk_180 0 230 (dk_at dksX1_power_1 11 rfl rfl)
theorem dX1_power_37 : decode cX1_power 37 = .ok (.aload_n 0, 1) := dk_42 (dk_at dksX1_power_1 14 rfl rfl)
theorem dX1_power_38 : decode cX1_power 38 = .ok (.getfield 19, 3) := dk_180 0 19 (dk_at dksX1_power_1 15 rfl rfl)
theorem dX1_power_41 : decode cX1_power 41 = .ok (.getfield 98, 3) := dk_180 0 98 (dk_at dksX1_power_1 18 rfl rfl)
theorem dX1_power_44 : decode cX1_power 44 = .ok (.iload_n 1, 1) := dk_27 (dk_at dksX1_power_1 21 rfl rfl)
theorem dX1_power_45 : decode cX1_power 45 = .ok (.iastore, 1) := dk_79 (dk_at dksX1_power_1 22 rfl rfl)
theorem dX1_power_46 : decode cX1_power 46 = .ok (.aload_n 0, 1) := dk_42 (dk_at dksX1_power_1 23 rfl rfl)
theorem dX1_power_47 : decode cX1_power 47 = .ok (.getfield 19, 3) := dk_180 0 19 (dk_at dksX1_power_2 0 rfl rfl)
theorem dX1_power_50 : decode cX1_power 50 = .ok (.getfield 233, 3) := dk_180 0 233 (dk_at dksX1_power_2 3 rfl rfl)
theorem dX1_power_53 : decode cX1_power 53 = .ok (.aload_n 0, 1) := dk_42 (dk_at dksX1_power_2 6 rfl rfl)
theorem dX1_power_54 : decode cX1_power 54 = .ok (.getfield 19, 3) := dk_180 0 19 (dk_at dksX1_power_2 7 rfl rfl)
theorem dX1_power_57 : decode cX1_power 57 = .ok (.getfield 98, 3) := dk_180 0 98 (dk_at dksX1_power_2 10 rfl rfl)
theorem dX1_power_60 : decode cX1_power 60 = .ok (.iload_n 2, 1) := dk_28 (dk_at dksX1_power_2 13 rfl rfl)
theorem dX1_power_61 : decode cX1_power 61 = .ok (.bastore, 1) := dk_84 (dk_at dksX1_power_2 14 rfl rfl)
theorem dX1_power_62 : decode cX1_power 62 = .ok (.aload_n 0, 1) := dk_42 (dk_at dksX1_power_2 15 rfl rfl)
theorem dX1_power_63 : decode cX1_power 63 = .ok (.getfield 19, 3) := dk_180 0 19 (dk_at dksX1_power_2 16 rfl rfl)
theorem dX1_power_66 : decode cX1_power 66 = .ok (.dup, 1) := dk_89 (dk_at dksX1_power_2 19 rfl rfl)
theorem dX1_power_67 : decode cX1_power 67 = .ok (.getfield 98, 3) := dk_180 0 98 (dk_at dksX1_power_2 20 rfl rfl)
theorem dX1_power_70 : decode cX1_power 70 = .ok (.iconst 1, 1) := dk_4 (dk_at dksX1_power_2 23 rfl rfl)
theorem dX1_power_71 : decode cX1_power 71 = .ok (.iadd, 1) := dk_96 (dk_at dksX1_power_3 0 rfl rfl)
theorem dX1_power_72 : decode cX1_power 72 = .ok (.putfield 98, 3) := dk_181 0 98 (dk_at dksX1_power_3 1 rfl rfl)
theorem dX1_power_75 : decode cX1_power 75 = .ok (.aload_n 0, 1) := dk_42 (dk_at dksX1_power_3 4 rfl rfl)
theorem dX1_power_76 : decode cX1_power 76 = .ok (.getfield 19, 3) := dk_180 0 19 (dk_at dksX1_power_3 5 rfl rfl)
theorem dX1_power_79 : decode cX1_power 79 = .ok (.getfield 98, 3) := dk_180 0 98 (dk_at dksX1_power_3 8 rfl rfl)
theorem dX1_power_82 : decode cX1_power 82 = .ok (.iconst 1, 1) := dk_4 (dk_at dksX1_power_3 11 rfl rfl)
theorem dX1_power_83 : decode cX1_power 83 = .ok (.isub, 1) := dk_100 (dk_at dksX1_power_3 12 rfl rfl)
theorem dX1_power_84 : decode cX1_power 84 = .ok (.ireturn, 1) := dk_172 (dk_at dksX1_power_3 13 rfl rfl)
def dkwX1_harm_2 : List UInt8 := [180, 0, 19, 89, 180, 0, 101, 4, 96, 181, 0, 101, 42, 180, 0, 19, 180, 0, 101, 4, 100, 172]
abbrev dktX1_harm_2 : List UInt8 := dkwX1_harm_2 ++ []
def dkwX1_harm_1 : List UInt8 := [167, 0, 4, 3, 184, 0, 177, 42, 180, 0, 19, 180, 0, 237, 42, 180, 0, 19, 180, 0, 101, 27, 79, 42]
abbrev dktX1_harm_1 : List UInt8 := dkwX1_harm_1 ++ dktX1_harm_2
def dkwX1_harm_0 : List UInt8 := [27, 3, 17, 3, 231, 184, 0, 73, 184, 0, 148, 42, 180, 0, 19, 180, 0, 101, 16, 8, 162, 0, 7, 4]
abbrev dktX1_harm_0 : List UInt8 := dkwX1_harm_0 ++ dktX1_harm_1
theorem dksX1_harm_0 : cX1_harm.data.toList.drop 0 = dktX1_harm_0 := by decide +kernel
theorem dksX1_harm_1 : cX1_harm.data.toList.drop 24 = dktX1_harm_1 := dk_seg dksX1_harm_0 24 rfl rfl
theorem dksX1_harm_2 : cX1_harm.data.toList.drop 48 = dktX1_harm_2 := dk_seg dksX1_harm_1 24 rfl rfl
theorem dX1_harm_0 : decode cX1_harm 0 = .ok (.iload_n 1, 1) := dk_27 (dk_at dksX1_harm_0 0 rfl rfl)
theorem dX1_harm_1 : decode cX1_harm 1 = .ok (.iconst 0, 1) := dk_3 (dk_at dksX1_harm_0 1 rfl rfl)
theorem dX1_harm_2 : decode cX1_harm 2 = .ok (.sipush 999, 3) := dk_17 3 231 (dk_at dksX1_harm_0 2 rfl rfl)
theorem dX1_harm_5 : decode cX1_harm 5 = .ok (.invokestatic 73, 3) := dk_184 0 73 (dk_at dksX1_harm_0 5 rfl rfl)
theorem dX1_harm_8 : decode cX1_harm 8 = .ok (.invokestatic 148, 3) := dk_184 0 148 (dk_at dksX1_harm_0 8 rfl rfl)
theorem dX1_harm_11 : decode cX1_harm 11 = .ok (.aload_n 0, 1) := dk_42 (dk_at dksX1_harm_0 11 rfl rfl)
theorem dX1_harm_12 : decode cX1_harm 12 = .ok (.getfield 19, 3) := dk_180 0 19 (dk_at dksX1_harm_0 12 rfl rfl)
theorem dX1_harm_15 : decode cX1_harm 15 = .ok (.getfield 101, 3) := dk_180 0 101 (dk_at dksX1_harm_0 15 rfl rfl)
theorem dX1_harm_18 : decode cX1_harm 18 = .ok (.bipush 8, 2) := dk_16 8 (dk_at dksX1_harm_0 18 rfl rfl)
theorem dX1_harm_20 : decode cX1_harm 20 = .ok (.if_icmp .ge 7, 3) := dk_162 0 7 (dk_at dksX1_harm_0 20 rfl rfl)
theorem dX1_harm_23 : decode cX1_harm 23 = .ok (.iconst 1, 1) := dk_4 (dk_at dksX1_harm_0 23 rfl rfl)
theorem dX1_harm_24 : decode cX1_harm 24 = .ok (.goto 4, 3) := dk_167 0 4 (dk_at dksX1_harm_1 0 rfl rfl)
theorem dX1_harm_27 : decode cX1_harm 27 = .ok (.iconst 0, 1) := dk_3 (dk_at dksX1_harm_1 3 rfl rfl)
theorem dX1_harm_28 : decode cX1_harm 28 = .ok (.invokestatic 177, 3) := dk_184 0 177 (dk_at dksX1_harm_1 4 rfl rfl)
theorem dX1_harm_31 : decode cX1_harm 31 = .ok (.aload_n 0, 1) := dk_42 (dk_at dksX1_harm_1 7 rfl rfl)
theorem dX1_harm_32 : decode cX1_harm 32 = .ok (.getfield 19, 3) := dk_180 0 19 (dk_at dksX1_harm_1 8 rfl rfl)
theorem dX1_harm_35 : decode cX1_harm 35 = .ok (.getfield 237, 3) := dk_180 0 237 (dk_at dksX1_harm_1 11 rfl rfl)
theorem dX1_harm_38 : decode cX1_harm 38 = .ok (.aload_n 0, 1) := dk_42 (dk_at dksX1_harm_1 14 rfl rfl)
theorem dX1_harm_39 : decode cX1_harm 39 = .ok (.getfield 19, 3) := dk_180 0 19 (dk_at dksX1_harm_1 15 rfl rfl)
theorem dX1_harm_42 : decode cX1_harm 42 = .ok (.getfield 101, 3) := dk_180 0 101 (dk_at dksX1_harm_1 18 rfl rfl)
theorem dX1_harm_45 : decode cX1_harm 45 = .ok (.iload_n 1, 1) := dk_27 (dk_at dksX1_harm_1 21 rfl rfl)
theorem dX1_harm_46 : decode cX1_harm 46 = .ok (.iastore, 1) := dk_79 (dk_at dksX1_harm_1 22 rfl rfl)
theorem dX1_harm_47 : decode cX1_harm 47 = .ok (.aload_n 0, 1) := dk_42 (dk_at dksX1_harm_1 23 rfl rfl)
theorem dX1_harm_48 : decode cX1_harm 48 = .ok (.getfield 19, 3) := dk_180 0 19 (dk_at dksX1_harm_2 0 rfl rfl)
theorem dX1_harm_51 : decode cX1_harm 51 = .ok (.dup, 1) := dk_89 (dk_at dksX1_harm_2 3 rfl rfl)
theorem dX1_harm_52 : decode cX1_harm 52 = .ok (.getfield 101, 3) := dk_180 0 101 (dk_at dksX1_harm_2 4 rfl rfl)
theorem dX1_harm_55 : decode cX1_harm 55 = .ok (.iconst 1, 1) := dk_4 (dk_at dksX1_harm_2 7 rfl rfl)
theorem dX1_harm_56 : decode cX1_harm 56 = .ok (.iadd, 1) := dk_96 (dk_at dksX1_harm_2 8 rfl rfl)
theorem dX1_harm_57 : decode cX1_harm 57 = .ok (.putfield 101, 3) := dk_181 0 101 (dk_at dksX1_harm_2 9 rfl rfl)
theorem dX1_harm_60 : decode cX1_harm 60 = .ok (.aload_n 0, 1) := dk_42 (dk_at dksX1_harm_2 12 rfl rfl)
theorem dX1_harm_61 : decode cX1_harm 61 = .ok (.getfield 19, 3) := dk_180 0 19 (dk_at dksX1_harm_2 13 rfl rfl)
theorem dX1_harm_64 : decode cX1_harm 64 = .ok (.getfield 101, 3) := dk_180 0 101 (dk_at dksX1_harm_2 16 rfl rfl)
theorem dX1_harm_67 : decode cX1_harm 67 = .ok (.iconst 1, 1) := dk_4 (dk_at dksX1_harm_2 19 rfl rfl)
theorem dX1_harm_68 : decode cX1_harm 68 = .ok (.isub, 1) := dk_100 (dk_at dksX1_harm_2 20 rfl rfl)
theorem dX1_harm_69 : decode cX1_harm 69 = .ok (.ireturn, 1) := dk_172 (dk_at dksX1_harm_2 21 rfl rfl)
def dkwX1_reach_0 : List UInt8 := [42, 27, 182, 1, 62, 42, 28, 182, 1, 65, 42, 27, 28, 182, 1, 68, 172]
abbrev dktX1_reach_0 : List UInt8 := dkwX1_reach_0 ++ []
theorem dksX1_reach_0 : cX1_reach.data.toList.drop 0 = dktX1_reach_0 := by decide +kernel
theorem dX1_reach_0 : decode cX1_reach 0 = .ok (.aload_n 0, 1) := dk_42 (dk_at dksX1_reach_0 0 rfl rfl)
theorem dX1_reach_1 : decode cX1_reach 1 = .ok (.iload_n 1, 1) := dk_27 (dk_at dksX1_reach_0 1 rfl rfl)
theorem dX1_reach_2 : decode cX1_reach 2 = .ok (.invokevirtual 318, 3) := dk_182 1 62 (dk_at dksX1_reach_0 2 rfl rfl)
theorem dX1_reach_5 : decode cX1_reach 5 = .ok (.aload_n 0, 1) := dk_42 (dk_at dksX1_reach_0 5 rfl rfl)
theorem dX1_reach_6 : decode cX1_reach 6 = .ok (.iload_n 2, 1) := dk_28 (dk_at dksX1_reach_0 6 rfl rfl)
theorem dX1_reach_7 : decode cX1_reach 7 = .ok (.invokevirtual 321, 3) := dk_182 1 65 (dk_at dksX1_reach_0 7 rfl rfl)
theorem dX1_reach_10 : decode cX1_reach 10 = .ok (.aload_n 0, 1) := dk_42 (dk_at dksX1_reach_0 10 rfl rfl)
theorem dX1_reach_11 : decode cX1_reach 11 = .ok (.iload_n 1, 1) := dk_27 (dk_at dksX1_reach_0 11 rfl rfl)
theorem dX1_reach_12 : decode cX1_reach 12 = .ok (.iload_n 2, 1) := dk_28 (dk_at dksX1_reach_0 12 rfl rfl)
theorem dX1_reach_13 : decode cX1_reach 13 = .ok (.invokevirtual 324, 3) := dk_182 1 68 (dk_at dksX1_reach_0 13 rfl rfl)
theorem dX1_reach_16 : decode cX1_reach 16 = .ok (.ireturn, 1) := dk_172 (dk_at dksX1_reach_0 16 rfl rfl)
def dkwX1_isPower_0 : List UInt8 := [27, 3, 42, 180, 0, 19, 180, 0, 98, 4, 100, 184, 0, 73, 184, 0, 77, 177]
abbrev dktX1_isPower_0 : List UInt8 := dkwX1_isPower_0 ++ []
theorem dksX1_isPower_0 : cX1_isPower.data.toList.drop 0 = dktX1_isPower_0 := by decide +kernel
theorem dX1_isPower_0 : decode cX1_isPower 0 = .ok (.iload_n 1, 1) := dk_27 (dk_at dksX1_isPower_0 0 rfl rfl)
theorem dX1_isPower_1 : decode cX1_isPower 1 = .ok (.iconst 0, 1) := dk_3 (dk_at dksX1_isPower_0 1 rfl rfl)
theorem dX1_isPower_2 : decode cX1_isPower 2 = .ok (.aload_n 0, 1) := dk_42 (dk_at dksX1_isPower_0 2 rfl rfl)
theorem dX1_isPower_3 : decode cX1_isPower 3 = .ok (.getfield 19, 3) := dk_180 0 19 (dk_at dksX1_isPower_0 3 rfl rfl)
theorem dX1_isPower_6 : decode cX1_isPower 6 = .ok (.getfield 98, 3) := dk_180 0 98 (dk_at dksX1_isPower_0 6 rfl rfl)
theorem dX1_isPower_9 : decode cX1_isPower 9 = .ok (.iconst 1, 1) := dk_4 (dk_at dksX1_isPower_0 9 rfl rfl)
theorem dX1_isPower_10 : decode cX1_isPower 10 = .ok (.isub, 1) := dk_100 (dk_at dksX1_isPower_0 10 rfl rfl)
theorem dX1_isPower_11 : decode cX1_isPower 11 = .ok (.invokestatic 73, 3) := dk_184 0 73 (dk_at dksX1_isPower_0 11 rfl rfl)
theorem dX1_isPower_14 : decode cX1_isPower 14 = .ok (.invokestatic 77, 3) := dk_184 0 77 (dk_at dksX1_isPower_0 14 rfl rfl)
theorem dX1_isPower_17 : decode cX1_isPower 17 = .ok (.return_, 1) := dk_177 (dk_at dksX1_isPower_0 17 rfl rfl)
def dkwX1_isHarm_0 : List UInt8 := [27, 3, 42, 180, 0, 19, 180, 0, 101, 4, 100, 184, 0, 73, 184, 0, 77, 177]
abbrev dktX1_isHarm_0 : List UInt8 := dkwX1_isHarm_0 ++ []
theorem dksX1_isHarm_0 : cX1_isHarm.data.toList.drop 0 = dktX1_isHarm_0 := by decide +kernel
theorem dX1_isHarm_0 : decode cX1_isHarm 0 = .ok (.iload_n 1, 1) := dk_27 (dk_at dksX1_isHarm_0 0 rfl rfl)
theorem dX1_isHarm_1 : decode cX1_isHarm 1 = .ok (.iconst 0, 1) := dk_3 (dk_at dksX1_isHarm_0 1 rfl rfl)
theorem dX1_isHarm_2 : decode cX1_isHarm 2 = .ok (.aload_n 0, 1) := dk_42 (dk_at dksX1_isHarm_0 2 rfl rfl)
theorem dX1_isHarm_3 : decode cX1_isHarm 3 = .ok (.getfield 19, 3) := dk_180 0 19 (dk_at dksX1_isHarm_0 3 rfl rfl)
theorem dX1_isHarm_6 : decode cX1_isHarm 6 = .ok (.getfield 101, 3) := dk_180 0 101 (dk_at dksX1_isHarm_0 6 rfl rfl)
theorem dX1_isHarm_9 : decode cX1_isHarm 9 = .ok (.iconst 1, 1) := dk_4 (dk_at dksX1_isHarm_0 9 rfl rfl)
theorem dX1_isHarm_10 : decode cX1_isHarm 10 = .ok (.isub, 1) := dk_100 (dk_at dksX1_isHarm_0 10 rfl rfl)
theorem dX1_isHarm_11 : decode cX1_isHarm 11 = .ok (.invokestatic 73, 3) := dk_184 0 73 (dk_at dksX1_isHarm_0 11 rfl rfl)
theorem dX1_isHarm_14 : decode cX1_isHarm 14 = .ok (.invokestatic 77, 3) := dk_184 0 77 (dk_at dksX1_isHarm_0 14 rfl rfl)
theorem dX1_isHarm_17 : decode cX1_isHarm 17 = .ok (.return_, 1) := dk_177 (dk_at dksX1_isHarm_0 17 rfl rfl)
def dkwX1_row_1 : List UInt8 := [100, 184, 0, 73, 153, 0, 12, 42, 180, 0, 39, 29, 46, 167, 0, 4, 2, 172]
abbrev dktX1_row_1 : List UInt8 := dkwX1_row_1 ++ []
def dkwX1_row_0 : List UInt8 := [42, 27, 182, 1, 62, 42, 28, 182, 1, 65, 42, 27, 28, 182, 1, 56, 87, 29, 3, 42, 180, 0, 248, 4]
abbrev dktX1_row_0 : List UInt8 := dkwX1_row_0 ++ dktX1_row_1
theorem dksX1_row_0 : cX1_row.data.toList.drop 0 = dktX1_row_0 := by decide +kernel
theorem dksX1_row_1 : cX1_row.data.toList.drop 24 = dktX1_row_1 := dk_seg dksX1_row_0 24 rfl rfl
theorem dX1_row_0 : decode cX1_row 0 = .ok (.aload_n 0, 1) := dk_42 (dk_at dksX1_row_0 0 rfl rfl)
theorem dX1_row_1 : decode cX1_row 1 = .ok (.iload_n 1, 1) := dk_27 (dk_at dksX1_row_0 1 rfl rfl)
theorem dX1_row_2 : decode cX1_row 2 = .ok (.invokevirtual 318, 3) := dk_182 1 62 (dk_at dksX1_row_0 2 rfl rfl)
theorem dX1_row_5 : decode cX1_row 5 = .ok (.aload_n 0, 1) := dk_42 (dk_at dksX1_row_0 5 rfl rfl)
theorem dX1_row_6 : decode cX1_row 6 = .ok (.iload_n 2, 1) := dk_28 (dk_at dksX1_row_0 6 rfl rfl)
theorem dX1_row_7 : decode cX1_row 7 = .ok (.invokevirtual 321, 3) := dk_182 1 65 (dk_at dksX1_row_0 7 rfl rfl)
theorem dX1_row_10 : decode cX1_row 10 = .ok (.aload_n 0, 1) := dk_42 (dk_at dksX1_row_0 10 rfl rfl)
theorem dX1_row_11 : decode cX1_row 11 = .ok (.iload_n 1, 1) := dk_27 (dk_at dksX1_row_0 11 rfl rfl)
theorem dX1_row_12 : decode cX1_row 12 = .ok (.iload_n 2, 1) := dk_28 (dk_at dksX1_row_0 12 rfl rfl)
theorem dX1_row_13 : decode cX1_row 13 = .ok (.invokevirtual 312, 3) := dk_182 1 56 (dk_at dksX1_row_0 13 rfl rfl)
theorem dX1_row_16 : decode cX1_row 16 = .ok (.pop, 1) := dk_87 (dk_at dksX1_row_0 16 rfl rfl)
theorem dX1_row_17 : decode cX1_row 17 = .ok (.iload_n 3, 1) := dk_29 (dk_at dksX1_row_0 17 rfl rfl)
theorem dX1_row_18 : decode cX1_row 18 = .ok (.iconst 0, 1) := dk_3 (dk_at dksX1_row_0 18 rfl rfl)
theorem dX1_row_19 : decode cX1_row 19 = .ok (.aload_n 0, 1) := dk_42 (dk_at dksX1_row_0 19 rfl rfl)
theorem dX1_row_20 : decode cX1_row 20 = .ok (.getfield 248, 3) := dk_180 0 248 (dk_at dksX1_row_0 20 rfl rfl)
theorem dX1_row_23 : decode cX1_row 23 = .ok (.iconst 1, 1) := dk_4 (dk_at dksX1_row_0 23 rfl rfl)
theorem dX1_row_24 : decode cX1_row 24 = .ok (.isub, 1) := dk_100 (dk_at dksX1_row_1 0 rfl rfl)
theorem dX1_row_25 : decode cX1_row 25 = .ok (.invokestatic 73, 3) := dk_184 0 73 (dk_at dksX1_row_1 1 rfl rfl)
theorem dX1_row_28 : decode cX1_row 28 = .ok (.ifCond .eq 12, 3) := dk_153 0 12 (dk_at dksX1_row_1 4 rfl rfl)
theorem dX1_row_31 : decode cX1_row 31 = .ok (.aload_n 0, 1) := dk_42 (dk_at dksX1_row_1 7 rfl rfl)
theorem dX1_row_32 : decode cX1_row 32 = .ok (.getfield 39, 3) := dk_180 0 39 (dk_at dksX1_row_1 8 rfl rfl)
theorem dX1_row_35 : decode cX1_row 35 = .ok (.iload_n 3, 1) := dk_29 (dk_at dksX1_row_1 11 rfl rfl)
theorem dX1_row_36 : decode cX1_row 36 = .ok (.iaload, 1) := dk_46 (dk_at dksX1_row_1 12 rfl rfl)
theorem dX1_row_37 : decode cX1_row 37 = .ok (.goto 4, 3) := dk_167 0 4 (dk_at dksX1_row_1 13 rfl rfl)
theorem dX1_row_40 : decode cX1_row 40 = .ok (.iconst (-1), 1) := dk_2 (dk_at dksX1_row_1 16 rfl rfl)
theorem dX1_row_41 : decode cX1_row 41 = .ok (.ireturn, 1) := dk_172 (dk_at dksX1_row_1 17 rfl rfl)
def dkwX1_closed_0 : List UInt8 := [42, 27, 182, 1, 62, 42, 180, 0, 19, 42, 180, 0, 19, 180, 0, 128, 27, 182, 1, 72, 173]
abbrev dktX1_closed_0 : List UInt8 := dkwX1_closed_0 ++ []
theorem dksX1_closed_0 : cX1_closed.data.toList.drop 0 = dktX1_closed_0 := by decide +kernel
theorem dX1_closed_0 : decode cX1_closed 0 = .ok (.aload_n 0, 1) := dk_42 (dk_at dksX1_closed_0 0 rfl rfl)
theorem dX1_closed_1 : decode cX1_closed 1 = .ok (.iload_n 1, 1) := dk_27 (dk_at dksX1_closed_0 1 rfl rfl)
theorem dX1_closed_2 : decode cX1_closed 2 = .ok (.invokevirtual 318, 3) := dk_182 1 62 (dk_at dksX1_closed_0 2 rfl rfl)
theorem dX1_closed_5 : decode cX1_closed 5 = .ok (.aload_n 0, 1) := dk_42 (dk_at dksX1_closed_0 5 rfl rfl)
theorem dX1_closed_6 : decode cX1_closed 6 = .ok (.getfield 19, 3) := dk_180 0 19 (dk_at dksX1_closed_0 6 rfl rfl)
theorem dX1_closed_9 : decode cX1_closed 9 = .ok (.aload_n 0, 1) := dk_42 (dk_at dksX1_closed_0 9 rfl rfl)
theorem dX1_closed_10 : decode cX1_closed 10 = .ok (.getfield 19, 3) := dk_180 0 19 (dk_at dksX1_closed_0 10 rfl rfl)
theorem dX1_closed_13 : decode cX1_closed 13 = .ok (.getfield 128, 3) := dk_180 0 128 (dk_at dksX1_closed_0 13 rfl rfl)
theorem dX1_closed_16 : decode cX1_closed 16 = .ok (.iload_n 1, 1) := dk_27 (dk_at dksX1_closed_0 16 rfl rfl)
theorem dX1_closed_17 : decode cX1_closed 17 = .ok (.invokevirtual 328, 3) := dk_182 1 72 (dk_at dksX1_closed_0 17 rfl rfl)
theorem dX1_closed_20 : decode cX1_closed 20 = .ok (.lreturn, 1) := dk_173 (dk_at dksX1_closed_0 20 rfl rfl)
def dkwX1_least_8 : List UInt8 := [160, 0, 10, 42, 180, 0, 45, 29, 46, 172, 132, 4, 1, 167, 255, 226, 2, 172]
abbrev dktX1_least_8 : List UInt8 := dkwX1_least_8 ++ []
def dkwX1_least_7 : List UInt8 := [180, 1, 79, 172, 3, 54, 4, 21, 4, 42, 180, 1, 82, 162, 0, 27, 42, 180, 0, 48, 21, 4, 46, 29]
abbrev dktX1_least_7 : List UInt8 := dkwX1_least_7 ++ dktX1_least_8
def dkwX1_least_6 : List UInt8 := [182, 0, 240, 3, 182, 1, 91, 42, 180, 1, 76, 154, 0, 5, 2, 172, 29, 2, 160, 0, 8, 42]
abbrev dktX1_least_6 : List UInt8 := dkwX1_least_6 ++ dktX1_least_7
def dkwX1_least_5 : List UInt8 := [180, 0, 42, 3, 16, 40, 184, 1, 85, 42, 3, 181, 1, 76, 42, 3, 27, 42, 180, 0, 19, 28]
abbrev dktX1_least_5 : List UInt8 := dkwX1_least_5 ++ dktX1_least_6
def dkwX1_least_4 : List UInt8 := [180, 1, 82, 4, 96, 181, 1, 82, 132, 4, 1, 167, 255, 192, 42, 180, 0, 19, 180, 0, 128, 3, 42]
abbrev dktX1_least_4 : List UInt8 := dkwX1_least_4 ++ dktX1_least_5
def dkwX1_least_3 : List UInt8 := [50, 182, 0, 89, 154, 0, 6, 167, 0, 24, 42, 180, 0, 48, 42, 180, 1, 82, 21, 4, 79, 42, 89]
abbrev dktX1_least_3 : List UInt8 := dkwX1_least_3 ++ dktX1_least_4
def dkwX1_least_2 : List UInt8 := [180, 0, 70, 162, 0, 58, 42, 180, 1, 82, 16, 6, 162, 0, 49, 42, 180, 0, 19, 180, 0, 81, 21, 4]
abbrev dktX1_least_2 : List UInt8 := dkwX1_least_2 ++ dktX1_least_3
def dkwX1_least_1 : List UInt8 := [4, 100, 184, 0, 73, 184, 0, 77, 42, 3, 181, 1, 82, 3, 54, 4, 21, 4, 42, 180, 0, 19]
abbrev dktX1_least_1 : List UInt8 := dkwX1_least_1 ++ dktX1_least_2
def dkwX1_least_0 : List UInt8 := [42, 27, 182, 1, 62, 42, 28, 182, 1, 65, 29, 2, 159, 0, 20, 29, 3, 42, 180, 0, 19, 180, 0, 70]
abbrev dktX1_least_0 : List UInt8 := dkwX1_least_0 ++ dktX1_least_1
theorem dksX1_least_0 : cX1_least.data.toList.drop 0 = dktX1_least_0 := by decide +kernel
theorem dksX1_least_1 : cX1_least.data.toList.drop 24 = dktX1_least_1 := dk_seg dksX1_least_0 24 rfl rfl
theorem dksX1_least_2 : cX1_least.data.toList.drop 46 = dktX1_least_2 := dk_seg dksX1_least_1 22 rfl rfl
theorem dksX1_least_3 : cX1_least.data.toList.drop 70 = dktX1_least_3 := dk_seg dksX1_least_2 24 rfl rfl
theorem dksX1_least_4 : cX1_least.data.toList.drop 93 = dktX1_least_4 := dk_seg dksX1_least_3 23 rfl rfl
theorem dksX1_least_5 : cX1_least.data.toList.drop 116 = dktX1_least_5 := dk_seg dksX1_least_4 23 rfl rfl
theorem dksX1_least_6 : cX1_least.data.toList.drop 138 = dktX1_least_6 := dk_seg dksX1_least_5 22 rfl rfl
theorem dksX1_least_7 : cX1_least.data.toList.drop 160 = dktX1_least_7 := dk_seg dksX1_least_6 22 rfl rfl
theorem dksX1_least_8 : cX1_least.data.toList.drop 184 = dktX1_least_8 := dk_seg dksX1_least_7 24 rfl rfl
theorem dX1_least_0 : decode cX1_least 0 = .ok (.aload_n 0, 1) := dk_42 (dk_at dksX1_least_0 0 rfl rfl)
theorem dX1_least_1 : decode cX1_least 1 = .ok (.iload_n 1, 1) := dk_27 (dk_at dksX1_least_0 1 rfl rfl)
theorem dX1_least_2 : decode cX1_least 2 = .ok (.invokevirtual 318, 3) := dk_182 1 62 (dk_at dksX1_least_0 2 rfl rfl)
theorem dX1_least_5 : decode cX1_least 5 = .ok (.aload_n 0, 1) := dk_42 (dk_at dksX1_least_0 5 rfl rfl)
theorem dX1_least_6 : decode cX1_least 6 = .ok (.iload_n 2, 1) := dk_28 (dk_at dksX1_least_0 6 rfl rfl)
theorem dX1_least_7 : decode cX1_least 7 = .ok (.invokevirtual 321, 3) := dk_182 1 65 (dk_at dksX1_least_0 7 rfl rfl)
theorem dX1_least_10 : decode cX1_least 10 = .ok (.iload_n 3, 1) := dk_29 (dk_at dksX1_least_0 10 rfl rfl)
theorem dX1_least_11 : decode cX1_least 11 = .ok (.iconst (-1), 1) := dk_2 (dk_at dksX1_least_0 11 rfl rfl)
theorem dX1_least_12 : decode cX1_least 12 = .ok (.if_icmp .eq 20, 3) := dk_159 0 20 (dk_at dksX1_least_0 12 rfl rfl)
theorem dX1_least_15 : decode cX1_least 15 = .ok (.iload_n 3, 1) := dk_29 (dk_at dksX1_least_0 15 rfl rfl)
theorem dX1_least_16 : decode cX1_least 16 = .ok (.iconst 0, 1) := dk_3 (dk_at dksX1_least_0 16 rfl rfl)
theorem dX1_least_17 : decode cX1_least 17 = .ok (.aload_n 0, 1) := dk_42 (dk_at dksX1_least_0 17 rfl rfl)
theorem dX1_least_18 : decode cX1_least 18 = .ok (.getfield 19, 3) := dk_180 0 19 (dk_at dksX1_least_0 18 rfl rfl)
theorem dX1_least_21 : decode cX1_least 21 = .ok (.getfield 70, 3) := dk_180 0 70 (dk_at dksX1_least_0 21 rfl rfl)
theorem dX1_least_24 : decode cX1_least 24 = .ok (.iconst 1, 1) := dk_4 (dk_at dksX1_least_1 0 rfl rfl)
theorem dX1_least_25 : decode cX1_least 25 = .ok (.isub, 1) := dk_100 (dk_at dksX1_least_1 1 rfl rfl)
theorem dX1_least_26 : decode cX1_least 26 = .ok (.invokestatic 73, 3) := dk_184 0 73 (dk_at dksX1_least_1 2 rfl rfl)
theorem dX1_least_29 : decode cX1_least 29 = .ok (.invokestatic 77, 3) := dk_184 0 77 (dk_at dksX1_least_1 5 rfl rfl)
theorem dX1_least_32 : decode cX1_least 32 = .ok (.aload_n 0, 1) := dk_42 (dk_at dksX1_least_1 8 rfl rfl)
theorem dX1_least_33 : decode cX1_least 33 = .ok (.iconst 0, 1) := dk_3 (dk_at dksX1_least_1 9 rfl rfl)
theorem dX1_least_34 : decode cX1_least 34 = .ok (.putfield 338, 3) := dk_181 1 82 (dk_at dksX1_least_1 10 rfl rfl)
theorem dX1_least_37 : decode cX1_least 37 = .ok (.iconst 0, 1) := dk_3 (dk_at dksX1_least_1 13 rfl rfl)
theorem dX1_least_38 : decode cX1_least 38 = .ok (.istore 4, 2) := dk_54 4 (dk_at dksX1_least_1 14 rfl rfl)
theorem dX1_least_40 : decode cX1_least 40 = .ok (.iload 4, 2) := dk_21 4 (dk_at dksX1_least_1 16 rfl rfl)
theorem dX1_least_42 : decode cX1_least 42 = .ok (.aload_n 0, 1) := dk_42 (dk_at dksX1_least_1 18 rfl rfl)
theorem dX1_least_43 : decode cX1_least 43 = .ok (.getfield 19, 3) := dk_180 0 19 (dk_at dksX1_least_1 19 rfl rfl)
theorem dX1_least_46 : decode cX1_least 46 = .ok (.getfield 70, 3) := dk_180 0 70 (dk_at dksX1_least_2 0 rfl rfl)
theorem dX1_least_49 : decode cX1_least 49 = .ok (.if_icmp .ge 58, 3) := dk_162 0 58 (dk_at dksX1_least_2 3 rfl rfl)
theorem dX1_least_52 : decode cX1_least 52 = .ok (.aload_n 0, 1) := dk_42 (dk_at dksX1_least_2 6 rfl rfl)
theorem dX1_least_53 : decode cX1_least 53 = .ok (.getfield 338, 3) := dk_180 1 82 (dk_at dksX1_least_2 7 rfl rfl)
theorem dX1_least_56 : decode cX1_least 56 = .ok (.bipush 6, 2) := dk_16 6 (dk_at dksX1_least_2 10 rfl rfl)
theorem dX1_least_58 : decode cX1_least 58 = .ok (.if_icmp .ge 49, 3) := dk_162 0 49 (dk_at dksX1_least_2 12 rfl rfl)
theorem dX1_least_61 : decode cX1_least 61 = .ok (.aload_n 0, 1) := dk_42 (dk_at dksX1_least_2 15 rfl rfl)
theorem dX1_least_62 : decode cX1_least 62 = .ok (.getfield 19, 3) := dk_180 0 19 (dk_at dksX1_least_2 16 rfl rfl)
theorem dX1_least_65 : decode cX1_least 65 = .ok (.getfield 81, 3) := dk_180 0 81 (dk_at dksX1_least_2 19 rfl rfl)
theorem dX1_least_68 : decode cX1_least 68 = .ok (.iload 4, 2) := dk_21 4 (dk_at dksX1_least_2 22 rfl rfl)
theorem dX1_least_70 : decode cX1_least 70 = .ok (.aaload, 1) := dk_50 (dk_at dksX1_least_3 0 rfl rfl)
theorem dX1_least_71 : decode cX1_least 71 = .ok (.invokevirtual 89, 3) := dk_182 0 89 (dk_at dksX1_least_3 1 rfl rfl)
theorem dX1_least_74 : decode cX1_least 74 = .ok (.ifCond .ne 6, 3) := dk_154 0 6 (dk_at dksX1_least_3 4 rfl rfl)
theorem dX1_least_77 : decode cX1_least 77 = .ok (.goto 24, 3) := dk_167 0 24 (dk_at dksX1_least_3 7 rfl rfl)
theorem dX1_least_80 : decode cX1_least 80 = .ok (.aload_n 0, 1) := dk_42 (dk_at dksX1_least_3 10 rfl rfl)
theorem dX1_least_81 : decode cX1_least 81 = .ok (.getfield 48, 3) := dk_180 0 48 (dk_at dksX1_least_3 11 rfl rfl)
theorem dX1_least_84 : decode cX1_least 84 = .ok (.aload_n 0, 1) := dk_42 (dk_at dksX1_least_3 14 rfl rfl)
theorem dX1_least_85 : decode cX1_least 85 = .ok (.getfield 338, 3) := dk_180 1 82 (dk_at dksX1_least_3 15 rfl rfl)
theorem dX1_least_88 : decode cX1_least 88 = .ok (.iload 4, 2) := dk_21 4 (dk_at dksX1_least_3 18 rfl rfl)
theorem dX1_least_90 : decode cX1_least 90 = .ok (.iastore, 1) := dk_79 (dk_at dksX1_least_3 20 rfl rfl)
theorem dX1_least_91 : decode cX1_least 91 = .ok (.aload_n 0, 1) := dk_42 (dk_at dksX1_least_3 21 rfl rfl)
theorem dX1_least_92 : decode cX1_least 92 = .ok (.dup, 1) := dk_89 (dk_at dksX1_least_3 22 rfl rfl)
theorem dX1_least_93 : decode cX1_least 93 = .ok (.getfield 338, 3) := dk_180 1 82 (dk_at dksX1_least_4 0 rfl rfl)
theorem dX1_least_96 : decode cX1_least 96 = .ok (.iconst 1, 1) := dk_4 (dk_at dksX1_least_4 3 rfl rfl)
theorem dX1_least_97 : decode cX1_least 97 = .ok (.iadd, 1) := dk_96 (dk_at dksX1_least_4 4 rfl rfl)
theorem dX1_least_98 : decode cX1_least 98 = .ok (.putfield 338, 3) := dk_181 1 82 (dk_at dksX1_least_4 5 rfl rfl)
theorem dX1_least_101 : decode cX1_least 101 = .ok (.iinc 4 1, 3) := dk_132 4 1 (dk_at dksX1_least_4 8 rfl rfl)
theorem dX1_least_104 : decode cX1_least 104 = .ok (.goto (-64), 3) := dk_167 255 192 (dk_at dksX1_least_4 11 rfl rfl)
theorem dX1_least_107 : decode cX1_least 107 = .ok (.aload_n 0, 1) := dk_42 (dk_at dksX1_least_4 14 rfl rfl)
theorem dX1_least_108 : decode cX1_least 108 = .ok (.getfield 19, 3) := dk_180 0 19 (dk_at dksX1_least_4 15 rfl rfl)
theorem dX1_least_111 : decode cX1_least 111 = .ok (.getfield 128, 3) := dk_180 0 128 (dk_at dksX1_least_4 18 rfl rfl)
theorem dX1_least_114 : decode cX1_least 114 = .ok (.iconst 0, 1) := dk_3 (dk_at dksX1_least_4 21 rfl rfl)
theorem dX1_least_115 : decode cX1_least 115 = .ok (.aload_n 0, 1) := dk_42 (dk_at dksX1_least_4 22 rfl rfl)
theorem dX1_least_116 : decode cX1_least 116 = .ok (.getfield 42, 3) := dk_180 0 42 (dk_at dksX1_least_5 0 rfl rfl)
theorem dX1_least_119 : decode cX1_least 119 = .ok (.iconst 0, 1) := dk_3 (dk_at dksX1_least_5 3 rfl rfl)
theorem dX1_least_120 : decode cX1_least 120 = .ok (.bipush 40, 2) := dk_16 40 (dk_at dksX1_least_5 4 rfl rfl)
theorem dX1_least_122 : decode cX1_least 122 = .ok (.invokestatic 341, 3) := dk_184 1 85 (dk_at dksX1_least_5 6 rfl rfl)
theorem dX1_least_125 : decode cX1_least 125 = .ok (.aload_n 0, 1) := dk_42 (dk_at dksX1_least_5 9 rfl rfl)
theorem dX1_least_126 : decode cX1_least 126 = .ok (.iconst 0, 1) := dk_3 (dk_at dksX1_least_5 10 rfl rfl)
theorem dX1_least_127 : decode cX1_least 127 = .ok (.putfield 332, 3) := dk_181 1 76 (dk_at dksX1_least_5 11 rfl rfl)
theorem dX1_least_130 : decode cX1_least 130 = .ok (.aload_n 0, 1) := dk_42 (dk_at dksX1_least_5 14 rfl rfl)
theorem dX1_least_131 : decode cX1_least 131 = .ok (.iconst 0, 1) := dk_3 (dk_at dksX1_least_5 15 rfl rfl)
theorem dX1_least_132 : decode cX1_least 132 = .ok (.iload_n 1, 1) := dk_27 (dk_at dksX1_least_5 16 rfl rfl)
theorem dX1_least_133 : decode cX1_least 133 = .ok (.aload_n 0, 1) := dk_42 (dk_at dksX1_least_5 17 rfl rfl)
theorem dX1_least_134 : decode cX1_least 134 = .ok (.getfield 19, 3) := dk_180 0 19 (dk_at dksX1_least_5 18 rfl rfl)
theorem dX1_least_137 : decode cX1_least 137 = .ok (.iload_n 2, 1) := dk_28 (dk_at dksX1_least_5 21 rfl rfl)
theorem dX1_least_138 : decode cX1_least 138 = .ok (.invokevirtual 240, 3) := dk_182 0 240 (dk_at dksX1_least_6 0 rfl rfl)
theorem dX1_least_141 : decode cX1_least 141 = .ok (.iconst 0, 1) := dk_3 (dk_at dksX1_least_6 3 rfl rfl)
theorem dX1_least_142 : decode cX1_least 142 = .ok (.invokevirtual 347, 3) := dk_182 1 91 (dk_at dksX1_least_6 4 rfl rfl)
theorem dX1_least_145 : decode cX1_least 145 = .ok (.aload_n 0, 1) := dk_42 (dk_at dksX1_least_6 7 rfl rfl)
theorem dX1_least_146 : decode cX1_least 146 = .ok (.getfield 332, 3) := dk_180 1 76 (dk_at dksX1_least_6 8 rfl rfl)
theorem dX1_least_149 : decode cX1_least 149 = .ok (.ifCond .ne 5, 3) := dk_154 0 5 (dk_at dksX1_least_6 11 rfl rfl)
theorem dX1_least_152 : decode cX1_least 152 = .ok (.iconst (-1), 1) := dk_2 (dk_at dksX1_least_6 14 rfl rfl)
theorem dX1_least_153 : decode cX1_least 153 = .ok (.ireturn, 1) := dk_172 (dk_at dksX1_least_6 15 rfl rfl)
theorem dX1_least_154 : decode cX1_least 154 = .ok (.iload_n 3, 1) := dk_29 (dk_at dksX1_least_6 16 rfl rfl)
theorem dX1_least_155 : decode cX1_least 155 = .ok (.iconst (-1), 1) := dk_2 (dk_at dksX1_least_6 17 rfl rfl)
theorem dX1_least_156 : decode cX1_least 156 = .ok (.if_icmp .ne 8, 3) := dk_160 0 8 (dk_at dksX1_least_6 18 rfl rfl)
theorem dX1_least_159 : decode cX1_least 159 = .ok (.aload_n 0, 1) := dk_42 (dk_at dksX1_least_6 21 rfl rfl)
theorem dX1_least_160 : decode cX1_least 160 = .ok (.getfield 335, 3) := dk_180 1 79 (dk_at dksX1_least_7 0 rfl rfl)
theorem dX1_least_163 : decode cX1_least 163 = .ok (.ireturn, 1) := dk_172 (dk_at dksX1_least_7 3 rfl rfl)
theorem dX1_least_164 : decode cX1_least 164 = .ok (.iconst 0, 1) := dk_3 (dk_at dksX1_least_7 4 rfl rfl)
theorem dX1_least_165 : decode cX1_least 165 = .ok (.istore 4, 2) := dk_54 4 (dk_at dksX1_least_7 5 rfl rfl)
theorem dX1_least_167 : decode cX1_least 167 = .ok (.iload 4, 2) := dk_21 4 (dk_at dksX1_least_7 7 rfl rfl)
theorem dX1_least_169 : decode cX1_least 169 = .ok (.aload_n 0, 1) := dk_42 (dk_at dksX1_least_7 9 rfl rfl)
theorem dX1_least_170 : decode cX1_least 170 = .ok (.getfield 338, 3) := dk_180 1 82 (dk_at dksX1_least_7 10 rfl rfl)
theorem dX1_least_173 : decode cX1_least 173 = .ok (.if_icmp .ge 27, 3) := dk_162 0 27 (dk_at dksX1_least_7 13 rfl rfl)
theorem dX1_least_176 : decode cX1_least 176 = .ok (.aload_n 0, 1) := dk_42 (dk_at dksX1_least_7 16 rfl rfl)
theorem dX1_least_177 : decode cX1_least 177 = .ok (.getfield 48, 3) := dk_180 0 48 (dk_at dksX1_least_7 17 rfl rfl)
theorem dX1_least_180 : decode cX1_least 180 = .ok (.iload 4, 2) := dk_21 4 (dk_at dksX1_least_7 20 rfl rfl)
theorem dX1_least_182 : decode cX1_least 182 = .ok (.iaload, 1) := dk_46 (dk_at dksX1_least_7 22 rfl rfl)
theorem dX1_least_183 : decode cX1_least 183 = .ok (.iload_n 3, 1) := dk_29 (dk_at dksX1_least_7 23 rfl rfl)
theorem dX1_least_184 : decode cX1_least 184 = .ok (.if_icmp .ne 10, 3) := dk_160 0 10 (dk_at dksX1_least_8 0 rfl rfl)
theorem dX1_least_187 : decode cX1_least 187 = .ok (.aload_n 0, 1) := dk_42 (dk_at dksX1_least_8 3 rfl rfl)
theorem dX1_least_188 : decode cX1_least 188 = .ok (.getfield 45, 3) := dk_180 0 45 (dk_at dksX1_least_8 4 rfl rfl)
theorem dX1_least_191 : decode cX1_least 191 = .ok (.iload_n 3, 1) := dk_29 (dk_at dksX1_least_8 7 rfl rfl)
theorem dX1_least_192 : decode cX1_least 192 = .ok (.iaload, 1) := dk_46 (dk_at dksX1_least_8 8 rfl rfl)
theorem dX1_least_193 : decode cX1_least 193 = .ok (.ireturn, 1) := dk_172 (dk_at dksX1_least_8 9 rfl rfl)
theorem dX1_least_194 : decode cX1_least 194 = .ok (.iinc 4 1, 3) := dk_132 4 1 (dk_at dksX1_least_8 10 rfl rfl)
theorem dX1_least_197 : decode cX1_least 197 = .ok (.goto (-30), 3) := dk_167 255 226 (dk_at dksX1_least_8 13 rfl rfl)
theorem dX1_least_200 : decode cX1_least 200 = .ok (.iconst (-1), 1) := dk_2 (dk_at dksX1_least_8 16 rfl rfl)
theorem dX1_least_201 : decode cX1_least 201 = .ok (.ireturn, 1) := dk_172 (dk_at dksX1_least_8 17 rfl rfl)
def dkwX1_chooses_6 : List UInt8 := [21, 7, 46, 96, 182, 1, 91, 132, 7, 1, 167, 255, 211, 177]
abbrev dktX1_chooses_6 : List UInt8 := dkwX1_chooses_6 ++ []
def dkwX1_chooses_5 : List UInt8 := [42, 180, 0, 48, 27, 46, 21, 7, 79, 42, 27, 4, 96, 28, 33, 21, 5, 42, 180, 0, 19, 180, 0, 151]
abbrev dktX1_chooses_5 : List UInt8 := dkwX1_chooses_5 ++ dktX1_chooses_6
def dkwX1_chooses_4 : List UInt8 := [160, 0, 7, 6, 167, 0, 4, 5, 54, 6, 3, 54, 7, 21, 7, 21, 6, 163, 0, 44, 42, 180, 0, 42]
abbrev dktX1_chooses_4 : List UInt8 := dkwX1_chooses_4 ++ dktX1_chooses_5
def dkwX1_chooses_3 : List UInt8 := [184, 1, 85, 177, 42, 180, 0, 19, 180, 0, 81, 42, 180, 0, 48, 27, 46, 50, 182, 0, 134, 16, 7]
abbrev dktX1_chooses_3 : List UInt8 := dkwX1_chooses_3 ++ dktX1_chooses_4
def dkwX1_chooses_2 : List UInt8 := [4, 181, 1, 76, 42, 21, 5, 181, 1, 79, 42, 180, 0, 42, 3, 42, 180, 0, 45, 3, 16, 40]
abbrev dktX1_chooses_2 : List UInt8 := dkwX1_chooses_2 ++ dktX1_chooses_3
def dkwX1_chooses_1 : List UInt8 := [160, 0, 50, 42, 180, 0, 19, 42, 180, 0, 42, 28, 182, 1, 72, 33, 127, 9, 148, 153, 0, 4, 177, 42]
abbrev dktX1_chooses_1 : List UInt8 := dkwX1_chooses_1 ++ dktX1_chooses_2
def dkwX1_chooses_0 : List UInt8 := [42, 180, 1, 76, 153, 0, 13, 21, 5, 42, 180, 1, 79, 161, 0, 4, 177, 27, 42, 180, 1, 82]
abbrev dktX1_chooses_0 : List UInt8 := dkwX1_chooses_0 ++ dktX1_chooses_1
theorem dksX1_chooses_0 : cX1_chooses.data.toList.drop 0 = dktX1_chooses_0 := by decide +kernel
theorem dksX1_chooses_1 : cX1_chooses.data.toList.drop 22 = dktX1_chooses_1 := dk_seg dksX1_chooses_0 22 rfl rfl
theorem dksX1_chooses_2 : cX1_chooses.data.toList.drop 46 = dktX1_chooses_2 := dk_seg dksX1_chooses_1 24 rfl rfl
theorem dksX1_chooses_3 : cX1_chooses.data.toList.drop 68 = dktX1_chooses_3 := dk_seg dksX1_chooses_2 22 rfl rfl
theorem dksX1_chooses_4 : cX1_chooses.data.toList.drop 91 = dktX1_chooses_4 := dk_seg dksX1_chooses_3 23 rfl rfl
theorem dksX1_chooses_5 : cX1_chooses.data.toList.drop 115 = dktX1_chooses_5 := dk_seg dksX1_chooses_4 24 rfl rfl
theorem dksX1_chooses_6 : cX1_chooses.data.toList.drop 139 = dktX1_chooses_6 := dk_seg dksX1_chooses_5 24 rfl rfl
theorem dX1_chooses_0 : decode cX1_chooses 0 = .ok (.aload_n 0, 1) := dk_42 (dk_at dksX1_chooses_0 0 rfl rfl)
theorem dX1_chooses_1 : decode cX1_chooses 1 = .ok (.getfield 332, 3) := dk_180 1 76 (dk_at dksX1_chooses_0 1 rfl rfl)
theorem dX1_chooses_4 : decode cX1_chooses 4 = .ok (.ifCond .eq 13, 3) := dk_153 0 13 (dk_at dksX1_chooses_0 4 rfl rfl)
theorem dX1_chooses_7 : decode cX1_chooses 7 = .ok (.iload 5, 2) := dk_21 5 (dk_at dksX1_chooses_0 7 rfl rfl)
theorem dX1_chooses_9 : decode cX1_chooses 9 = .ok (.aload_n 0, 1) := dk_42 (dk_at dksX1_chooses_0 9 rfl rfl)
theorem dX1_chooses_10 : decode cX1_chooses 10 = .ok (.getfield 335, 3) := dk_180 1 79 (dk_at dksX1_chooses_0 10 rfl rfl)
theorem dX1_chooses_13 : decode cX1_chooses 13 = .ok (.if_icmp .lt 4, 3) := dk_161 0 4 (dk_at dksX1_chooses_0 13 rfl rfl)
theorem dX1_chooses_16 : decode cX1_chooses 16 = .ok (.return_, 1) := dk_177 (dk_at dksX1_chooses_0 16 rfl rfl)
theorem dX1_chooses_17 : decode cX1_chooses 17 = .ok (.iload_n 1, 1) := dk_27 (dk_at dksX1_chooses_0 17 rfl rfl)
theorem dX1_chooses_18 : decode cX1_chooses 18 = .ok (.aload_n 0, 1) := dk_42 (dk_at dksX1_chooses_0 18 rfl rfl)
theorem dX1_chooses_19 : decode cX1_chooses 19 = .ok (.getfield 338, 3) := dk_180 1 82 (dk_at dksX1_chooses_0 19 rfl rfl)
theorem dX1_chooses_22 : decode cX1_chooses 22 = .ok (.if_icmp .ne 50, 3) := dk_160 0 50 (dk_at dksX1_chooses_1 0 rfl rfl)
theorem dX1_chooses_25 : decode cX1_chooses 25 = .ok (.aload_n 0, 1) := dk_42 (dk_at dksX1_chooses_1 3 rfl rfl)
theorem dX1_chooses_26 : decode cX1_chooses 26 = .ok (.getfield 19, 3) := dk_180 0 19 (dk_at dksX1_chooses_1 4 rfl rfl)
theorem dX1_chooses_29 : decode cX1_chooses 29 = .ok (.aload_n 0, 1) := dk_42 (dk_at dksX1_chooses_1 7 rfl rfl)
theorem dX1_chooses_30 : decode cX1_chooses 30 = .ok (.getfield 42, 3) := dk_180 0 42 (dk_at dksX1_chooses_1 8 rfl rfl)
theorem dX1_chooses_33 : decode cX1_chooses 33 = .ok (.iload_n 2, 1) := dk_28 (dk_at dksX1_chooses_1 11 rfl rfl)
theorem dX1_chooses_34 : decode cX1_chooses 34 = .ok (.invokevirtual 328, 3) := dk_182 1 72 (dk_at dksX1_chooses_1 12 rfl rfl)
theorem dX1_chooses_37 : decode cX1_chooses 37 = .ok (.lload_n 3, 1) := dk_33 (dk_at dksX1_chooses_1 15 rfl rfl)
theorem dX1_chooses_38 : decode cX1_chooses 38 = .ok (.land, 1) := dk_127 (dk_at dksX1_chooses_1 16 rfl rfl)
theorem dX1_chooses_39 : decode cX1_chooses 39 = .ok (.lconst 0, 1) := dk_9 (dk_at dksX1_chooses_1 17 rfl rfl)
theorem dX1_chooses_40 : decode cX1_chooses 40 = .ok (.lcmp, 1) := dk_148 (dk_at dksX1_chooses_1 18 rfl rfl)
theorem dX1_chooses_41 : decode cX1_chooses 41 = .ok (.ifCond .eq 4, 3) := dk_153 0 4 (dk_at dksX1_chooses_1 19 rfl rfl)
theorem dX1_chooses_44 : decode cX1_chooses 44 = .ok (.return_, 1) := dk_177 (dk_at dksX1_chooses_1 22 rfl rfl)
theorem dX1_chooses_45 : decode cX1_chooses 45 = .ok (.aload_n 0, 1) := dk_42 (dk_at dksX1_chooses_1 23 rfl rfl)
theorem dX1_chooses_46 : decode cX1_chooses 46 = .ok (.iconst 1, 1) := dk_4 (dk_at dksX1_chooses_2 0 rfl rfl)
theorem dX1_chooses_47 : decode cX1_chooses 47 = .ok (.putfield 332, 3) := dk_181 1 76 (dk_at dksX1_chooses_2 1 rfl rfl)
theorem dX1_chooses_50 : decode cX1_chooses 50 = .ok (.aload_n 0, 1) := dk_42 (dk_at dksX1_chooses_2 4 rfl rfl)
theorem dX1_chooses_51 : decode cX1_chooses 51 = .ok (.iload 5, 2) := dk_21 5 (dk_at dksX1_chooses_2 5 rfl rfl)
theorem dX1_chooses_53 : decode cX1_chooses 53 = .ok (.putfield 335, 3) := dk_181 1 79 (dk_at dksX1_chooses_2 7 rfl rfl)
theorem dX1_chooses_56 : decode cX1_chooses 56 = .ok (.aload_n 0, 1) := dk_42 (dk_at dksX1_chooses_2 10 rfl rfl)
theorem dX1_chooses_57 : decode cX1_chooses 57 = .ok (.getfield 42, 3) := dk_180 0 42 (dk_at dksX1_chooses_2 11 rfl rfl)
theorem dX1_chooses_60 : decode cX1_chooses 60 = .ok (.iconst 0, 1) := dk_3 (dk_at dksX1_chooses_2 14 rfl rfl)
theorem dX1_chooses_61 : decode cX1_chooses 61 = .ok (.aload_n 0, 1) := dk_42 (dk_at dksX1_chooses_2 15 rfl rfl)
theorem dX1_chooses_62 : decode cX1_chooses 62 = .ok (.getfield 45, 3) := dk_180 0 45 (dk_at dksX1_chooses_2 16 rfl rfl)
theorem dX1_chooses_65 : decode cX1_chooses 65 = .ok (.iconst 0, 1) := dk_3 (dk_at dksX1_chooses_2 19 rfl rfl)
theorem dX1_chooses_66 : decode cX1_chooses 66 = .ok (.bipush 40, 2) := dk_16 40 (dk_at dksX1_chooses_2 20 rfl rfl)
theorem dX1_chooses_68 : decode cX1_chooses 68 = .ok (.invokestatic 341, 3) := dk_184 1 85 (dk_at dksX1_chooses_3 0 rfl rfl)
theorem dX1_chooses_71 : decode cX1_chooses 71 = .ok (.return_, 1) := dk_177 (dk_at dksX1_chooses_3 3 rfl rfl)
theorem dX1_chooses_72 : decode cX1_chooses 72 = .ok (.aload_n 0, 1) := dk_42 (dk_at dksX1_chooses_3 4 rfl rfl)
theorem dX1_chooses_73 : decode cX1_chooses 73 = .ok (.getfield 19, 3) := dk_180 0 19 (dk_at dksX1_chooses_3 5 rfl rfl)
theorem dX1_chooses_76 : decode cX1_chooses 76 = .ok (.getfield 81, 3) := dk_180 0 81 (dk_at dksX1_chooses_3 8 rfl rfl)
theorem dX1_chooses_79 : decode cX1_chooses 79 = .ok (.aload_n 0, 1) := dk_42 (dk_at dksX1_chooses_3 11 rfl rfl)
theorem dX1_chooses_80 : decode cX1_chooses 80 = .ok (.getfield 48, 3) := dk_180 0 48 (dk_at dksX1_chooses_3 12 rfl rfl)
theorem dX1_chooses_83 : decode cX1_chooses 83 = .ok (.iload_n 1, 1) := dk_27 (dk_at dksX1_chooses_3 15 rfl rfl)
theorem dX1_chooses_84 : decode cX1_chooses 84 = .ok (.iaload, 1) := dk_46 (dk_at dksX1_chooses_3 16 rfl rfl)
theorem dX1_chooses_85 : decode cX1_chooses 85 = .ok (.aaload, 1) := dk_50 (dk_at dksX1_chooses_3 17 rfl rfl)
theorem dX1_chooses_86 : decode cX1_chooses 86 = .ok (.invokevirtual 134, 3) := dk_182 0 134 (dk_at dksX1_chooses_3 18 rfl rfl)
theorem dX1_chooses_89 : decode cX1_chooses 89 = .ok (.bipush 7, 2) := dk_16 7 (dk_at dksX1_chooses_3 21 rfl rfl)
theorem dX1_chooses_91 : decode cX1_chooses 91 = .ok (.if_icmp .ne 7, 3) := dk_160 0 7 (dk_at dksX1_chooses_4 0 rfl rfl)
theorem dX1_chooses_94 : decode cX1_chooses 94 = .ok (.iconst 3, 1) := dk_6 (dk_at dksX1_chooses_4 3 rfl rfl)
theorem dX1_chooses_95 : decode cX1_chooses 95 = .ok (.goto 4, 3) := dk_167 0 4 (dk_at dksX1_chooses_4 4 rfl rfl)
theorem dX1_chooses_98 : decode cX1_chooses 98 = .ok (.iconst 2, 1) := dk_5 (dk_at dksX1_chooses_4 7 rfl rfl)
theorem dX1_chooses_99 : decode cX1_chooses 99 = .ok (.istore 6, 2) := dk_54 6 (dk_at dksX1_chooses_4 8 rfl rfl)
theorem dX1_chooses_101 : decode cX1_chooses 101 = .ok (.iconst 0, 1) := dk_3 (dk_at dksX1_chooses_4 10 rfl rfl)
theorem dX1_chooses_102 : decode cX1_chooses 102 = .ok (.istore 7, 2) := dk_54 7 (dk_at dksX1_chooses_4 11 rfl rfl)
theorem dX1_chooses_104 : decode cX1_chooses 104 = .ok (.iload 7, 2) := dk_21 7 (dk_at dksX1_chooses_4 13 rfl rfl)
theorem dX1_chooses_106 : decode cX1_chooses 106 = .ok (.iload 6, 2) := dk_21 6 (dk_at dksX1_chooses_4 15 rfl rfl)
theorem dX1_chooses_108 : decode cX1_chooses 108 = .ok (.if_icmp .gt 44, 3) := dk_163 0 44 (dk_at dksX1_chooses_4 17 rfl rfl)
theorem dX1_chooses_111 : decode cX1_chooses 111 = .ok (.aload_n 0, 1) := dk_42 (dk_at dksX1_chooses_4 20 rfl rfl)
theorem dX1_chooses_112 : decode cX1_chooses 112 = .ok (.getfield 42, 3) := dk_180 0 42 (dk_at dksX1_chooses_4 21 rfl rfl)
theorem dX1_chooses_115 : decode cX1_chooses 115 = .ok (.aload_n 0, 1) := dk_42 (dk_at dksX1_chooses_5 0 rfl rfl)
theorem dX1_chooses_116 : decode cX1_chooses 116 = .ok (.getfield 48, 3) := dk_180 0 48 (dk_at dksX1_chooses_5 1 rfl rfl)
theorem dX1_chooses_119 : decode cX1_chooses 119 = .ok (.iload_n 1, 1) := dk_27 (dk_at dksX1_chooses_5 4 rfl rfl)
theorem dX1_chooses_120 : decode cX1_chooses 120 = .ok (.iaload, 1) := dk_46 (dk_at dksX1_chooses_5 5 rfl rfl)
theorem dX1_chooses_121 : decode cX1_chooses 121 = .ok (.iload 7, 2) := dk_21 7 (dk_at dksX1_chooses_5 6 rfl rfl)
theorem dX1_chooses_123 : decode cX1_chooses 123 = .ok (.iastore, 1) := dk_79 (dk_at dksX1_chooses_5 8 rfl rfl)
theorem dX1_chooses_124 : decode cX1_chooses 124 = .ok (.aload_n 0, 1) := dk_42 (dk_at dksX1_chooses_5 9 rfl rfl)
theorem dX1_chooses_125 : decode cX1_chooses 125 = .ok (.iload_n 1, 1) := dk_27 (dk_at dksX1_chooses_5 10 rfl rfl)
theorem dX1_chooses_126 : decode cX1_chooses 126 = .ok (.iconst 1, 1) := dk_4 (dk_at dksX1_chooses_5 11 rfl rfl)
theorem dX1_chooses_127 : decode cX1_chooses 127 = .ok (.iadd, 1) := dk_96 (dk_at dksX1_chooses_5 12 rfl rfl)
theorem dX1_chooses_128 : decode cX1_chooses 128 = .ok (.iload_n 2, 1) := dk_28 (dk_at dksX1_chooses_5 13 rfl rfl)
theorem dX1_chooses_129 : decode cX1_chooses 129 = .ok (.lload_n 3, 1) := dk_33 (dk_at dksX1_chooses_5 14 rfl rfl)
theorem dX1_chooses_130 : decode cX1_chooses 130 = .ok (.iload 5, 2) := dk_21 5 (dk_at dksX1_chooses_5 15 rfl rfl)
theorem dX1_chooses_132 : decode cX1_chooses 132 = .ok (.aload_n 0, 1) := dk_42 (dk_at dksX1_chooses_5 17 rfl rfl)
theorem dX1_chooses_133 : decode cX1_chooses 133 = .ok (.getfield 19, 3) := dk_180 0 19 (dk_at dksX1_chooses_5 18 rfl rfl)
theorem dX1_chooses_136 : decode cX1_chooses 136 = .ok (.getfield 151, 3) := dk_180 0 151 (dk_at dksX1_chooses_5 21 rfl rfl)
theorem dX1_chooses_139 : decode cX1_chooses 139 = .ok (.iload 7, 2) := dk_21 7 (dk_at dksX1_chooses_6 0 rfl rfl)
theorem dX1_chooses_141 : decode cX1_chooses 141 = .ok (.iaload, 1) := dk_46 (dk_at dksX1_chooses_6 2 rfl rfl)
theorem dX1_chooses_142 : decode cX1_chooses 142 = .ok (.iadd, 1) := dk_96 (dk_at dksX1_chooses_6 3 rfl rfl)
theorem dX1_chooses_143 : decode cX1_chooses 143 = .ok (.invokevirtual 347, 3) := dk_182 1 91 (dk_at dksX1_chooses_6 4 rfl rfl)
theorem dX1_chooses_146 : decode cX1_chooses 146 = .ok (.iinc 7 1, 3) := dk_132 7 1 (dk_at dksX1_chooses_6 7 rfl rfl)
theorem dX1_chooses_149 : decode cX1_chooses 149 = .ok (.goto (-45), 3) := dk_167 255 211 (dk_at dksX1_chooses_6 10 rfl rfl)
theorem dX1_chooses_152 : decode cX1_chooses 152 = .ok (.return_, 1) := dk_177 (dk_at dksX1_chooses_6 13 rfl rfl)
def dkwX1_joined_3 : List UInt8 := [132, 2, 1, 167, 255, 202, 42, 3, 181, 1, 76, 42, 3, 3, 27, 182, 1, 109, 42, 180, 1, 79, 172]
abbrev dktX1_joined_3 : List UInt8 := dkwX1_joined_3 ++ []
def dkwX1_joined_2 : List UInt8 := [167, 0, 23, 42, 180, 0, 48, 42, 180, 1, 82, 28, 79, 42, 89, 180, 1, 82, 4, 96, 181, 1, 82]
abbrev dktX1_joined_2 : List UInt8 := dkwX1_joined_2 ++ dktX1_joined_3
def dkwX1_joined_1 : List UInt8 := [180, 0, 70, 162, 0, 49, 42, 180, 1, 82, 16, 6, 162, 0, 40, 42, 28, 182, 1, 95, 154, 0, 6]
abbrev dktX1_joined_1 : List UInt8 := dkwX1_joined_1 ++ dktX1_joined_2
def dkwX1_joined_0 : List UInt8 := [27, 4, 16, 16, 184, 0, 73, 184, 0, 148, 42, 3, 181, 1, 82, 3, 61, 28, 42, 180, 0, 19]
abbrev dktX1_joined_0 : List UInt8 := dkwX1_joined_0 ++ dktX1_joined_1
theorem dksX1_joined_0 : cX1_joined.data.toList.drop 0 = dktX1_joined_0 := by decide +kernel
theorem dksX1_joined_1 : cX1_joined.data.toList.drop 22 = dktX1_joined_1 := dk_seg dksX1_joined_0 22 rfl rfl
theorem dksX1_joined_2 : cX1_joined.data.toList.drop 45 = dktX1_joined_2 := dk_seg dksX1_joined_1 23 rfl rfl
theorem dksX1_joined_3 : cX1_joined.data.toList.drop 68 = dktX1_joined_3 := dk_seg dksX1_joined_2 23 rfl rfl
theorem dX1_joined_0 : decode cX1_joined 0 = .ok (.iload_n 1, 1) := dk_27 (dk_at dksX1_joined_0 0 rfl rfl)
theorem dX1_joined_1 : decode cX1_joined 1 = .ok (.iconst 1, 1) := dk_4 (dk_at dksX1_joined_0 1 rfl rfl)
theorem dX1_joined_2 : decode cX1_joined 2 = .ok (.bipush 16, 2) := dk_16 16 (dk_at dksX1_joined_0 2 rfl rfl)
theorem dX1_joined_4 : decode cX1_joined 4 = .ok (.invokestatic 73, 3) := dk_184 0 73 (dk_at dksX1_joined_0 4 rfl rfl)
theorem dX1_joined_7 : decode cX1_joined 7 = .ok (.invokestatic 148, 3) := dk_184 0 148 (dk_at dksX1_joined_0 7 rfl rfl)
theorem dX1_joined_10 : decode cX1_joined 10 = .ok (.aload_n 0, 1) := dk_42 (dk_at dksX1_joined_0 10 rfl rfl)
theorem dX1_joined_11 : decode cX1_joined 11 = .ok (.iconst 0, 1) := dk_3 (dk_at dksX1_joined_0 11 rfl rfl)
theorem dX1_joined_12 : decode cX1_joined 12 = .ok (.putfield 338, 3) := dk_181 1 82 (dk_at dksX1_joined_0 12 rfl rfl)
theorem dX1_joined_15 : decode cX1_joined 15 = .ok (.iconst 0, 1) := dk_3 (dk_at dksX1_joined_0 15 rfl rfl)
theorem dX1_joined_16 : decode cX1_joined 16 = .ok (.istore_n 2, 1) := dk_61 (dk_at dksX1_joined_0 16 rfl rfl)
theorem dX1_joined_17 : decode cX1_joined 17 = .ok (.iload_n 2, 1) := dk_28 (dk_at dksX1_joined_0 17 rfl rfl)
theorem dX1_joined_18 : decode cX1_joined 18 = .ok (.aload_n 0, 1) := dk_42 (dk_at dksX1_joined_0 18 rfl rfl)
theorem dX1_joined_19 : decode cX1_joined 19 = .ok (.getfield 19, 3) := dk_180 0 19 (dk_at dksX1_joined_0 19 rfl rfl)
theorem dX1_joined_22 : decode cX1_joined 22 = .ok (.getfield 70, 3) := dk_180 0 70 (dk_at dksX1_joined_1 0 rfl rfl)
theorem dX1_joined_25 : decode cX1_joined 25 = .ok (.if_icmp .ge 49, 3) := dk_162 0 49 (dk_at dksX1_joined_1 3 rfl rfl)
theorem dX1_joined_28 : decode cX1_joined 28 = .ok (.aload_n 0, 1) := dk_42 (dk_at dksX1_joined_1 6 rfl rfl)
theorem dX1_joined_29 : decode cX1_joined 29 = .ok (.getfield 338, 3) := dk_180 1 82 (dk_at dksX1_joined_1 7 rfl rfl)
theorem dX1_joined_32 : decode cX1_joined 32 = .ok (.bipush 6, 2) := dk_16 6 (dk_at dksX1_joined_1 10 rfl rfl)
theorem dX1_joined_34 : decode cX1_joined 34 = .ok (.if_icmp .ge 40, 3) := dk_162 0 40 (dk_at dksX1_joined_1 12 rfl rfl)
theorem dX1_joined_37 : decode cX1_joined 37 = .ok (.aload_n 0, 1) := dk_42 (dk_at dksX1_joined_1 15 rfl rfl)
theorem dX1_joined_38 : decode cX1_joined 38 = .ok (.iload_n 2, 1) := dk_28 (dk_at dksX1_joined_1 16 rfl rfl)
theorem dX1_joined_39 : decode cX1_joined 39 = .ok (.invokevirtual 351, 3) := dk_182 1 95 (dk_at dksX1_joined_1 17 rfl rfl)
theorem dX1_joined_42 : decode cX1_joined 42 = .ok (.ifCond .ne 6, 3) := dk_154 0 6 (dk_at dksX1_joined_1 20 rfl rfl)
theorem dX1_joined_45 : decode cX1_joined 45 = .ok (.goto 23, 3) := dk_167 0 23 (dk_at dksX1_joined_2 0 rfl rfl)
theorem dX1_joined_48 : decode cX1_joined 48 = .ok (.aload_n 0, 1) := dk_42 (dk_at dksX1_joined_2 3 rfl rfl)
theorem dX1_joined_49 : decode cX1_joined 49 = .ok (.getfield 48, 3) := dk_180 0 48 (dk_at dksX1_joined_2 4 rfl rfl)
theorem dX1_joined_52 : decode cX1_joined 52 = .ok (.aload_n 0, 1) := dk_42 (dk_at dksX1_joined_2 7 rfl rfl)
theorem dX1_joined_53 : decode cX1_joined 53 = .ok (.getfield 338, 3) := dk_180 1 82 (dk_at dksX1_joined_2 8 rfl rfl)
theorem dX1_joined_56 : decode cX1_joined 56 = .ok (.iload_n 2, 1) := dk_28 (dk_at dksX1_joined_2 11 rfl rfl)
theorem dX1_joined_57 : decode cX1_joined 57 = .ok (.iastore, 1) := dk_79 (dk_at dksX1_joined_2 12 rfl rfl)
theorem dX1_joined_58 : decode cX1_joined 58 = .ok (.aload_n 0, 1) := dk_42 (dk_at dksX1_joined_2 13 rfl rfl)
theorem dX1_joined_59 : decode cX1_joined 59 = .ok (.dup, 1) := dk_89 (dk_at dksX1_joined_2 14 rfl rfl)
theorem dX1_joined_60 : decode cX1_joined 60 = .ok (.getfield 338, 3) := dk_180 1 82 (dk_at dksX1_joined_2 15 rfl rfl)
theorem dX1_joined_63 : decode cX1_joined 63 = .ok (.iconst 1, 1) := dk_4 (dk_at dksX1_joined_2 18 rfl rfl)
theorem dX1_joined_64 : decode cX1_joined 64 = .ok (.iadd, 1) := dk_96 (dk_at dksX1_joined_2 19 rfl rfl)
theorem dX1_joined_65 : decode cX1_joined 65 = .ok (.putfield 338, 3) := dk_181 1 82 (dk_at dksX1_joined_2 20 rfl rfl)
theorem dX1_joined_68 : decode cX1_joined 68 = .ok (.iinc 2 1, 3) := dk_132 2 1 (dk_at dksX1_joined_3 0 rfl rfl)
theorem dX1_joined_71 : decode cX1_joined 71 = .ok (.goto (-54), 3) := dk_167 255 202 (dk_at dksX1_joined_3 3 rfl rfl)
theorem dX1_joined_74 : decode cX1_joined 74 = .ok (.aload_n 0, 1) := dk_42 (dk_at dksX1_joined_3 6 rfl rfl)
theorem dX1_joined_75 : decode cX1_joined 75 = .ok (.iconst 0, 1) := dk_3 (dk_at dksX1_joined_3 7 rfl rfl)
theorem dX1_joined_76 : decode cX1_joined 76 = .ok (.putfield 332, 3) := dk_181 1 76 (dk_at dksX1_joined_3 8 rfl rfl)
theorem dX1_joined_79 : decode cX1_joined 79 = .ok (.aload_n 0, 1) := dk_42 (dk_at dksX1_joined_3 11 rfl rfl)
theorem dX1_joined_80 : decode cX1_joined 80 = .ok (.iconst 0, 1) := dk_3 (dk_at dksX1_joined_3 12 rfl rfl)
theorem dX1_joined_81 : decode cX1_joined 81 = .ok (.iconst 0, 1) := dk_3 (dk_at dksX1_joined_3 13 rfl rfl)
theorem dX1_joined_82 : decode cX1_joined 82 = .ok (.iload_n 1, 1) := dk_27 (dk_at dksX1_joined_3 14 rfl rfl)
theorem dX1_joined_83 : decode cX1_joined 83 = .ok (.invokevirtual 365, 3) := dk_182 1 109 (dk_at dksX1_joined_3 15 rfl rfl)
theorem dX1_joined_86 : decode cX1_joined 86 = .ok (.aload_n 0, 1) := dk_42 (dk_at dksX1_joined_3 18 rfl rfl)
theorem dX1_joined_87 : decode cX1_joined 87 = .ok (.getfield 335, 3) := dk_180 1 79 (dk_at dksX1_joined_3 19 rfl rfl)
theorem dX1_joined_90 : decode cX1_joined 90 = .ok (.ireturn, 1) := dk_172 (dk_at dksX1_joined_3 22 rfl rfl)
def dkwX1_parts_4 : List UInt8 := [132, 4, 1, 167, 255, 212, 177]
abbrev dktX1_parts_4 : List UInt8 := dkwX1_parts_4 ++ []
def dkwX1_parts_3 : List UInt8 := [21, 4, 79, 42, 27, 4, 96, 21, 4, 28, 160, 0, 9, 28, 4, 96, 167, 0, 4, 28, 29, 182, 1, 109]
abbrev dktX1_parts_3 : List UInt8 := dkwX1_parts_3 ++ dktX1_parts_4
def dkwX1_parts_2 : List UInt8 := [181, 1, 79, 177, 3, 54, 4, 21, 4, 28, 163, 0, 44, 21, 4, 29, 162, 0, 38, 42, 180, 0, 51, 27]
abbrev dktX1_parts_2 : List UInt8 := dkwX1_parts_2 ++ dktX1_parts_3
def dkwX1_parts_1 : List UInt8 := [180, 1, 76, 153, 0, 13, 21, 4, 42, 180, 1, 79, 161, 0, 4, 177, 42, 4, 181, 1, 76, 42, 21, 4]
abbrev dktX1_parts_1 : List UInt8 := dkwX1_parts_1 ++ dktX1_parts_2
def dkwX1_parts_0 : List UInt8 := [27, 42, 180, 1, 82, 160, 0, 45, 42, 28, 182, 1, 105, 54, 4, 21, 4, 2, 159, 0, 19, 42]
abbrev dktX1_parts_0 : List UInt8 := dkwX1_parts_0 ++ dktX1_parts_1
theorem dksX1_parts_0 : cX1_parts.data.toList.drop 0 = dktX1_parts_0 := by decide +kernel
theorem dksX1_parts_1 : cX1_parts.data.toList.drop 22 = dktX1_parts_1 := dk_seg dksX1_parts_0 22 rfl rfl
theorem dksX1_parts_2 : cX1_parts.data.toList.drop 46 = dktX1_parts_2 := dk_seg dksX1_parts_1 24 rfl rfl
theorem dksX1_parts_3 : cX1_parts.data.toList.drop 70 = dktX1_parts_3 := dk_seg dksX1_parts_2 24 rfl rfl
theorem dksX1_parts_4 : cX1_parts.data.toList.drop 94 = dktX1_parts_4 := dk_seg dksX1_parts_3 24 rfl rfl
theorem dX1_parts_0 : decode cX1_parts 0 = .ok (.iload_n 1, 1) := dk_27 (dk_at dksX1_parts_0 0 rfl rfl)
theorem dX1_parts_1 : decode cX1_parts 1 = .ok (.aload_n 0, 1) := dk_42 (dk_at dksX1_parts_0 1 rfl rfl)
theorem dX1_parts_2 : decode cX1_parts 2 = .ok (.getfield 338, 3) := dk_180 1 82 (dk_at dksX1_parts_0 2 rfl rfl)
theorem dX1_parts_5 : decode cX1_parts 5 = .ok (.if_icmp .ne 45, 3) := dk_160 0 45 (dk_at dksX1_parts_0 5 rfl rfl)
theorem dX1_parts_8 : decode cX1_parts 8 = .ok (.aload_n 0, 1) := dk_42 (dk_at dksX1_parts_0 8 rfl rfl)
theorem dX1_parts_9 : decode cX1_parts 9 = .ok (.iload_n 2, 1) := dk_28 (dk_at dksX1_parts_0 9 rfl rfl)
theorem dX1_parts_10 : decode cX1_parts 10 = .ok (.invokevirtual 361, 3) := dk_182 1 105 (dk_at dksX1_parts_0 10 rfl rfl)
theorem dX1_parts_13 : decode cX1_parts 13 = .ok (.istore 4, 2) := dk_54 4 (dk_at dksX1_parts_0 13 rfl rfl)
theorem dX1_parts_15 : decode cX1_parts 15 = .ok (.iload 4, 2) := dk_21 4 (dk_at dksX1_parts_0 15 rfl rfl)
theorem dX1_parts_17 : decode cX1_parts 17 = .ok (.iconst (-1), 1) := dk_2 (dk_at dksX1_parts_0 17 rfl rfl)
theorem dX1_parts_18 : decode cX1_parts 18 = .ok (.if_icmp .eq 19, 3) := dk_159 0 19 (dk_at dksX1_parts_0 18 rfl rfl)
theorem dX1_parts_21 : decode cX1_parts 21 = .ok (.aload_n 0, 1) := dk_42 (dk_at dksX1_parts_0 21 rfl rfl)
theorem dX1_parts_22 : decode cX1_parts 22 = .ok (.getfield 332, 3) := dk_180 1 76 (dk_at dksX1_parts_1 0 rfl rfl)
theorem dX1_parts_25 : decode cX1_parts 25 = .ok (.ifCond .eq 13, 3) := dk_153 0 13 (dk_at dksX1_parts_1 3 rfl rfl)
theorem dX1_parts_28 : decode cX1_parts 28 = .ok (.iload 4, 2) := dk_21 4 (dk_at dksX1_parts_1 6 rfl rfl)
theorem dX1_parts_30 : decode cX1_parts 30 = .ok (.aload_n 0, 1) := dk_42 (dk_at dksX1_parts_1 8 rfl rfl)
theorem dX1_parts_31 : decode cX1_parts 31 = .ok (.getfield 335, 3) := dk_180 1 79 (dk_at dksX1_parts_1 9 rfl rfl)
theorem dX1_parts_34 : decode cX1_parts 34 = .ok (.if_icmp .lt 4, 3) := dk_161 0 4 (dk_at dksX1_parts_1 12 rfl rfl)
theorem dX1_parts_37 : decode cX1_parts 37 = .ok (.return_, 1) := dk_177 (dk_at dksX1_parts_1 15 rfl rfl)
theorem dX1_parts_38 : decode cX1_parts 38 = .ok (.aload_n 0, 1) := dk_42 (dk_at dksX1_parts_1 16 rfl rfl)
theorem dX1_parts_39 : decode cX1_parts 39 = .ok (.iconst 1, 1) := dk_4 (dk_at dksX1_parts_1 17 rfl rfl)
theorem dX1_parts_40 : decode cX1_parts 40 = .ok (.putfield 332, 3) := dk_181 1 76 (dk_at dksX1_parts_1 18 rfl rfl)
theorem dX1_parts_43 : decode cX1_parts 43 = .ok (.aload_n 0, 1) := dk_42 (dk_at dksX1_parts_1 21 rfl rfl)
theorem dX1_parts_44 : decode cX1_parts 44 = .ok (.iload 4, 2) := dk_21 4 (dk_at dksX1_parts_1 22 rfl rfl)
theorem dX1_parts_46 : decode cX1_parts 46 = .ok (.putfield 335, 3) := dk_181 1 79 (dk_at dksX1_parts_2 0 rfl rfl)
theorem dX1_parts_49 : decode cX1_parts 49 = .ok (.return_, 1) := dk_177 (dk_at dksX1_parts_2 3 rfl rfl)
theorem dX1_parts_50 : decode cX1_parts 50 = .ok (.iconst 0, 1) := dk_3 (dk_at dksX1_parts_2 4 rfl rfl)
theorem dX1_parts_51 : decode cX1_parts 51 = .ok (.istore 4, 2) := dk_54 4 (dk_at dksX1_parts_2 5 rfl rfl)
theorem dX1_parts_53 : decode cX1_parts 53 = .ok (.iload 4, 2) := dk_21 4 (dk_at dksX1_parts_2 7 rfl rfl)
theorem dX1_parts_55 : decode cX1_parts 55 = .ok (.iload_n 2, 1) := dk_28 (dk_at dksX1_parts_2 9 rfl rfl)
theorem dX1_parts_56 : decode cX1_parts 56 = .ok (.if_icmp .gt 44, 3) := dk_163 0 44 (dk_at dksX1_parts_2 10 rfl rfl)
theorem dX1_parts_59 : decode cX1_parts 59 = .ok (.iload 4, 2) := dk_21 4 (dk_at dksX1_parts_2 13 rfl rfl)
theorem dX1_parts_61 : decode cX1_parts 61 = .ok (.iload_n 3, 1) := dk_29 (dk_at dksX1_parts_2 15 rfl rfl)
theorem dX1_parts_62 : decode cX1_parts 62 = .ok (.if_icmp .ge 38, 3) := dk_162 0 38 (dk_at dksX1_parts_2 16 rfl rfl)
theorem dX1_parts_65 : decode cX1_parts 65 = .ok (.aload_n 0, 1) := dk_42 (dk_at dksX1_parts_2 19 rfl rfl)
theorem dX1_parts_66 : decode cX1_parts 66 = .ok (.getfield 51, 3) := dk_180 0 51 (dk_at dksX1_parts_2 20 rfl rfl)
theorem dX1_parts_69 : decode cX1_parts 69 = .ok (.iload_n 1, 1) := dk_27 (dk_at dksX1_parts_2 23 rfl rfl)
theorem dX1_parts_70 : decode cX1_parts 70 = .ok (.iload 4, 2) := dk_21 4 (dk_at dksX1_parts_3 0 rfl rfl)
theorem dX1_parts_72 : decode cX1_parts 72 = .ok (.iastore, 1) := dk_79 (dk_at dksX1_parts_3 2 rfl rfl)
theorem dX1_parts_73 : decode cX1_parts 73 = .ok (.aload_n 0, 1) := dk_42 (dk_at dksX1_parts_3 3 rfl rfl)
theorem dX1_parts_74 : decode cX1_parts 74 = .ok (.iload_n 1, 1) := dk_27 (dk_at dksX1_parts_3 4 rfl rfl)
theorem dX1_parts_75 : decode cX1_parts 75 = .ok (.iconst 1, 1) := dk_4 (dk_at dksX1_parts_3 5 rfl rfl)
theorem dX1_parts_76 : decode cX1_parts 76 = .ok (.iadd, 1) := dk_96 (dk_at dksX1_parts_3 6 rfl rfl)
theorem dX1_parts_77 : decode cX1_parts 77 = .ok (.iload 4, 2) := dk_21 4 (dk_at dksX1_parts_3 7 rfl rfl)
theorem dX1_parts_79 : decode cX1_parts 79 = .ok (.iload_n 2, 1) := dk_28 (dk_at dksX1_parts_3 9 rfl rfl)
theorem dX1_parts_80 : decode cX1_parts 80 = .ok (.if_icmp .ne 9, 3) := dk_160 0 9 (dk_at dksX1_parts_3 10 rfl rfl)
theorem dX1_parts_83 : decode cX1_parts 83 = .ok (.iload_n 2, 1) := dk_28 (dk_at dksX1_parts_3 13 rfl rfl)
theorem dX1_parts_84 : decode cX1_parts 84 = .ok (.iconst 1, 1) := dk_4 (dk_at dksX1_parts_3 14 rfl rfl)
theorem dX1_parts_85 : decode cX1_parts 85 = .ok (.iadd, 1) := dk_96 (dk_at dksX1_parts_3 15 rfl rfl)
theorem dX1_parts_86 : decode cX1_parts 86 = .ok (.goto 4, 3) := dk_167 0 4 (dk_at dksX1_parts_3 16 rfl rfl)
theorem dX1_parts_89 : decode cX1_parts 89 = .ok (.iload_n 2, 1) := dk_28 (dk_at dksX1_parts_3 19 rfl rfl)
theorem dX1_parts_90 : decode cX1_parts 90 = .ok (.iload_n 3, 1) := dk_29 (dk_at dksX1_parts_3 20 rfl rfl)
theorem dX1_parts_91 : decode cX1_parts 91 = .ok (.invokevirtual 365, 3) := dk_182 1 109 (dk_at dksX1_parts_3 21 rfl rfl)
theorem dX1_parts_94 : decode cX1_parts 94 = .ok (.iinc 4 1, 3) := dk_132 4 1 (dk_at dksX1_parts_4 0 rfl rfl)
theorem dX1_parts_97 : decode cX1_parts 97 = .ok (.goto (-44), 3) := dk_167 255 212 (dk_at dksX1_parts_4 3 rfl rfl)
theorem dX1_parts_100 : decode cX1_parts 100 = .ok (.return_, 1) := dk_177 (dk_at dksX1_parts_4 6 rfl rfl)
def dkwX1_more_8 : List UInt8 := [167, 255, 206, 132, 3, 1, 167, 255, 140, 28, 172]
abbrev dktX1_more_8 : List UInt8 := dkwX1_more_8 ++ []
def dkwX1_more_7 : List UInt8 := [180, 0, 48, 21, 6, 46, 182, 1, 102, 184, 1, 112, 100, 167, 0, 4, 3, 96, 61, 132, 6, 1]
abbrev dktX1_more_7 : List UInt8 := dkwX1_more_7 ++ dktX1_more_8
def dkwX1_more_6 : List UInt8 := [162, 0, 47, 28, 42, 180, 0, 51, 21, 6, 46, 29, 160, 0, 26, 22, 4, 184, 1, 112, 42, 42]
abbrev dktX1_more_6 : List UInt8 := dkwX1_more_6 ++ dktX1_more_7
def dkwX1_more_5 : List UInt8 := [167, 0, 4, 9, 129, 55, 4, 132, 6, 1, 167, 255, 213, 3, 54, 6, 21, 6, 42, 180, 1, 82]
abbrev dktX1_more_5 : List UInt8 := dkwX1_more_5 ++ dktX1_more_6
def dkwX1_more_4 : List UInt8 := [22, 4, 42, 180, 0, 51, 21, 6, 46, 29, 160, 0, 17, 42, 42, 180, 0, 48, 21, 6, 46, 182, 1, 102]
abbrev dktX1_more_4 : List UInt8 := dkwX1_more_4 ++ dktX1_more_5
def dkwX1_more_3 : List UInt8 := [3, 61, 3, 62, 29, 27, 162, 0, 117, 9, 55, 4, 3, 54, 6, 21, 6, 42, 180, 1, 82, 162, 0, 40]
abbrev dktX1_more_3 : List UInt8 := dkwX1_more_3 ++ dktX1_more_4
def dkwX1_more_2 : List UInt8 := [46, 182, 1, 102, 127, 9, 148, 153, 0, 5, 2, 172, 132, 3, 1, 167, 255, 205, 132, 2, 1, 167, 255, 189]
abbrev dktX1_more_2 : List UInt8 := dkwX1_more_2 ++ dktX1_more_3
def dkwX1_more_1 : List UInt8 := [180, 0, 51, 29, 46, 159, 0, 31, 42, 42, 180, 0, 48, 28, 46, 182, 1, 102, 42, 42, 180, 0, 48, 29]
abbrev dktX1_more_1 : List UInt8 := dkwX1_more_1 ++ dktX1_more_2
def dkwX1_more_0 : List UInt8 := [3, 61, 28, 42, 180, 1, 82, 162, 0, 65, 3, 62, 29, 28, 162, 0, 52, 42, 180, 0, 51, 28, 46, 42]
abbrev dktX1_more_0 : List UInt8 := dkwX1_more_0 ++ dktX1_more_1
theorem dksX1_more_0 : cX1_more.data.toList.drop 0 = dktX1_more_0 := by decide +kernel
theorem dksX1_more_1 : cX1_more.data.toList.drop 24 = dktX1_more_1 := dk_seg dksX1_more_0 24 rfl rfl
theorem dksX1_more_2 : cX1_more.data.toList.drop 48 = dktX1_more_2 := dk_seg dksX1_more_1 24 rfl rfl
theorem dksX1_more_3 : cX1_more.data.toList.drop 72 = dktX1_more_3 := dk_seg dksX1_more_2 24 rfl rfl
theorem dksX1_more_4 : cX1_more.data.toList.drop 96 = dktX1_more_4 := dk_seg dksX1_more_3 24 rfl rfl
theorem dksX1_more_5 : cX1_more.data.toList.drop 120 = dktX1_more_5 := dk_seg dksX1_more_4 24 rfl rfl
theorem dksX1_more_6 : cX1_more.data.toList.drop 142 = dktX1_more_6 := dk_seg dksX1_more_5 22 rfl rfl
theorem dksX1_more_7 : cX1_more.data.toList.drop 164 = dktX1_more_7 := dk_seg dksX1_more_6 22 rfl rfl
theorem dksX1_more_8 : cX1_more.data.toList.drop 186 = dktX1_more_8 := dk_seg dksX1_more_7 22 rfl rfl
theorem dX1_more_0 : decode cX1_more 0 = .ok (.iconst 0, 1) := dk_3 (dk_at dksX1_more_0 0 rfl rfl)
theorem dX1_more_1 : decode cX1_more 1 = .ok (.istore_n 2, 1) := dk_61 (dk_at dksX1_more_0 1 rfl rfl)
theorem dX1_more_2 : decode cX1_more 2 = .ok (.iload_n 2, 1) := dk_28 (dk_at dksX1_more_0 2 rfl rfl)
theorem dX1_more_3 : decode cX1_more 3 = .ok (.aload_n 0, 1) := dk_42 (dk_at dksX1_more_0 3 rfl rfl)
theorem dX1_more_4 : decode cX1_more 4 = .ok (.getfield 338, 3) := dk_180 1 82 (dk_at dksX1_more_0 4 rfl rfl)
theorem dX1_more_7 : decode cX1_more 7 = .ok (.if_icmp .ge 65, 3) := dk_162 0 65 (dk_at dksX1_more_0 7 rfl rfl)
theorem dX1_more_10 : decode cX1_more 10 = .ok (.iconst 0, 1) := dk_3 (dk_at dksX1_more_0 10 rfl rfl)
theorem dX1_more_11 : decode cX1_more 11 = .ok (.istore_n 3, 1) := dk_62 (dk_at dksX1_more_0 11 rfl rfl)
theorem dX1_more_12 : decode cX1_more 12 = .ok (.iload_n 3, 1) := dk_29 (dk_at dksX1_more_0 12 rfl rfl)
theorem dX1_more_13 : decode cX1_more 13 = .ok (.iload_n 2, 1) := dk_28 (dk_at dksX1_more_0 13 rfl rfl)
theorem dX1_more_14 : decode cX1_more 14 = .ok (.if_icmp .ge 52, 3) := dk_162 0 52 (dk_at dksX1_more_0 14 rfl rfl)
theorem dX1_more_17 : decode cX1_more 17 = .ok (.aload_n 0, 1) := dk_42 (dk_at dksX1_more_0 17 rfl rfl)
theorem dX1_more_18 : decode cX1_more 18 = .ok (.getfield 51, 3) := dk_180 0 51 (dk_at dksX1_more_0 18 rfl rfl)
theorem dX1_more_21 : decode cX1_more 21 = .ok (.iload_n 2, 1) := dk_28 (dk_at dksX1_more_0 21 rfl rfl)
theorem dX1_more_22 : decode cX1_more 22 = .ok (.iaload, 1) := dk_46 (dk_at dksX1_more_0 22 rfl rfl)
theorem dX1_more_23 : decode cX1_more 23 = .ok (.aload_n 0, 1) := dk_42 (dk_at dksX1_more_0 23 rfl rfl)
theorem dX1_more_24 : decode cX1_more 24 = .ok (.getfield 51, 3) := dk_180 0 51 (dk_at dksX1_more_1 0 rfl rfl)
theorem dX1_more_27 : decode cX1_more 27 = .ok (.iload_n 3, 1) := dk_29 (dk_at dksX1_more_1 3 rfl rfl)
theorem dX1_more_28 : decode cX1_more 28 = .ok (.iaload, 1) := dk_46 (dk_at dksX1_more_1 4 rfl rfl)
theorem dX1_more_29 : decode cX1_more 29 = .ok (.if_icmp .eq 31, 3) := dk_159 0 31 (dk_at dksX1_more_1 5 rfl rfl)
theorem dX1_more_32 : decode cX1_more 32 = .ok (.aload_n 0, 1) := dk_42 (dk_at dksX1_more_1 8 rfl rfl)
theorem dX1_more_33 : decode cX1_more 33 = .ok (.aload_n 0, 1) := dk_42 (dk_at dksX1_more_1 9 rfl rfl)
theorem dX1_more_34 : decode cX1_more 34 = .ok (.getfield 48, 3) := dk_180 0 48 (dk_at dksX1_more_1 10 rfl rfl)
theorem dX1_more_37 : decode cX1_more 37 = .ok (.iload_n 2, 1) := dk_28 (dk_at dksX1_more_1 13 rfl rfl)
theorem dX1_more_38 : decode cX1_more 38 = .ok (.iaload, 1) := dk_46 (dk_at dksX1_more_1 14 rfl rfl)
theorem dX1_more_39 : decode cX1_more 39 = .ok (.invokevirtual 358, 3) := dk_182 1 102 (dk_at dksX1_more_1 15 rfl rfl)
theorem dX1_more_42 : decode cX1_more 42 = .ok (.aload_n 0, 1) := dk_42 (dk_at dksX1_more_1 18 rfl rfl)
theorem dX1_more_43 : decode cX1_more 43 = .ok (.aload_n 0, 1) := dk_42 (dk_at dksX1_more_1 19 rfl rfl)
theorem dX1_more_44 : decode cX1_more 44 = .ok (.getfield 48, 3) := dk_180 0 48 (dk_at dksX1_more_1 20 rfl rfl)
theorem dX1_more_47 : decode cX1_more 47 = .ok (.iload_n 3, 1) := dk_29 (dk_at dksX1_more_1 23 rfl rfl)
theorem dX1_more_48 : decode cX1_more 48 = .ok (.iaload, 1) := dk_46 (dk_at dksX1_more_2 0 rfl rfl)
theorem dX1_more_49 : decode cX1_more 49 = .ok (.invokevirtual 358, 3) := dk_182 1 102 (dk_at dksX1_more_2 1 rfl rfl)
theorem dX1_more_52 : decode cX1_more 52 = .ok (.land, 1) := dk_127 (dk_at dksX1_more_2 4 rfl rfl)
theorem dX1_more_53 : decode cX1_more 53 = .ok (.lconst 0, 1) := dk_9 (dk_at dksX1_more_2 5 rfl rfl)
theorem dX1_more_54 : decode cX1_more 54 = .ok (.lcmp, 1) := dk_148 (dk_at dksX1_more_2 6 rfl rfl)
theorem dX1_more_55 : decode cX1_more 55 = .ok (.ifCond .eq 5, 3) := dk_153 0 5 (dk_at dksX1_more_2 7 rfl rfl)
theorem dX1_more_58 : decode cX1_more 58 = .ok (.iconst (-1), 1) := dk_2 (dk_at dksX1_more_2 10 rfl rfl)
theorem dX1_more_59 : decode cX1_more 59 = .ok (.ireturn, 1) := dk_172 (dk_at dksX1_more_2 11 rfl rfl)
theorem dX1_more_60 : decode cX1_more 60 = .ok (.iinc 3 1, 3) := dk_132 3 1 (dk_at dksX1_more_2 12 rfl rfl)
theorem dX1_more_63 : decode cX1_more 63 = .ok (.goto (-51), 3) := dk_167 255 205 (dk_at dksX1_more_2 15 rfl rfl)
theorem dX1_more_66 : decode cX1_more 66 = .ok (.iinc 2 1, 3) := dk_132 2 1 (dk_at dksX1_more_2 18 rfl rfl)
theorem dX1_more_69 : decode cX1_more 69 = .ok (.goto (-67), 3) := dk_167 255 189 (dk_at dksX1_more_2 21 rfl rfl)
theorem dX1_more_72 : decode cX1_more 72 = .ok (.iconst 0, 1) := dk_3 (dk_at dksX1_more_3 0 rfl rfl)
theorem dX1_more_73 : decode cX1_more 73 = .ok (.istore_n 2, 1) := dk_61 (dk_at dksX1_more_3 1 rfl rfl)
theorem dX1_more_74 : decode cX1_more 74 = .ok (.iconst 0, 1) := dk_3 (dk_at dksX1_more_3 2 rfl rfl)
theorem dX1_more_75 : decode cX1_more 75 = .ok (.istore_n 3, 1) := dk_62 (dk_at dksX1_more_3 3 rfl rfl)
theorem dX1_more_76 : decode cX1_more 76 = .ok (.iload_n 3, 1) := dk_29 (dk_at dksX1_more_3 4 rfl rfl)
theorem dX1_more_77 : decode cX1_more 77 = .ok (.iload_n 1, 1) := dk_27 (dk_at dksX1_more_3 5 rfl rfl)
theorem dX1_more_78 : decode cX1_more 78 = .ok (.if_icmp .ge 117, 3) := dk_162 0 117 (dk_at dksX1_more_3 6 rfl rfl)
theorem dX1_more_81 : decode cX1_more 81 = .ok (.lconst 0, 1) := dk_9 (dk_at dksX1_more_3 9 rfl rfl)
theorem dX1_more_82 : decode cX1_more 82 = .ok (.lstore 4, 2) := dk_55 4 (dk_at dksX1_more_3 10 rfl rfl)
theorem dX1_more_84 : decode cX1_more 84 = .ok (.iconst 0, 1) := dk_3 (dk_at dksX1_more_3 12 rfl rfl)
theorem dX1_more_85 : decode cX1_more 85 = .ok (.istore 6, 2) := dk_54 6 (dk_at dksX1_more_3 13 rfl rfl)
theorem dX1_more_87 : decode cX1_more 87 = .ok (.iload 6, 2) := dk_21 6 (dk_at dksX1_more_3 15 rfl rfl)
theorem dX1_more_89 : decode cX1_more 89 = .ok (.aload_n 0, 1) := dk_42 (dk_at dksX1_more_3 17 rfl rfl)
theorem dX1_more_90 : decode cX1_more 90 = .ok (.getfield 338, 3) := dk_180 1 82 (dk_at dksX1_more_3 18 rfl rfl)
theorem dX1_more_93 : decode cX1_more 93 = .ok (.if_icmp .ge 40, 3) := dk_162 0 40 (dk_at dksX1_more_3 21 rfl rfl)
theorem dX1_more_96 : decode cX1_more 96 = .ok (.lload 4, 2) := dk_22 4 (dk_at dksX1_more_4 0 rfl rfl)
theorem dX1_more_98 : decode cX1_more 98 = .ok (.aload_n 0, 1) := dk_42 (dk_at dksX1_more_4 2 rfl rfl)
theorem dX1_more_99 : decode cX1_more 99 = .ok (.getfield 51, 3) := dk_180 0 51 (dk_at dksX1_more_4 3 rfl rfl)
theorem dX1_more_102 : decode cX1_more 102 = .ok (.iload 6, 2) := dk_21 6 (dk_at dksX1_more_4 6 rfl rfl)
theorem dX1_more_104 : decode cX1_more 104 = .ok (.iaload, 1) := dk_46 (dk_at dksX1_more_4 8 rfl rfl)
theorem dX1_more_105 : decode cX1_more 105 = .ok (.iload_n 3, 1) := dk_29 (dk_at dksX1_more_4 9 rfl rfl)
theorem dX1_more_106 : decode cX1_more 106 = .ok (.if_icmp .ne 17, 3) := dk_160 0 17 (dk_at dksX1_more_4 10 rfl rfl)
theorem dX1_more_109 : decode cX1_more 109 = .ok (.aload_n 0, 1) := dk_42 (dk_at dksX1_more_4 13 rfl rfl)
theorem dX1_more_110 : decode cX1_more 110 = .ok (.aload_n 0, 1) := dk_42 (dk_at dksX1_more_4 14 rfl rfl)
theorem dX1_more_111 : decode cX1_more 111 = .ok (.getfield 48, 3) := dk_180 0 48 (dk_at dksX1_more_4 15 rfl rfl)
theorem dX1_more_114 : decode cX1_more 114 = .ok (.iload 6, 2) := dk_21 6 (dk_at dksX1_more_4 18 rfl rfl)
theorem dX1_more_116 : decode cX1_more 116 = .ok (.iaload, 1) := dk_46 (dk_at dksX1_more_4 20 rfl rfl)
theorem dX1_more_117 : decode cX1_more 117 = .ok (.invokevirtual 358, 3) := dk_182 1 102 (dk_at dksX1_more_4 21 rfl rfl)
theorem dX1_more_120 : decode cX1_more 120 = .ok (.goto 4, 3) := dk_167 0 4 (dk_at dksX1_more_5 0 rfl rfl)
theorem dX1_more_123 : decode cX1_more 123 = .ok (.lconst 0, 1) := dk_9 (dk_at dksX1_more_5 3 rfl rfl)
theorem dX1_more_124 : decode cX1_more 124 = .ok (.lor, 1) := dk_129 (dk_at dksX1_more_5 4 rfl rfl)
theorem dX1_more_125 : decode cX1_more 125 = .ok (.lstore 4, 2) := dk_55 4 (dk_at dksX1_more_5 5 rfl rfl)
theorem dX1_more_127 : decode cX1_more 127 = .ok (.iinc 6 1, 3) := dk_132 6 1 (dk_at dksX1_more_5 7 rfl rfl)
theorem dX1_more_130 : decode cX1_more 130 = .ok (.goto (-43), 3) := dk_167 255 213 (dk_at dksX1_more_5 10 rfl rfl)
theorem dX1_more_133 : decode cX1_more 133 = .ok (.iconst 0, 1) := dk_3 (dk_at dksX1_more_5 13 rfl rfl)
theorem dX1_more_134 : decode cX1_more 134 = .ok (.istore 6, 2) := dk_54 6 (dk_at dksX1_more_5 14 rfl rfl)
theorem dX1_more_136 : decode cX1_more 136 = .ok (.iload 6, 2) := dk_21 6 (dk_at dksX1_more_5 16 rfl rfl)
theorem dX1_more_138 : decode cX1_more 138 = .ok (.aload_n 0, 1) := dk_42 (dk_at dksX1_more_5 18 rfl rfl)
theorem dX1_more_139 : decode cX1_more 139 = .ok (.getfield 338, 3) := dk_180 1 82 (dk_at dksX1_more_5 19 rfl rfl)
theorem dX1_more_142 : decode cX1_more 142 = .ok (.if_icmp .ge 47, 3) := dk_162 0 47 (dk_at dksX1_more_6 0 rfl rfl)
theorem dX1_more_145 : decode cX1_more 145 = .ok (.iload_n 2, 1) := dk_28 (dk_at dksX1_more_6 3 rfl rfl)
theorem dX1_more_146 : decode cX1_more 146 = .ok (.aload_n 0, 1) := dk_42 (dk_at dksX1_more_6 4 rfl rfl)
theorem dX1_more_147 : decode cX1_more 147 = .ok (.getfield 51, 3) := dk_180 0 51 (dk_at dksX1_more_6 5 rfl rfl)
theorem dX1_more_150 : decode cX1_more 150 = .ok (.iload 6, 2) := dk_21 6 (dk_at dksX1_more_6 8 rfl rfl)
theorem dX1_more_152 : decode cX1_more 152 = .ok (.iaload, 1) := dk_46 (dk_at dksX1_more_6 10 rfl rfl)
theorem dX1_more_153 : decode cX1_more 153 = .ok (.iload_n 3, 1) := dk_29 (dk_at dksX1_more_6 11 rfl rfl)
theorem dX1_more_154 : decode cX1_more 154 = .ok (.if_icmp .ne 26, 3) := dk_160 0 26 (dk_at dksX1_more_6 12 rfl rfl)
theorem dX1_more_157 : decode cX1_more 157 = .ok (.lload 4, 2) := dk_22 4 (dk_at dksX1_more_6 15 rfl rfl)
theorem dX1_more_159 : decode cX1_more 159 = .ok (.invokestatic 368, 3) := dk_184 1 112 (dk_at dksX1_more_6 17 rfl rfl)
theorem dX1_more_162 : decode cX1_more 162 = .ok (.aload_n 0, 1) := dk_42 (dk_at dksX1_more_6 20 rfl rfl)
theorem dX1_more_163 : decode cX1_more 163 = .ok (.aload_n 0, 1) := dk_42 (dk_at dksX1_more_6 21 rfl rfl)
theorem dX1_more_164 : decode cX1_more 164 = .ok (.getfield 48, 3) := dk_180 0 48 (dk_at dksX1_more_7 0 rfl rfl)
theorem dX1_more_167 : decode cX1_more 167 = .ok (.iload 6, 2) := dk_21 6 (dk_at dksX1_more_7 3 rfl rfl)
theorem dX1_more_169 : decode cX1_more 169 = .ok (.iaload, 1) := dk_46 (dk_at dksX1_more_7 5 rfl rfl)
theorem dX1_more_170 : decode cX1_more 170 = .ok (.invokevirtual 358, 3) := dk_182 1 102 (dk_at dksX1_more_7 6 rfl rfl)
theorem dX1_more_173 : decode cX1_more 173 = .ok (.invokestatic 368, 3) := dk_184 1 112 (dk_at dksX1_more_7 9 rfl rfl)
theorem dX1_more_176 : decode cX1_more 176 = .ok (.isub, 1) := dk_100 (dk_at dksX1_more_7 12 rfl rfl)
theorem dX1_more_177 : decode cX1_more 177 = .ok (.goto 4, 3) := dk_167 0 4 (dk_at dksX1_more_7 13 rfl rfl)
theorem dX1_more_180 : decode cX1_more 180 = .ok (.iconst 0, 1) := dk_3 (dk_at dksX1_more_7 16 rfl rfl)
theorem dX1_more_181 : decode cX1_more 181 = .ok (.iadd, 1) := dk_96 (dk_at dksX1_more_7 17 rfl rfl)
theorem dX1_more_182 : decode cX1_more 182 = .ok (.istore_n 2, 1) := dk_61 (dk_at dksX1_more_7 18 rfl rfl)
theorem dX1_more_183 : decode cX1_more 183 = .ok (.iinc 6 1, 3) := dk_132 6 1 (dk_at dksX1_more_7 19 rfl rfl)
theorem dX1_more_186 : decode cX1_more 186 = .ok (.goto (-50), 3) := dk_167 255 206 (dk_at dksX1_more_8 0 rfl rfl)
theorem dX1_more_189 : decode cX1_more 189 = .ok (.iinc 3 1, 3) := dk_132 3 1 (dk_at dksX1_more_8 3 rfl rfl)
theorem dX1_more_192 : decode cX1_more 192 = .ok (.goto (-116), 3) := dk_167 255 140 (dk_at dksX1_more_8 6 rfl rfl)
theorem dX1_more_195 : decode cX1_more 195 = .ok (.iload_n 2, 1) := dk_28 (dk_at dksX1_more_8 9 rfl rfl)
theorem dX1_more_196 : decode cX1_more 196 = .ok (.ireturn, 1) := dk_172 (dk_at dksX1_more_8 10 rfl rfl)
def dkwX1_fence_6 : List UInt8 := [20, 1, 118, 131, 127, 9, 148, 153, 0, 6, 21, 12, 172, 132, 12, 1, 167, 255, 182, 2, 172]
abbrev dktX1_fence_6 : List UInt8 := dkwX1_fence_6 ++ []
def dkwX1_fence_5 : List UInt8 := [42, 180, 0, 19, 21, 12, 42, 180, 0, 19, 180, 0, 128, 21, 5, 182, 0, 244, 22, 10, 127, 33]
abbrev dktX1_fence_5 : List UInt8 := dkwX1_fence_5 ++ dktX1_fence_6
def dkwX1_fence_4 : List UInt8 := [22, 8, 21, 12, 123, 10, 127, 10, 148, 154, 0, 50, 22, 10, 21, 12, 123, 10, 127, 9, 148, 154, 0, 38]
abbrev dktX1_fence_4 : List UInt8 := dkwX1_fence_4 ++ dktX1_fence_5
def dkwX1_fence_3 : List UInt8 := [129, 55, 10, 132, 12, 1, 167, 255, 237, 3, 54, 12, 21, 12, 42, 180, 0, 19, 180, 0, 70, 162, 0, 68]
abbrev dktX1_fence_3 : List UInt8 := dkwX1_fence_3 ++ dktX1_fence_4
def dkwX1_fence_2 : List UInt8 := [182, 1, 72, 55, 8, 9, 55, 10, 27, 54, 12, 21, 12, 28, 163, 0, 19, 22, 10, 21, 12, 184, 1, 99]
abbrev dktX1_fence_2 : List UInt8 := dkwX1_fence_2 ++ dktX1_fence_3
def dkwX1_fence_1 : List UInt8 := [163, 0, 7, 4, 167, 0, 4, 3, 184, 0, 148, 42, 180, 0, 19, 42, 180, 0, 19, 180, 0, 128, 21, 5]
abbrev dktX1_fence_1 : List UInt8 := dkwX1_fence_1 ++ dktX1_fence_2
def dkwX1_fence_0 : List UInt8 := [42, 27, 182, 0, 85, 58, 6, 42, 28, 182, 0, 85, 58, 7, 42, 21, 5, 182, 1, 62, 27, 28]
abbrev dktX1_fence_0 : List UInt8 := dkwX1_fence_0 ++ dktX1_fence_1
theorem dksX1_fence_0 : cX1_fence.data.toList.drop 0 = dktX1_fence_0 := by decide +kernel
theorem dksX1_fence_1 : cX1_fence.data.toList.drop 22 = dktX1_fence_1 := dk_seg dksX1_fence_0 22 rfl rfl
theorem dksX1_fence_2 : cX1_fence.data.toList.drop 46 = dktX1_fence_2 := dk_seg dksX1_fence_1 24 rfl rfl
theorem dksX1_fence_3 : cX1_fence.data.toList.drop 70 = dktX1_fence_3 := dk_seg dksX1_fence_2 24 rfl rfl
theorem dksX1_fence_4 : cX1_fence.data.toList.drop 94 = dktX1_fence_4 := dk_seg dksX1_fence_3 24 rfl rfl
theorem dksX1_fence_5 : cX1_fence.data.toList.drop 118 = dktX1_fence_5 := dk_seg dksX1_fence_4 24 rfl rfl
theorem dksX1_fence_6 : cX1_fence.data.toList.drop 140 = dktX1_fence_6 := dk_seg dksX1_fence_5 22 rfl rfl
theorem dX1_fence_0 : decode cX1_fence 0 = .ok (.aload_n 0, 1) := dk_42 (dk_at dksX1_fence_0 0 rfl rfl)
theorem dX1_fence_1 : decode cX1_fence 1 = .ok (.iload_n 1, 1) := dk_27 (dk_at dksX1_fence_0 1 rfl rfl)
theorem dX1_fence_2 : decode cX1_fence 2 = .ok (.invokevirtual 85, 3) := dk_182 0 85 (dk_at dksX1_fence_0 2 rfl rfl)
theorem dX1_fence_5 : decode cX1_fence 5 = .ok (.astore 6, 2) := dk_58 6 (dk_at dksX1_fence_0 5 rfl rfl)
theorem dX1_fence_7 : decode cX1_fence 7 = .ok (.aload_n 0, 1) := dk_42 (dk_at dksX1_fence_0 7 rfl rfl)
theorem dX1_fence_8 : decode cX1_fence 8 = .ok (.iload_n 2, 1) := dk_28 (dk_at dksX1_fence_0 8 rfl rfl)
theorem dX1_fence_9 : decode cX1_fence 9 = .ok (.invokevirtual 85, 3) := dk_182 0 85 (dk_at dksX1_fence_0 9 rfl rfl)
theorem dX1_fence_12 : decode cX1_fence 12 = .ok (.astore 7, 2) := dk_58 7 (dk_at dksX1_fence_0 12 rfl rfl)
theorem dX1_fence_14 : decode cX1_fence 14 = .ok (.aload_n 0, 1) := dk_42 (dk_at dksX1_fence_0 14 rfl rfl)
theorem dX1_fence_15 : decode cX1_fence 15 = .ok (.iload 5, 2) := dk_21 5 (dk_at dksX1_fence_0 15 rfl rfl)
theorem dX1_fence_17 : decode cX1_fence 17 = .ok (.invokevirtual 318, 3) := dk_182 1 62 (dk_at dksX1_fence_0 17 rfl rfl)
theorem dX1_fence_20 : decode cX1_fence 20 = .ok (.iload_n 1, 1) := dk_27 (dk_at dksX1_fence_0 20 rfl rfl)
theorem dX1_fence_21 : decode cX1_fence 21 = .ok (.iload_n 2, 1) := dk_28 (dk_at dksX1_fence_0 21 rfl rfl)
theorem dX1_fence_22 : decode cX1_fence 22 = .ok (.if_icmp .gt 7, 3) := dk_163 0 7 (dk_at dksX1_fence_1 0 rfl rfl)
theorem dX1_fence_25 : decode cX1_fence 25 = .ok (.iconst 1, 1) := dk_4 (dk_at dksX1_fence_1 3 rfl rfl)
theorem dX1_fence_26 : decode cX1_fence 26 = .ok (.goto 4, 3) := dk_167 0 4 (dk_at dksX1_fence_1 4 rfl rfl)
theorem dX1_fence_29 : decode cX1_fence 29 = .ok (.iconst 0, 1) := dk_3 (dk_at dksX1_fence_1 7 rfl rfl)
theorem dX1_fence_30 : decode cX1_fence 30 = .ok (.invokestatic 148, 3) := dk_184 0 148 (dk_at dksX1_fence_1 8 rfl rfl)
theorem dX1_fence_33 : decode cX1_fence 33 = .ok (.aload_n 0, 1) := dk_42 (dk_at dksX1_fence_1 11 rfl rfl)
theorem dX1_fence_34 : decode cX1_fence 34 = .ok (.getfield 19, 3) := dk_180 0 19 (dk_at dksX1_fence_1 12 rfl rfl)
theorem dX1_fence_37 : decode cX1_fence 37 = .ok (.aload_n 0, 1) := dk_42 (dk_at dksX1_fence_1 15 rfl rfl)
theorem dX1_fence_38 : decode cX1_fence 38 = .ok (.getfield 19, 3) := dk_180 0 19 (dk_at dksX1_fence_1 16 rfl rfl)
theorem dX1_fence_41 : decode cX1_fence 41 = .ok (.getfield 128, 3) := dk_180 0 128 (dk_at dksX1_fence_1 19 rfl rfl)
theorem dX1_fence_44 : decode cX1_fence 44 = .ok (.iload 5, 2) := dk_21 5 (dk_at dksX1_fence_1 22 rfl rfl)
theorem dX1_fence_46 : decode cX1_fence 46 = .ok (.invokevirtual 328, 3) := dk_182 1 72 (dk_at dksX1_fence_2 0 rfl rfl)
theorem dX1_fence_49 : decode cX1_fence 49 = .ok (.lstore 8, 2) := dk_55 8 (dk_at dksX1_fence_2 3 rfl rfl)
theorem dX1_fence_51 : decode cX1_fence 51 = .ok (.lconst 0, 1) := dk_9 (dk_at dksX1_fence_2 5 rfl rfl)
theorem dX1_fence_52 : decode cX1_fence 52 = .ok (.lstore 10, 2) := dk_55 10 (dk_at dksX1_fence_2 6 rfl rfl)
theorem dX1_fence_54 : decode cX1_fence 54 = .ok (.iload_n 1, 1) := dk_27 (dk_at dksX1_fence_2 8 rfl rfl)
theorem dX1_fence_55 : decode cX1_fence 55 = .ok (.istore 12, 2) := dk_54 12 (dk_at dksX1_fence_2 9 rfl rfl)
theorem dX1_fence_57 : decode cX1_fence 57 = .ok (.iload 12, 2) := dk_21 12 (dk_at dksX1_fence_2 11 rfl rfl)
theorem dX1_fence_59 : decode cX1_fence 59 = .ok (.iload_n 2, 1) := dk_28 (dk_at dksX1_fence_2 13 rfl rfl)
theorem dX1_fence_60 : decode cX1_fence 60 = .ok (.if_icmp .gt 19, 3) := dk_163 0 19 (dk_at dksX1_fence_2 14 rfl rfl)
theorem dX1_fence_63 : decode cX1_fence 63 = .ok (.lload 10, 2) := dk_22 10 (dk_at dksX1_fence_2 17 rfl rfl)
theorem dX1_fence_65 : decode cX1_fence 65 = .ok (.iload 12, 2) := dk_21 12 (dk_at dksX1_fence_2 19 rfl rfl)
theorem dX1_fence_67 : decode cX1_fence 67 = .ok (.invokestatic 355, 3) := dk_184 1 99 (dk_at dksX1_fence_2 21 rfl rfl)
theorem dX1_fence_70 : decode cX1_fence 70 = .ok (.lor, 1) := dk_129 (dk_at dksX1_fence_3 0 rfl rfl)
theorem dX1_fence_71 : decode cX1_fence 71 = .ok (.lstore 10, 2) := dk_55 10 (dk_at dksX1_fence_3 1 rfl rfl)
theorem dX1_fence_73 : decode cX1_fence 73 = .ok (.iinc 12 1, 3) := dk_132 12 1 (dk_at dksX1_fence_3 3 rfl rfl)
theorem dX1_fence_76 : decode cX1_fence 76 = .ok (.goto (-19), 3) := dk_167 255 237 (dk_at dksX1_fence_3 6 rfl rfl)
theorem dX1_fence_79 : decode cX1_fence 79 = .ok (.iconst 0, 1) := dk_3 (dk_at dksX1_fence_3 9 rfl rfl)
theorem dX1_fence_80 : decode cX1_fence 80 = .ok (.istore 12, 2) := dk_54 12 (dk_at dksX1_fence_3 10 rfl rfl)
theorem dX1_fence_82 : decode cX1_fence 82 = .ok (.iload 12, 2) := dk_21 12 (dk_at dksX1_fence_3 12 rfl rfl)
theorem dX1_fence_84 : decode cX1_fence 84 = .ok (.aload_n 0, 1) := dk_42 (dk_at dksX1_fence_3 14 rfl rfl)
theorem dX1_fence_85 : decode cX1_fence 85 = .ok (.getfield 19, 3) := dk_180 0 19 (dk_at dksX1_fence_3 15 rfl rfl)
theorem dX1_fence_88 : decode cX1_fence 88 = .ok (.getfield 70, 3) := dk_180 0 70 (dk_at dksX1_fence_3 18 rfl rfl)
theorem dX1_fence_91 : decode cX1_fence 91 = .ok (.if_icmp .ge 68, 3) := dk_162 0 68 (dk_at dksX1_fence_3 21 rfl rfl)
theorem dX1_fence_94 : decode cX1_fence 94 = .ok (.lload 8, 2) := dk_22 8 (dk_at dksX1_fence_4 0 rfl rfl)
theorem dX1_fence_96 : decode cX1_fence 96 = .ok (.iload 12, 2) := dk_21 12 (dk_at dksX1_fence_4 2 rfl rfl)
theorem dX1_fence_98 : decode cX1_fence 98 = .ok (.lshr, 1) := dk_123 (dk_at dksX1_fence_4 4 rfl rfl)
theorem dX1_fence_99 : decode cX1_fence 99 = .ok (.lconst 1, 1) := dk_10 (dk_at dksX1_fence_4 5 rfl rfl)
theorem dX1_fence_100 : decode cX1_fence 100 = .ok (.land, 1) := dk_127 (dk_at dksX1_fence_4 6 rfl rfl)
theorem dX1_fence_101 : decode cX1_fence 101 = .ok (.lconst 1, 1) := dk_10 (dk_at dksX1_fence_4 7 rfl rfl)
theorem dX1_fence_102 : decode cX1_fence 102 = .ok (.lcmp, 1) := dk_148 (dk_at dksX1_fence_4 8 rfl rfl)
theorem dX1_fence_103 : decode cX1_fence 103 = .ok (.ifCond .ne 50, 3) := dk_154 0 50 (dk_at dksX1_fence_4 9 rfl rfl)
theorem dX1_fence_106 : decode cX1_fence 106 = .ok (.lload 10, 2) := dk_22 10 (dk_at dksX1_fence_4 12 rfl rfl)
theorem dX1_fence_108 : decode cX1_fence 108 = .ok (.iload 12, 2) := dk_21 12 (dk_at dksX1_fence_4 14 rfl rfl)
theorem dX1_fence_110 : decode cX1_fence 110 = .ok (.lshr, 1) := dk_123 (dk_at dksX1_fence_4 16 rfl rfl)
theorem dX1_fence_111 : decode cX1_fence 111 = .ok (.lconst 1, 1) := dk_10 (dk_at dksX1_fence_4 17 rfl rfl)
theorem dX1_fence_112 : decode cX1_fence 112 = .ok (.land, 1) := dk_127 (dk_at dksX1_fence_4 18 rfl rfl)
theorem dX1_fence_113 : decode cX1_fence 113 = .ok (.lconst 0, 1) := dk_9 (dk_at dksX1_fence_4 19 rfl rfl)
theorem dX1_fence_114 : decode cX1_fence 114 = .ok (.lcmp, 1) := dk_148 (dk_at dksX1_fence_4 20 rfl rfl)
theorem dX1_fence_115 : decode cX1_fence 115 = .ok (.ifCond .ne 38, 3) := dk_154 0 38 (dk_at dksX1_fence_4 21 rfl rfl)
theorem dX1_fence_118 : decode cX1_fence 118 = .ok (.aload_n 0, 1) := dk_42 (dk_at dksX1_fence_5 0 rfl rfl)
theorem dX1_fence_119 : decode cX1_fence 119 = .ok (.getfield 19, 3) := dk_180 0 19 (dk_at dksX1_fence_5 1 rfl rfl)
theorem dX1_fence_122 : decode cX1_fence 122 = .ok (.iload 12, 2) := dk_21 12 (dk_at dksX1_fence_5 4 rfl rfl)
theorem dX1_fence_124 : decode cX1_fence 124 = .ok (.aload_n 0, 1) := dk_42 (dk_at dksX1_fence_5 6 rfl rfl)
theorem dX1_fence_125 : decode cX1_fence 125 = .ok (.getfield 19, 3) := dk_180 0 19 (dk_at dksX1_fence_5 7 rfl rfl)
theorem dX1_fence_128 : decode cX1_fence 128 = .ok (.getfield 128, 3) := dk_180 0 128 (dk_at dksX1_fence_5 10 rfl rfl)
theorem dX1_fence_131 : decode cX1_fence 131 = .ok (.iload 5, 2) := dk_21 5 (dk_at dksX1_fence_5 13 rfl rfl)
theorem dX1_fence_133 : decode cX1_fence 133 = .ok (.invokevirtual 244, 3) := dk_182 0 244 (dk_at dksX1_fence_5 15 rfl rfl)
theorem dX1_fence_136 : decode cX1_fence 136 = .ok (.lload 10, 2) := dk_22 10 (dk_at dksX1_fence_5 18 rfl rfl)
theorem dX1_fence_138 : decode cX1_fence 138 = .ok (.land, 1) := dk_127 (dk_at dksX1_fence_5 20 rfl rfl)
theorem dX1_fence_139 : decode cX1_fence 139 = .ok (.lload_n 3, 1) := dk_33 (dk_at dksX1_fence_5 21 rfl rfl)
theorem dX1_fence_140 : decode cX1_fence 140 = .ok (.ldc2_w 374, 3) := dk_20 1 118 (dk_at dksX1_fence_6 0 rfl rfl)
theorem dX1_fence_143 : decode cX1_fence 143 = .ok (.lxor, 1) := dk_131 (dk_at dksX1_fence_6 3 rfl rfl)
theorem dX1_fence_144 : decode cX1_fence 144 = .ok (.land, 1) := dk_127 (dk_at dksX1_fence_6 4 rfl rfl)
theorem dX1_fence_145 : decode cX1_fence 145 = .ok (.lconst 0, 1) := dk_9 (dk_at dksX1_fence_6 5 rfl rfl)
theorem dX1_fence_146 : decode cX1_fence 146 = .ok (.lcmp, 1) := dk_148 (dk_at dksX1_fence_6 6 rfl rfl)
theorem dX1_fence_147 : decode cX1_fence 147 = .ok (.ifCond .eq 6, 3) := dk_153 0 6 (dk_at dksX1_fence_6 7 rfl rfl)
theorem dX1_fence_150 : decode cX1_fence 150 = .ok (.iload 12, 2) := dk_21 12 (dk_at dksX1_fence_6 10 rfl rfl)
theorem dX1_fence_152 : decode cX1_fence 152 = .ok (.ireturn, 1) := dk_172 (dk_at dksX1_fence_6 12 rfl rfl)
theorem dX1_fence_153 : decode cX1_fence 153 = .ok (.iinc 12 1, 3) := dk_132 12 1 (dk_at dksX1_fence_6 13 rfl rfl)
theorem dX1_fence_156 : decode cX1_fence 156 = .ok (.goto (-74), 3) := dk_167 255 182 (dk_at dksX1_fence_6 16 rfl rfl)
theorem dX1_fence_159 : decode cX1_fence 159 = .ok (.iconst (-1), 1) := dk_2 (dk_at dksX1_fence_6 19 rfl rfl)
theorem dX1_fence_160 : decode cX1_fence 160 = .ok (.ireturn, 1) := dk_172 (dk_at dksX1_fence_6 20 rfl rfl)
def dkwX1_late_2 : List UInt8 := [27, 108, 27, 104, 62, 29, 42, 180, 0, 31, 180, 0, 210, 184, 1, 123, 28, 100, 172]
abbrev dktX1_late_2 : List UInt8 := dkwX1_late_2 ++ []
def dkwX1_late_1 : List UInt8 := [180, 1, 120, 2, 160, 0, 5, 2, 172, 42, 180, 0, 31, 180, 1, 120, 4, 96, 61, 28, 27, 96, 4, 100]
abbrev dktX1_late_1 : List UInt8 := dkwX1_late_1 ++ dktX1_late_2
def dkwX1_late_0 : List UInt8 := [27, 4, 16, 20, 184, 0, 73, 184, 0, 148, 42, 180, 0, 31, 4, 3, 182, 0, 192, 42, 180, 0, 31]
abbrev dktX1_late_0 : List UInt8 := dkwX1_late_0 ++ dktX1_late_1
theorem dksX1_late_0 : cX1_late.data.toList.drop 0 = dktX1_late_0 := by decide +kernel
theorem dksX1_late_1 : cX1_late.data.toList.drop 23 = dktX1_late_1 := dk_seg dksX1_late_0 23 rfl rfl
theorem dksX1_late_2 : cX1_late.data.toList.drop 47 = dktX1_late_2 := dk_seg dksX1_late_1 24 rfl rfl
theorem dX1_late_0 : decode cX1_late 0 = .ok (.iload_n 1, 1) := dk_27 (dk_at dksX1_late_0 0 rfl rfl)
theorem dX1_late_1 : decode cX1_late 1 = .ok (.iconst 1, 1) := dk_4 (dk_at dksX1_late_0 1 rfl rfl)
theorem dX1_late_2 : decode cX1_late 2 = .ok (.bipush 20, 2) := dk_16 20 (dk_at dksX1_late_0 2 rfl rfl)
theorem dX1_late_4 : decode cX1_late 4 = .ok (.invokestatic 73, 3) := dk_184 0 73 (dk_at dksX1_late_0 4 rfl rfl)
theorem dX1_late_7 : decode cX1_late 7 = .ok (.invokestatic 148, 3) := dk_184 0 148 (dk_at dksX1_late_0 7 rfl rfl)
theorem dX1_late_10 : decode cX1_late 10 = .ok (.aload_n 0, 1) := dk_42 (dk_at dksX1_late_0 10 rfl rfl)
theorem dX1_late_11 : decode cX1_late 11 = .ok (.getfield 31, 3) := dk_180 0 31 (dk_at dksX1_late_0 11 rfl rfl)
theorem dX1_late_14 : decode cX1_late 14 = .ok (.iconst 1, 1) := dk_4 (dk_at dksX1_late_0 14 rfl rfl)
theorem dX1_late_15 : decode cX1_late 15 = .ok (.iconst 0, 1) := dk_3 (dk_at dksX1_late_0 15 rfl rfl)
theorem dX1_late_16 : decode cX1_late 16 = .ok (.invokevirtual 192, 3) := dk_182 0 192 (dk_at dksX1_late_0 16 rfl rfl)
theorem dX1_late_19 : decode cX1_late 19 = .ok (.aload_n 0, 1) := dk_42 (dk_at dksX1_late_0 19 rfl rfl)
theorem dX1_late_20 : decode cX1_late 20 = .ok (.getfield 31, 3) := dk_180 0 31 (dk_at dksX1_late_0 20 rfl rfl)
theorem dX1_late_23 : decode cX1_late 23 = .ok (.getfield 376, 3) := dk_180 1 120 (dk_at dksX1_late_1 0 rfl rfl)
theorem dX1_late_26 : decode cX1_late 26 = .ok (.iconst (-1), 1) := dk_2 (dk_at dksX1_late_1 3 rfl rfl)
theorem dX1_late_27 : decode cX1_late 27 = .ok (.if_icmp .ne 5, 3) := dk_160 0 5 (dk_at dksX1_late_1 4 rfl rfl)
theorem dX1_late_30 : decode cX1_late 30 = .ok (.iconst (-1), 1) := dk_2 (dk_at dksX1_late_1 7 rfl rfl)
theorem dX1_late_31 : decode cX1_late 31 = .ok (.ireturn, 1) := dk_172 (dk_at dksX1_late_1 8 rfl rfl)
theorem dX1_late_32 : decode cX1_late 32 = .ok (.aload_n 0, 1) := dk_42 (dk_at dksX1_late_1 9 rfl rfl)
theorem dX1_late_33 : decode cX1_late 33 = .ok (.getfield 31, 3) := dk_180 0 31 (dk_at dksX1_late_1 10 rfl rfl)
theorem dX1_late_36 : decode cX1_late 36 = .ok (.getfield 376, 3) := dk_180 1 120 (dk_at dksX1_late_1 13 rfl rfl)
theorem dX1_late_39 : decode cX1_late 39 = .ok (.iconst 1, 1) := dk_4 (dk_at dksX1_late_1 16 rfl rfl)
theorem dX1_late_40 : decode cX1_late 40 = .ok (.iadd, 1) := dk_96 (dk_at dksX1_late_1 17 rfl rfl)
theorem dX1_late_41 : decode cX1_late 41 = .ok (.istore_n 2, 1) := dk_61 (dk_at dksX1_late_1 18 rfl rfl)
theorem dX1_late_42 : decode cX1_late 42 = .ok (.iload_n 2, 1) := dk_28 (dk_at dksX1_late_1 19 rfl rfl)
theorem dX1_late_43 : decode cX1_late 43 = .ok (.iload_n 1, 1) := dk_27 (dk_at dksX1_late_1 20 rfl rfl)
theorem dX1_late_44 : decode cX1_late 44 = .ok (.iadd, 1) := dk_96 (dk_at dksX1_late_1 21 rfl rfl)
theorem dX1_late_45 : decode cX1_late 45 = .ok (.iconst 1, 1) := dk_4 (dk_at dksX1_late_1 22 rfl rfl)
theorem dX1_late_46 : decode cX1_late 46 = .ok (.isub, 1) := dk_100 (dk_at dksX1_late_1 23 rfl rfl)
theorem dX1_late_47 : decode cX1_late 47 = .ok (.iload_n 1, 1) := dk_27 (dk_at dksX1_late_2 0 rfl rfl)
theorem dX1_late_48 : decode cX1_late 48 = .ok (.idiv, 1) := dk_108 (dk_at dksX1_late_2 1 rfl rfl)
theorem dX1_late_49 : decode cX1_late 49 = .ok (.iload_n 1, 1) := dk_27 (dk_at dksX1_late_2 2 rfl rfl)
theorem dX1_late_50 : decode cX1_late 50 = .ok (.imul, 1) := dk_104 (dk_at dksX1_late_2 3 rfl rfl)
theorem dX1_late_51 : decode cX1_late 51 = .ok (.istore_n 3, 1) := dk_62 (dk_at dksX1_late_2 4 rfl rfl)
theorem dX1_late_52 : decode cX1_late 52 = .ok (.iload_n 3, 1) := dk_29 (dk_at dksX1_late_2 5 rfl rfl)
theorem dX1_late_53 : decode cX1_late 53 = .ok (.aload_n 0, 1) := dk_42 (dk_at dksX1_late_2 6 rfl rfl)
theorem dX1_late_54 : decode cX1_late 54 = .ok (.getfield 31, 3) := dk_180 0 31 (dk_at dksX1_late_2 7 rfl rfl)
theorem dX1_late_57 : decode cX1_late 57 = .ok (.getfield 210, 3) := dk_180 0 210 (dk_at dksX1_late_2 10 rfl rfl)
theorem dX1_late_60 : decode cX1_late 60 = .ok (.invokestatic 379, 3) := dk_184 1 123 (dk_at dksX1_late_2 13 rfl rfl)
theorem dX1_late_63 : decode cX1_late 63 = .ok (.iload_n 2, 1) := dk_28 (dk_at dksX1_late_2 16 rfl rfl)
theorem dX1_late_64 : decode cX1_late 64 = .ok (.isub, 1) := dk_100 (dk_at dksX1_late_2 17 rfl rfl)
theorem dX1_late_65 : decode cX1_late 65 = .ok (.ireturn, 1) := dk_172 (dk_at dksX1_late_2 18 rfl rfl)

/-! TollLeaderLaw -/
set_option maxRecDepth 100000
def RX0 : String := "TollLeaderLaw"
abbrev cX0_count : ByteArray := method_3_code
def yX0_count : MethodName := ⟨RX0, "count", "(LTollLeader;I[J)I"⟩
def dkwX0_count_0 : List UInt8 := [44, 3, 42, 27, 182, 0, 7, 133, 80, 167, 0, 6, 78, 4, 172, 3, 172]
abbrev dktX0_count_0 : List UInt8 := dkwX0_count_0 ++ []
theorem dksX0_count_0 : cX0_count.data.toList.drop 0 = dktX0_count_0 := by decide +kernel
theorem dX0_count_0 : decode cX0_count 0 = .ok (.aload_n 2, 1) := dk_44 (dk_at dksX0_count_0 0 rfl rfl)
theorem dX0_count_1 : decode cX0_count 1 = .ok (.iconst 0, 1) := dk_3 (dk_at dksX0_count_0 1 rfl rfl)
theorem dX0_count_2 : decode cX0_count 2 = .ok (.aload_n 0, 1) := dk_42 (dk_at dksX0_count_0 2 rfl rfl)
theorem dX0_count_3 : decode cX0_count 3 = .ok (.iload_n 1, 1) := dk_27 (dk_at dksX0_count_0 3 rfl rfl)
theorem dX0_count_4 : decode cX0_count 4 = .ok (.invokevirtual 7, 3) := dk_182 0 7 (dk_at dksX0_count_0 4 rfl rfl)
theorem dX0_count_7 : decode cX0_count 7 = .ok (.i2l, 1) := dk_133 (dk_at dksX0_count_0 7 rfl rfl)
theorem dX0_count_8 : decode cX0_count 8 = .ok (.lastore, 1) := dk_80 (dk_at dksX0_count_0 8 rfl rfl)
theorem dX0_count_9 : decode cX0_count 9 = .ok (.goto 6, 3) := dk_167 0 6 (dk_at dksX0_count_0 9 rfl rfl)
theorem dX0_count_12 : decode cX0_count 12 = .ok (.astore_n 3, 1) := dk_78 (dk_at dksX0_count_0 12 rfl rfl)
theorem dX0_count_13 : decode cX0_count 13 = .ok (.iconst 1, 1) := dk_4 (dk_at dksX0_count_0 13 rfl rfl)
theorem dX0_count_14 : decode cX0_count 14 = .ok (.ireturn, 1) := dk_172 (dk_at dksX0_count_0 14 rfl rfl)
theorem dX0_count_15 : decode cX0_count 15 = .ok (.iconst 0, 1) := dk_3 (dk_at dksX0_count_0 15 rfl rfl)
theorem dX0_count_16 : decode cX0_count 16 = .ok (.ireturn, 1) := dk_172 (dk_at dksX0_count_0 16 rfl rfl)
abbrev cX0_arcValue : ByteArray := method_4_code
def yX0_arcValue : MethodName := ⟨RX0, "arcValue", "(LTollLeader;II[J)I"⟩
def dkwX0_arcValue_0 : List UInt8 := [45, 3, 42, 27, 28, 182, 0, 15, 133, 80, 167, 0, 11, 58, 4, 4, 172, 58, 4, 5, 172, 3, 172]
abbrev dktX0_arcValue_0 : List UInt8 := dkwX0_arcValue_0 ++ []
theorem dksX0_arcValue_0 : cX0_arcValue.data.toList.drop 0 = dktX0_arcValue_0 := by decide +kernel
theorem dX0_arcValue_0 : decode cX0_arcValue 0 = .ok (.aload_n 3, 1) := dk_45 (dk_at dksX0_arcValue_0 0 rfl rfl)
theorem dX0_arcValue_1 : decode cX0_arcValue 1 = .ok (.iconst 0, 1) := dk_3 (dk_at dksX0_arcValue_0 1 rfl rfl)
theorem dX0_arcValue_2 : decode cX0_arcValue 2 = .ok (.aload_n 0, 1) := dk_42 (dk_at dksX0_arcValue_0 2 rfl rfl)
theorem dX0_arcValue_3 : decode cX0_arcValue 3 = .ok (.iload_n 1, 1) := dk_27 (dk_at dksX0_arcValue_0 3 rfl rfl)
theorem dX0_arcValue_4 : decode cX0_arcValue 4 = .ok (.iload_n 2, 1) := dk_28 (dk_at dksX0_arcValue_0 4 rfl rfl)
theorem dX0_arcValue_5 : decode cX0_arcValue 5 = .ok (.invokevirtual 15, 3) := dk_182 0 15 (dk_at dksX0_arcValue_0 5 rfl rfl)
theorem dX0_arcValue_8 : decode cX0_arcValue 8 = .ok (.i2l, 1) := dk_133 (dk_at dksX0_arcValue_0 8 rfl rfl)
theorem dX0_arcValue_9 : decode cX0_arcValue 9 = .ok (.lastore, 1) := dk_80 (dk_at dksX0_arcValue_0 9 rfl rfl)
theorem dX0_arcValue_10 : decode cX0_arcValue 10 = .ok (.goto 11, 3) := dk_167 0 11 (dk_at dksX0_arcValue_0 10 rfl rfl)
theorem dX0_arcValue_13 : decode cX0_arcValue 13 = .ok (.astore 4, 2) := dk_58 4 (dk_at dksX0_arcValue_0 13 rfl rfl)
theorem dX0_arcValue_15 : decode cX0_arcValue 15 = .ok (.iconst 1, 1) := dk_4 (dk_at dksX0_arcValue_0 15 rfl rfl)
theorem dX0_arcValue_16 : decode cX0_arcValue 16 = .ok (.ireturn, 1) := dk_172 (dk_at dksX0_arcValue_0 16 rfl rfl)
theorem dX0_arcValue_17 : decode cX0_arcValue 17 = .ok (.astore 4, 2) := dk_58 4 (dk_at dksX0_arcValue_0 17 rfl rfl)
theorem dX0_arcValue_19 : decode cX0_arcValue 19 = .ok (.iconst 2, 1) := dk_5 (dk_at dksX0_arcValue_0 19 rfl rfl)
theorem dX0_arcValue_20 : decode cX0_arcValue 20 = .ok (.ireturn, 1) := dk_172 (dk_at dksX0_arcValue_0 20 rfl rfl)
theorem dX0_arcValue_21 : decode cX0_arcValue 21 = .ok (.iconst 0, 1) := dk_3 (dk_at dksX0_arcValue_0 21 rfl rfl)
theorem dX0_arcValue_22 : decode cX0_arcValue 22 = .ok (.ireturn, 1) := dk_172 (dk_at dksX0_arcValue_0 22 rfl rfl)
abbrev cX0_tripValue : ByteArray := method_5_code
def yX0_tripValue : MethodName := ⟨RX0, "tripValue", "(LTollLeader;II[J)I"⟩
def dkwX0_tripValue_0 : List UInt8 := [45, 3, 42, 27, 28, 182, 0, 21, 133, 80, 167, 0, 11, 58, 4, 4, 172, 58, 4, 5, 172, 3, 172]
abbrev dktX0_tripValue_0 : List UInt8 := dkwX0_tripValue_0 ++ []
theorem dksX0_tripValue_0 : cX0_tripValue.data.toList.drop 0 = dktX0_tripValue_0 := by decide +kernel
theorem dX0_tripValue_0 : decode cX0_tripValue 0 = .ok (.aload_n 3, 1) := dk_45 (dk_at dksX0_tripValue_0 0 rfl rfl)
theorem dX0_tripValue_1 : decode cX0_tripValue 1 = .ok (.iconst 0, 1) := dk_3 (dk_at dksX0_tripValue_0 1 rfl rfl)
theorem dX0_tripValue_2 : decode cX0_tripValue 2 = .ok (.aload_n 0, 1) := dk_42 (dk_at dksX0_tripValue_0 2 rfl rfl)
theorem dX0_tripValue_3 : decode cX0_tripValue 3 = .ok (.iload_n 1, 1) := dk_27 (dk_at dksX0_tripValue_0 3 rfl rfl)
theorem dX0_tripValue_4 : decode cX0_tripValue 4 = .ok (.iload_n 2, 1) := dk_28 (dk_at dksX0_tripValue_0 4 rfl rfl)
theorem dX0_tripValue_5 : decode cX0_tripValue 5 = .ok (.invokevirtual 21, 3) := dk_182 0 21 (dk_at dksX0_tripValue_0 5 rfl rfl)
theorem dX0_tripValue_8 : decode cX0_tripValue 8 = .ok (.i2l, 1) := dk_133 (dk_at dksX0_tripValue_0 8 rfl rfl)
theorem dX0_tripValue_9 : decode cX0_tripValue 9 = .ok (.lastore, 1) := dk_80 (dk_at dksX0_tripValue_0 9 rfl rfl)
theorem dX0_tripValue_10 : decode cX0_tripValue 10 = .ok (.goto 11, 3) := dk_167 0 11 (dk_at dksX0_tripValue_0 10 rfl rfl)
theorem dX0_tripValue_13 : decode cX0_tripValue 13 = .ok (.astore 4, 2) := dk_58 4 (dk_at dksX0_tripValue_0 13 rfl rfl)
theorem dX0_tripValue_15 : decode cX0_tripValue 15 = .ok (.iconst 1, 1) := dk_4 (dk_at dksX0_tripValue_0 15 rfl rfl)
theorem dX0_tripValue_16 : decode cX0_tripValue 16 = .ok (.ireturn, 1) := dk_172 (dk_at dksX0_tripValue_0 16 rfl rfl)
theorem dX0_tripValue_17 : decode cX0_tripValue 17 = .ok (.astore 4, 2) := dk_58 4 (dk_at dksX0_tripValue_0 17 rfl rfl)
theorem dX0_tripValue_19 : decode cX0_tripValue 19 = .ok (.iconst 2, 1) := dk_5 (dk_at dksX0_tripValue_0 19 rfl rfl)
theorem dX0_tripValue_20 : decode cX0_tripValue 20 = .ok (.ireturn, 1) := dk_172 (dk_at dksX0_tripValue_0 20 rfl rfl)
theorem dX0_tripValue_21 : decode cX0_tripValue 21 = .ok (.iconst 0, 1) := dk_3 (dk_at dksX0_tripValue_0 21 rfl rfl)
theorem dX0_tripValue_22 : decode cX0_tripValue 22 = .ok (.ireturn, 1) := dk_172 (dk_at dksX0_tripValue_0 22 rfl rfl)
abbrev cX0_setToll : ByteArray := method_6_code
def yX0_setToll : MethodName := ⟨RX0, "setToll", "(LTollLeader;II[J)I"⟩
def dkwX0_setToll_0 : List UInt8 := [45, 3, 42, 27, 28, 182, 0, 24, 133, 80, 167, 0, 11, 58, 4, 4, 172, 58, 4, 5, 172, 3, 172]
abbrev dktX0_setToll_0 : List UInt8 := dkwX0_setToll_0 ++ []
theorem dksX0_setToll_0 : cX0_setToll.data.toList.drop 0 = dktX0_setToll_0 := by decide +kernel
theorem dX0_setToll_0 : decode cX0_setToll 0 = .ok (.aload_n 3, 1) := dk_45 (dk_at dksX0_setToll_0 0 rfl rfl)
theorem dX0_setToll_1 : decode cX0_setToll 1 = .ok (.iconst 0, 1) := dk_3 (dk_at dksX0_setToll_0 1 rfl rfl)
theorem dX0_setToll_2 : decode cX0_setToll 2 = .ok (.aload_n 0, 1) := dk_42 (dk_at dksX0_setToll_0 2 rfl rfl)
theorem dX0_setToll_3 : decode cX0_setToll 3 = .ok (.iload_n 1, 1) := dk_27 (dk_at dksX0_setToll_0 3 rfl rfl)
theorem dX0_setToll_4 : decode cX0_setToll 4 = .ok (.iload_n 2, 1) := dk_28 (dk_at dksX0_setToll_0 4 rfl rfl)
theorem dX0_setToll_5 : decode cX0_setToll 5 = .ok (.invokevirtual 24, 3) := dk_182 0 24 (dk_at dksX0_setToll_0 5 rfl rfl)
theorem dX0_setToll_8 : decode cX0_setToll 8 = .ok (.i2l, 1) := dk_133 (dk_at dksX0_setToll_0 8 rfl rfl)
theorem dX0_setToll_9 : decode cX0_setToll 9 = .ok (.lastore, 1) := dk_80 (dk_at dksX0_setToll_0 9 rfl rfl)
theorem dX0_setToll_10 : decode cX0_setToll 10 = .ok (.goto 11, 3) := dk_167 0 11 (dk_at dksX0_setToll_0 10 rfl rfl)
theorem dX0_setToll_13 : decode cX0_setToll 13 = .ok (.astore 4, 2) := dk_58 4 (dk_at dksX0_setToll_0 13 rfl rfl)
theorem dX0_setToll_15 : decode cX0_setToll 15 = .ok (.iconst 1, 1) := dk_4 (dk_at dksX0_setToll_0 15 rfl rfl)
theorem dX0_setToll_16 : decode cX0_setToll 16 = .ok (.ireturn, 1) := dk_172 (dk_at dksX0_setToll_0 16 rfl rfl)
theorem dX0_setToll_17 : decode cX0_setToll 17 = .ok (.astore 4, 2) := dk_58 4 (dk_at dksX0_setToll_0 17 rfl rfl)
theorem dX0_setToll_19 : decode cX0_setToll 19 = .ok (.iconst 2, 1) := dk_5 (dk_at dksX0_setToll_0 19 rfl rfl)
theorem dX0_setToll_20 : decode cX0_setToll 20 = .ok (.ireturn, 1) := dk_172 (dk_at dksX0_setToll_0 20 rfl rfl)
theorem dX0_setToll_21 : decode cX0_setToll 21 = .ok (.iconst 0, 1) := dk_3 (dk_at dksX0_setToll_0 21 rfl rfl)
theorem dX0_setToll_22 : decode cX0_setToll 22 = .ok (.ireturn, 1) := dk_172 (dk_at dksX0_setToll_0 22 rfl rfl)
abbrev cX0_addTolls : ByteArray := method_7_code
def yX0_addTolls : MethodName := ⟨RX0, "addTolls", "(LTollLeader;I[J)I"⟩
def dkwX0_addTolls_0 : List UInt8 := [44, 3, 42, 27, 182, 0, 27, 133, 80, 167, 0, 6, 78, 4, 172, 3, 172]
abbrev dktX0_addTolls_0 : List UInt8 := dkwX0_addTolls_0 ++ []
theorem dksX0_addTolls_0 : cX0_addTolls.data.toList.drop 0 = dktX0_addTolls_0 := by decide +kernel
theorem dX0_addTolls_0 : decode cX0_addTolls 0 = .ok (.aload_n 2, 1) := dk_44 (dk_at dksX0_addTolls_0 0 rfl rfl)
theorem dX0_addTolls_1 : decode cX0_addTolls 1 = .ok (.iconst 0, 1) := dk_3 (dk_at dksX0_addTolls_0 1 rfl rfl)
theorem dX0_addTolls_2 : decode cX0_addTolls 2 = .ok (.aload_n 0, 1) := dk_42 (dk_at dksX0_addTolls_0 2 rfl rfl)
theorem dX0_addTolls_3 : decode cX0_addTolls 3 = .ok (.iload_n 1, 1) := dk_27 (dk_at dksX0_addTolls_0 3 rfl rfl)
theorem dX0_addTolls_4 : decode cX0_addTolls 4 = .ok (.invokevirtual 27, 3) := dk_182 0 27 (dk_at dksX0_addTolls_0 4 rfl rfl)
theorem dX0_addTolls_7 : decode cX0_addTolls 7 = .ok (.i2l, 1) := dk_133 (dk_at dksX0_addTolls_0 7 rfl rfl)
theorem dX0_addTolls_8 : decode cX0_addTolls 8 = .ok (.lastore, 1) := dk_80 (dk_at dksX0_addTolls_0 8 rfl rfl)
theorem dX0_addTolls_9 : decode cX0_addTolls 9 = .ok (.goto 6, 3) := dk_167 0 6 (dk_at dksX0_addTolls_0 9 rfl rfl)
theorem dX0_addTolls_12 : decode cX0_addTolls 12 = .ok (.astore_n 3, 1) := dk_78 (dk_at dksX0_addTolls_0 12 rfl rfl)
theorem dX0_addTolls_13 : decode cX0_addTolls 13 = .ok (.iconst 1, 1) := dk_4 (dk_at dksX0_addTolls_0 13 rfl rfl)
theorem dX0_addTolls_14 : decode cX0_addTolls 14 = .ok (.ireturn, 1) := dk_172 (dk_at dksX0_addTolls_0 14 rfl rfl)
theorem dX0_addTolls_15 : decode cX0_addTolls 15 = .ok (.iconst 0, 1) := dk_3 (dk_at dksX0_addTolls_0 15 rfl rfl)
theorem dX0_addTolls_16 : decode cX0_addTolls 16 = .ok (.ireturn, 1) := dk_172 (dk_at dksX0_addTolls_0 16 rfl rfl)
abbrev cX0_setDemand : ByteArray := method_8_code
def yX0_setDemand : MethodName := ⟨RX0, "setDemand", "(LTollLeader;II[J)I"⟩
def dkwX0_setDemand_0 : List UInt8 := [45, 3, 42, 27, 28, 182, 0, 30, 133, 80, 167, 0, 11, 58, 4, 4, 172, 58, 4, 5, 172, 3, 172]
abbrev dktX0_setDemand_0 : List UInt8 := dkwX0_setDemand_0 ++ []
theorem dksX0_setDemand_0 : cX0_setDemand.data.toList.drop 0 = dktX0_setDemand_0 := by decide +kernel
theorem dX0_setDemand_0 : decode cX0_setDemand 0 = .ok (.aload_n 3, 1) := dk_45 (dk_at dksX0_setDemand_0 0 rfl rfl)
theorem dX0_setDemand_1 : decode cX0_setDemand 1 = .ok (.iconst 0, 1) := dk_3 (dk_at dksX0_setDemand_0 1 rfl rfl)
theorem dX0_setDemand_2 : decode cX0_setDemand 2 = .ok (.aload_n 0, 1) := dk_42 (dk_at dksX0_setDemand_0 2 rfl rfl)
theorem dX0_setDemand_3 : decode cX0_setDemand 3 = .ok (.iload_n 1, 1) := dk_27 (dk_at dksX0_setDemand_0 3 rfl rfl)
theorem dX0_setDemand_4 : decode cX0_setDemand 4 = .ok (.iload_n 2, 1) := dk_28 (dk_at dksX0_setDemand_0 4 rfl rfl)
theorem dX0_setDemand_5 : decode cX0_setDemand 5 = .ok (.invokevirtual 30, 3) := dk_182 0 30 (dk_at dksX0_setDemand_0 5 rfl rfl)
theorem dX0_setDemand_8 : decode cX0_setDemand 8 = .ok (.i2l, 1) := dk_133 (dk_at dksX0_setDemand_0 8 rfl rfl)
theorem dX0_setDemand_9 : decode cX0_setDemand 9 = .ok (.lastore, 1) := dk_80 (dk_at dksX0_setDemand_0 9 rfl rfl)
theorem dX0_setDemand_10 : decode cX0_setDemand 10 = .ok (.goto 11, 3) := dk_167 0 11 (dk_at dksX0_setDemand_0 10 rfl rfl)
theorem dX0_setDemand_13 : decode cX0_setDemand 13 = .ok (.astore 4, 2) := dk_58 4 (dk_at dksX0_setDemand_0 13 rfl rfl)
theorem dX0_setDemand_15 : decode cX0_setDemand 15 = .ok (.iconst 1, 1) := dk_4 (dk_at dksX0_setDemand_0 15 rfl rfl)
theorem dX0_setDemand_16 : decode cX0_setDemand 16 = .ok (.ireturn, 1) := dk_172 (dk_at dksX0_setDemand_0 16 rfl rfl)
theorem dX0_setDemand_17 : decode cX0_setDemand 17 = .ok (.astore 4, 2) := dk_58 4 (dk_at dksX0_setDemand_0 17 rfl rfl)
theorem dX0_setDemand_19 : decode cX0_setDemand 19 = .ok (.iconst 2, 1) := dk_5 (dk_at dksX0_setDemand_0 19 rfl rfl)
theorem dX0_setDemand_20 : decode cX0_setDemand 20 = .ok (.ireturn, 1) := dk_172 (dk_at dksX0_setDemand_0 20 rfl rfl)
theorem dX0_setDemand_21 : decode cX0_setDemand 21 = .ok (.iconst 0, 1) := dk_3 (dk_at dksX0_setDemand_0 21 rfl rfl)
theorem dX0_setDemand_22 : decode cX0_setDemand 22 = .ok (.ireturn, 1) := dk_172 (dk_at dksX0_setDemand_0 22 rfl rfl)
abbrev cX0_close : ByteArray := method_9_code
def yX0_close : MethodName := ⟨RX0, "close", "(LTollLeader;IZ[J)I"⟩
def dkwX0_close_1 : List UInt8 := [3, 172]
abbrev dktX0_close_1 : List UInt8 := dkwX0_close_1 ++ []
def dkwX0_close_0 : List UInt8 := [45, 3, 42, 27, 28, 182, 0, 33, 153, 0, 7, 10, 167, 0, 4, 9, 80, 167, 0, 7, 58, 4, 4, 172]
abbrev dktX0_close_0 : List UInt8 := dkwX0_close_0 ++ dktX0_close_1
theorem dksX0_close_0 : cX0_close.data.toList.drop 0 = dktX0_close_0 := by decide +kernel
theorem dksX0_close_1 : cX0_close.data.toList.drop 24 = dktX0_close_1 := dk_seg dksX0_close_0 24 rfl rfl
theorem dX0_close_0 : decode cX0_close 0 = .ok (.aload_n 3, 1) := dk_45 (dk_at dksX0_close_0 0 rfl rfl)
theorem dX0_close_1 : decode cX0_close 1 = .ok (.iconst 0, 1) := dk_3 (dk_at dksX0_close_0 1 rfl rfl)
theorem dX0_close_2 : decode cX0_close 2 = .ok (.aload_n 0, 1) := dk_42 (dk_at dksX0_close_0 2 rfl rfl)
theorem dX0_close_3 : decode cX0_close 3 = .ok (.iload_n 1, 1) := dk_27 (dk_at dksX0_close_0 3 rfl rfl)
theorem dX0_close_4 : decode cX0_close 4 = .ok (.iload_n 2, 1) := dk_28 (dk_at dksX0_close_0 4 rfl rfl)
theorem dX0_close_5 : decode cX0_close 5 = .ok (.invokevirtual 33, 3) := dk_182 0 33 (dk_at dksX0_close_0 5 rfl rfl)
theorem dX0_close_8 : decode cX0_close 8 = .ok (.ifCond .eq 7, 3) := dk_153 0 7 (dk_at dksX0_close_0 8 rfl rfl)
theorem dX0_close_11 : decode cX0_close 11 = .ok (.lconst 1, 1) := dk_10 (dk_at dksX0_close_0 11 rfl rfl)
theorem dX0_close_12 : decode cX0_close 12 = .ok (.goto 4, 3) := dk_167 0 4 (dk_at dksX0_close_0 12 rfl rfl)
theorem dX0_close_15 : decode cX0_close 15 = .ok (.lconst 0, 1) := dk_9 (dk_at dksX0_close_0 15 rfl rfl)
theorem dX0_close_16 : decode cX0_close 16 = .ok (.lastore, 1) := dk_80 (dk_at dksX0_close_0 16 rfl rfl)
theorem dX0_close_17 : decode cX0_close 17 = .ok (.goto 7, 3) := dk_167 0 7 (dk_at dksX0_close_0 17 rfl rfl)
theorem dX0_close_20 : decode cX0_close 20 = .ok (.astore 4, 2) := dk_58 4 (dk_at dksX0_close_0 20 rfl rfl)
theorem dX0_close_22 : decode cX0_close 22 = .ok (.iconst 1, 1) := dk_4 (dk_at dksX0_close_0 22 rfl rfl)
theorem dX0_close_23 : decode cX0_close 23 = .ok (.ireturn, 1) := dk_172 (dk_at dksX0_close_0 23 rfl rfl)
theorem dX0_close_24 : decode cX0_close 24 = .ok (.iconst 0, 1) := dk_3 (dk_at dksX0_close_1 0 rfl rfl)
theorem dX0_close_25 : decode cX0_close 25 = .ok (.ireturn, 1) := dk_172 (dk_at dksX0_close_1 1 rfl rfl)
abbrev cX0_hasPath : ByteArray := method_10_code
def yX0_hasPath : MethodName := ⟨RX0, "hasPath", "(LTollLeader;I[J)I"⟩
def dkwX0_hasPath_0 : List UInt8 := [44, 3, 42, 27, 182, 0, 37, 153, 0, 7, 10, 167, 0, 4, 9, 80, 167, 0, 6, 78, 4, 172, 3, 172]
abbrev dktX0_hasPath_0 : List UInt8 := dkwX0_hasPath_0 ++ []
theorem dksX0_hasPath_0 : cX0_hasPath.data.toList.drop 0 = dktX0_hasPath_0 := by decide +kernel
theorem dX0_hasPath_0 : decode cX0_hasPath 0 = .ok (.aload_n 2, 1) := dk_44 (dk_at dksX0_hasPath_0 0 rfl rfl)
theorem dX0_hasPath_1 : decode cX0_hasPath 1 = .ok (.iconst 0, 1) := dk_3 (dk_at dksX0_hasPath_0 1 rfl rfl)
theorem dX0_hasPath_2 : decode cX0_hasPath 2 = .ok (.aload_n 0, 1) := dk_42 (dk_at dksX0_hasPath_0 2 rfl rfl)
theorem dX0_hasPath_3 : decode cX0_hasPath 3 = .ok (.iload_n 1, 1) := dk_27 (dk_at dksX0_hasPath_0 3 rfl rfl)
theorem dX0_hasPath_4 : decode cX0_hasPath 4 = .ok (.invokevirtual 37, 3) := dk_182 0 37 (dk_at dksX0_hasPath_0 4 rfl rfl)
theorem dX0_hasPath_7 : decode cX0_hasPath 7 = .ok (.ifCond .eq 7, 3) := dk_153 0 7 (dk_at dksX0_hasPath_0 7 rfl rfl)
theorem dX0_hasPath_10 : decode cX0_hasPath 10 = .ok (.lconst 1, 1) := dk_10 (dk_at dksX0_hasPath_0 10 rfl rfl)
theorem dX0_hasPath_11 : decode cX0_hasPath 11 = .ok (.goto 4, 3) := dk_167 0 4 (dk_at dksX0_hasPath_0 11 rfl rfl)
theorem dX0_hasPath_14 : decode cX0_hasPath 14 = .ok (.lconst 0, 1) := dk_9 (dk_at dksX0_hasPath_0 14 rfl rfl)
theorem dX0_hasPath_15 : decode cX0_hasPath 15 = .ok (.lastore, 1) := dk_80 (dk_at dksX0_hasPath_0 15 rfl rfl)
theorem dX0_hasPath_16 : decode cX0_hasPath 16 = .ok (.goto 6, 3) := dk_167 0 6 (dk_at dksX0_hasPath_0 16 rfl rfl)
theorem dX0_hasPath_19 : decode cX0_hasPath 19 = .ok (.astore_n 3, 1) := dk_78 (dk_at dksX0_hasPath_0 19 rfl rfl)
theorem dX0_hasPath_20 : decode cX0_hasPath 20 = .ok (.iconst 1, 1) := dk_4 (dk_at dksX0_hasPath_0 20 rfl rfl)
theorem dX0_hasPath_21 : decode cX0_hasPath 21 = .ok (.ireturn, 1) := dk_172 (dk_at dksX0_hasPath_0 21 rfl rfl)
theorem dX0_hasPath_22 : decode cX0_hasPath 22 = .ok (.iconst 0, 1) := dk_3 (dk_at dksX0_hasPath_0 22 rfl rfl)
theorem dX0_hasPath_23 : decode cX0_hasPath 23 = .ok (.ireturn, 1) := dk_172 (dk_at dksX0_hasPath_0 23 rfl rfl)
abbrev cX0_pathLength : ByteArray := method_11_code
def yX0_pathLength : MethodName := ⟨RX0, "pathLength", "(LTollLeader;I[J)I"⟩
def dkwX0_pathLength_0 : List UInt8 := [44, 3, 42, 27, 182, 0, 41, 133, 80, 167, 0, 6, 78, 4, 172, 3, 172]
abbrev dktX0_pathLength_0 : List UInt8 := dkwX0_pathLength_0 ++ []
theorem dksX0_pathLength_0 : cX0_pathLength.data.toList.drop 0 = dktX0_pathLength_0 := by decide +kernel
theorem dX0_pathLength_0 : decode cX0_pathLength 0 = .ok (.aload_n 2, 1) := dk_44 (dk_at dksX0_pathLength_0 0 rfl rfl)
theorem dX0_pathLength_1 : decode cX0_pathLength 1 = .ok (.iconst 0, 1) := dk_3 (dk_at dksX0_pathLength_0 1 rfl rfl)
theorem dX0_pathLength_2 : decode cX0_pathLength 2 = .ok (.aload_n 0, 1) := dk_42 (dk_at dksX0_pathLength_0 2 rfl rfl)
theorem dX0_pathLength_3 : decode cX0_pathLength 3 = .ok (.iload_n 1, 1) := dk_27 (dk_at dksX0_pathLength_0 3 rfl rfl)
theorem dX0_pathLength_4 : decode cX0_pathLength 4 = .ok (.invokevirtual 41, 3) := dk_182 0 41 (dk_at dksX0_pathLength_0 4 rfl rfl)
theorem dX0_pathLength_7 : decode cX0_pathLength 7 = .ok (.i2l, 1) := dk_133 (dk_at dksX0_pathLength_0 7 rfl rfl)
theorem dX0_pathLength_8 : decode cX0_pathLength 8 = .ok (.lastore, 1) := dk_80 (dk_at dksX0_pathLength_0 8 rfl rfl)
theorem dX0_pathLength_9 : decode cX0_pathLength 9 = .ok (.goto 6, 3) := dk_167 0 6 (dk_at dksX0_pathLength_0 9 rfl rfl)
theorem dX0_pathLength_12 : decode cX0_pathLength 12 = .ok (.astore_n 3, 1) := dk_78 (dk_at dksX0_pathLength_0 12 rfl rfl)
theorem dX0_pathLength_13 : decode cX0_pathLength 13 = .ok (.iconst 1, 1) := dk_4 (dk_at dksX0_pathLength_0 13 rfl rfl)
theorem dX0_pathLength_14 : decode cX0_pathLength 14 = .ok (.ireturn, 1) := dk_172 (dk_at dksX0_pathLength_0 14 rfl rfl)
theorem dX0_pathLength_15 : decode cX0_pathLength 15 = .ok (.iconst 0, 1) := dk_3 (dk_at dksX0_pathLength_0 15 rfl rfl)
theorem dX0_pathLength_16 : decode cX0_pathLength 16 = .ok (.ireturn, 1) := dk_172 (dk_at dksX0_pathLength_0 16 rfl rfl)
abbrev cX0_pathArc : ByteArray := method_12_code
def yX0_pathArc : MethodName := ⟨RX0, "pathArc", "(LTollLeader;II[J)I"⟩
def dkwX0_pathArc_0 : List UInt8 := [45, 3, 42, 27, 28, 182, 0, 44, 133, 80, 167, 0, 7, 58, 4, 4, 172, 3, 172]
abbrev dktX0_pathArc_0 : List UInt8 := dkwX0_pathArc_0 ++ []
theorem dksX0_pathArc_0 : cX0_pathArc.data.toList.drop 0 = dktX0_pathArc_0 := by decide +kernel
theorem dX0_pathArc_0 : decode cX0_pathArc 0 = .ok (.aload_n 3, 1) := dk_45 (dk_at dksX0_pathArc_0 0 rfl rfl)
theorem dX0_pathArc_1 : decode cX0_pathArc 1 = .ok (.iconst 0, 1) := dk_3 (dk_at dksX0_pathArc_0 1 rfl rfl)
theorem dX0_pathArc_2 : decode cX0_pathArc 2 = .ok (.aload_n 0, 1) := dk_42 (dk_at dksX0_pathArc_0 2 rfl rfl)
theorem dX0_pathArc_3 : decode cX0_pathArc 3 = .ok (.iload_n 1, 1) := dk_27 (dk_at dksX0_pathArc_0 3 rfl rfl)
theorem dX0_pathArc_4 : decode cX0_pathArc 4 = .ok (.iload_n 2, 1) := dk_28 (dk_at dksX0_pathArc_0 4 rfl rfl)
theorem dX0_pathArc_5 : decode cX0_pathArc 5 = .ok (.invokevirtual 44, 3) := dk_182 0 44 (dk_at dksX0_pathArc_0 5 rfl rfl)
theorem dX0_pathArc_8 : decode cX0_pathArc 8 = .ok (.i2l, 1) := dk_133 (dk_at dksX0_pathArc_0 8 rfl rfl)
theorem dX0_pathArc_9 : decode cX0_pathArc 9 = .ok (.lastore, 1) := dk_80 (dk_at dksX0_pathArc_0 9 rfl rfl)
theorem dX0_pathArc_10 : decode cX0_pathArc 10 = .ok (.goto 7, 3) := dk_167 0 7 (dk_at dksX0_pathArc_0 10 rfl rfl)
theorem dX0_pathArc_13 : decode cX0_pathArc 13 = .ok (.astore 4, 2) := dk_58 4 (dk_at dksX0_pathArc_0 13 rfl rfl)
theorem dX0_pathArc_15 : decode cX0_pathArc 15 = .ok (.iconst 1, 1) := dk_4 (dk_at dksX0_pathArc_0 15 rfl rfl)
theorem dX0_pathArc_16 : decode cX0_pathArc 16 = .ok (.ireturn, 1) := dk_172 (dk_at dksX0_pathArc_0 16 rfl rfl)
theorem dX0_pathArc_17 : decode cX0_pathArc 17 = .ok (.iconst 0, 1) := dk_3 (dk_at dksX0_pathArc_0 17 rfl rfl)
theorem dX0_pathArc_18 : decode cX0_pathArc 18 = .ok (.ireturn, 1) := dk_172 (dk_at dksX0_pathArc_0 18 rfl rfl)
abbrev cX0_pathCost : ByteArray := method_13_code
def yX0_pathCost : MethodName := ⟨RX0, "pathCost", "(LTollLeader;I[J)I"⟩
def dkwX0_pathCost_0 : List UInt8 := [44, 3, 42, 27, 182, 0, 47, 133, 80, 167, 0, 6, 78, 4, 172, 3, 172]
abbrev dktX0_pathCost_0 : List UInt8 := dkwX0_pathCost_0 ++ []
theorem dksX0_pathCost_0 : cX0_pathCost.data.toList.drop 0 = dktX0_pathCost_0 := by decide +kernel
theorem dX0_pathCost_0 : decode cX0_pathCost 0 = .ok (.aload_n 2, 1) := dk_44 (dk_at dksX0_pathCost_0 0 rfl rfl)
theorem dX0_pathCost_1 : decode cX0_pathCost 1 = .ok (.iconst 0, 1) := dk_3 (dk_at dksX0_pathCost_0 1 rfl rfl)
theorem dX0_pathCost_2 : decode cX0_pathCost 2 = .ok (.aload_n 0, 1) := dk_42 (dk_at dksX0_pathCost_0 2 rfl rfl)
theorem dX0_pathCost_3 : decode cX0_pathCost 3 = .ok (.iload_n 1, 1) := dk_27 (dk_at dksX0_pathCost_0 3 rfl rfl)
theorem dX0_pathCost_4 : decode cX0_pathCost 4 = .ok (.invokevirtual 47, 3) := dk_182 0 47 (dk_at dksX0_pathCost_0 4 rfl rfl)
theorem dX0_pathCost_7 : decode cX0_pathCost 7 = .ok (.i2l, 1) := dk_133 (dk_at dksX0_pathCost_0 7 rfl rfl)
theorem dX0_pathCost_8 : decode cX0_pathCost 8 = .ok (.lastore, 1) := dk_80 (dk_at dksX0_pathCost_0 8 rfl rfl)
theorem dX0_pathCost_9 : decode cX0_pathCost 9 = .ok (.goto 6, 3) := dk_167 0 6 (dk_at dksX0_pathCost_0 9 rfl rfl)
theorem dX0_pathCost_12 : decode cX0_pathCost 12 = .ok (.astore_n 3, 1) := dk_78 (dk_at dksX0_pathCost_0 12 rfl rfl)
theorem dX0_pathCost_13 : decode cX0_pathCost 13 = .ok (.iconst 1, 1) := dk_4 (dk_at dksX0_pathCost_0 13 rfl rfl)
theorem dX0_pathCost_14 : decode cX0_pathCost 14 = .ok (.ireturn, 1) := dk_172 (dk_at dksX0_pathCost_0 14 rfl rfl)
theorem dX0_pathCost_15 : decode cX0_pathCost 15 = .ok (.iconst 0, 1) := dk_3 (dk_at dksX0_pathCost_0 15 rfl rfl)
theorem dX0_pathCost_16 : decode cX0_pathCost 16 = .ok (.ireturn, 1) := dk_172 (dk_at dksX0_pathCost_0 16 rfl rfl)
abbrev cX0_pathToll : ByteArray := method_14_code
def yX0_pathToll : MethodName := ⟨RX0, "pathToll", "(LTollLeader;I[J)I"⟩
def dkwX0_pathToll_0 : List UInt8 := [44, 3, 42, 27, 182, 0, 50, 133, 80, 167, 0, 6, 78, 4, 172, 3, 172]
abbrev dktX0_pathToll_0 : List UInt8 := dkwX0_pathToll_0 ++ []
theorem dksX0_pathToll_0 : cX0_pathToll.data.toList.drop 0 = dktX0_pathToll_0 := by decide +kernel
theorem dX0_pathToll_0 : decode cX0_pathToll 0 = .ok (.aload_n 2, 1) := dk_44 (dk_at dksX0_pathToll_0 0 rfl rfl)
theorem dX0_pathToll_1 : decode cX0_pathToll 1 = .ok (.iconst 0, 1) := dk_3 (dk_at dksX0_pathToll_0 1 rfl rfl)
theorem dX0_pathToll_2 : decode cX0_pathToll 2 = .ok (.aload_n 0, 1) := dk_42 (dk_at dksX0_pathToll_0 2 rfl rfl)
theorem dX0_pathToll_3 : decode cX0_pathToll 3 = .ok (.iload_n 1, 1) := dk_27 (dk_at dksX0_pathToll_0 3 rfl rfl)
theorem dX0_pathToll_4 : decode cX0_pathToll 4 = .ok (.invokevirtual 50, 3) := dk_182 0 50 (dk_at dksX0_pathToll_0 4 rfl rfl)
theorem dX0_pathToll_7 : decode cX0_pathToll 7 = .ok (.i2l, 1) := dk_133 (dk_at dksX0_pathToll_0 7 rfl rfl)
theorem dX0_pathToll_8 : decode cX0_pathToll 8 = .ok (.lastore, 1) := dk_80 (dk_at dksX0_pathToll_0 8 rfl rfl)
theorem dX0_pathToll_9 : decode cX0_pathToll 9 = .ok (.goto 6, 3) := dk_167 0 6 (dk_at dksX0_pathToll_0 9 rfl rfl)
theorem dX0_pathToll_12 : decode cX0_pathToll 12 = .ok (.astore_n 3, 1) := dk_78 (dk_at dksX0_pathToll_0 12 rfl rfl)
theorem dX0_pathToll_13 : decode cX0_pathToll 13 = .ok (.iconst 1, 1) := dk_4 (dk_at dksX0_pathToll_0 13 rfl rfl)
theorem dX0_pathToll_14 : decode cX0_pathToll 14 = .ok (.ireturn, 1) := dk_172 (dk_at dksX0_pathToll_0 14 rfl rfl)
theorem dX0_pathToll_15 : decode cX0_pathToll 15 = .ok (.iconst 0, 1) := dk_3 (dk_at dksX0_pathToll_0 15 rfl rfl)
theorem dX0_pathToll_16 : decode cX0_pathToll 16 = .ok (.ireturn, 1) := dk_172 (dk_at dksX0_pathToll_0 16 rfl rfl)
abbrev cX0_felt : ByteArray := method_15_code
def yX0_felt : MethodName := ⟨RX0, "felt", "(LTollLeader;I[J)I"⟩
def dkwX0_felt_0 : List UInt8 := [44, 3, 42, 27, 182, 0, 53, 133, 80, 167, 0, 6, 78, 4, 172, 3, 172]
abbrev dktX0_felt_0 : List UInt8 := dkwX0_felt_0 ++ []
theorem dksX0_felt_0 : cX0_felt.data.toList.drop 0 = dktX0_felt_0 := by decide +kernel
theorem dX0_felt_0 : decode cX0_felt 0 = .ok (.aload_n 2, 1) := dk_44 (dk_at dksX0_felt_0 0 rfl rfl)
theorem dX0_felt_1 : decode cX0_felt 1 = .ok (.iconst 0, 1) := dk_3 (dk_at dksX0_felt_0 1 rfl rfl)
theorem dX0_felt_2 : decode cX0_felt 2 = .ok (.aload_n 0, 1) := dk_42 (dk_at dksX0_felt_0 2 rfl rfl)
theorem dX0_felt_3 : decode cX0_felt 3 = .ok (.iload_n 1, 1) := dk_27 (dk_at dksX0_felt_0 3 rfl rfl)
theorem dX0_felt_4 : decode cX0_felt 4 = .ok (.invokevirtual 53, 3) := dk_182 0 53 (dk_at dksX0_felt_0 4 rfl rfl)
theorem dX0_felt_7 : decode cX0_felt 7 = .ok (.i2l, 1) := dk_133 (dk_at dksX0_felt_0 7 rfl rfl)
theorem dX0_felt_8 : decode cX0_felt 8 = .ok (.lastore, 1) := dk_80 (dk_at dksX0_felt_0 8 rfl rfl)
theorem dX0_felt_9 : decode cX0_felt 9 = .ok (.goto 6, 3) := dk_167 0 6 (dk_at dksX0_felt_0 9 rfl rfl)
theorem dX0_felt_12 : decode cX0_felt 12 = .ok (.astore_n 3, 1) := dk_78 (dk_at dksX0_felt_0 12 rfl rfl)
theorem dX0_felt_13 : decode cX0_felt 13 = .ok (.iconst 1, 1) := dk_4 (dk_at dksX0_felt_0 13 rfl rfl)
theorem dX0_felt_14 : decode cX0_felt 14 = .ok (.ireturn, 1) := dk_172 (dk_at dksX0_felt_0 14 rfl rfl)
theorem dX0_felt_15 : decode cX0_felt 15 = .ok (.iconst 0, 1) := dk_3 (dk_at dksX0_felt_0 15 rfl rfl)
theorem dX0_felt_16 : decode cX0_felt 16 = .ok (.ireturn, 1) := dk_172 (dk_at dksX0_felt_0 16 rfl rfl)
abbrev cX0_uses : ByteArray := method_16_code
def yX0_uses : MethodName := ⟨RX0, "uses", "(LTollLeader;II[J)I"⟩
def dkwX0_uses_1 : List UInt8 := [3, 172]
abbrev dktX0_uses_1 : List UInt8 := dkwX0_uses_1 ++ []
def dkwX0_uses_0 : List UInt8 := [45, 3, 42, 27, 28, 182, 0, 56, 153, 0, 7, 10, 167, 0, 4, 9, 80, 167, 0, 7, 58, 4, 4, 172]
abbrev dktX0_uses_0 : List UInt8 := dkwX0_uses_0 ++ dktX0_uses_1
theorem dksX0_uses_0 : cX0_uses.data.toList.drop 0 = dktX0_uses_0 := by decide +kernel
theorem dksX0_uses_1 : cX0_uses.data.toList.drop 24 = dktX0_uses_1 := dk_seg dksX0_uses_0 24 rfl rfl
theorem dX0_uses_0 : decode cX0_uses 0 = .ok (.aload_n 3, 1) := dk_45 (dk_at dksX0_uses_0 0 rfl rfl)
theorem dX0_uses_1 : decode cX0_uses 1 = .ok (.iconst 0, 1) := dk_3 (dk_at dksX0_uses_0 1 rfl rfl)
theorem dX0_uses_2 : decode cX0_uses 2 = .ok (.aload_n 0, 1) := dk_42 (dk_at dksX0_uses_0 2 rfl rfl)
theorem dX0_uses_3 : decode cX0_uses 3 = .ok (.iload_n 1, 1) := dk_27 (dk_at dksX0_uses_0 3 rfl rfl)
theorem dX0_uses_4 : decode cX0_uses 4 = .ok (.iload_n 2, 1) := dk_28 (dk_at dksX0_uses_0 4 rfl rfl)
theorem dX0_uses_5 : decode cX0_uses 5 = .ok (.invokevirtual 56, 3) := dk_182 0 56 (dk_at dksX0_uses_0 5 rfl rfl)
theorem dX0_uses_8 : decode cX0_uses 8 = .ok (.ifCond .eq 7, 3) := dk_153 0 7 (dk_at dksX0_uses_0 8 rfl rfl)
theorem dX0_uses_11 : decode cX0_uses 11 = .ok (.lconst 1, 1) := dk_10 (dk_at dksX0_uses_0 11 rfl rfl)
theorem dX0_uses_12 : decode cX0_uses 12 = .ok (.goto 4, 3) := dk_167 0 4 (dk_at dksX0_uses_0 12 rfl rfl)
theorem dX0_uses_15 : decode cX0_uses 15 = .ok (.lconst 0, 1) := dk_9 (dk_at dksX0_uses_0 15 rfl rfl)
theorem dX0_uses_16 : decode cX0_uses 16 = .ok (.lastore, 1) := dk_80 (dk_at dksX0_uses_0 16 rfl rfl)
theorem dX0_uses_17 : decode cX0_uses 17 = .ok (.goto 7, 3) := dk_167 0 7 (dk_at dksX0_uses_0 17 rfl rfl)
theorem dX0_uses_20 : decode cX0_uses 20 = .ok (.astore 4, 2) := dk_58 4 (dk_at dksX0_uses_0 20 rfl rfl)
theorem dX0_uses_22 : decode cX0_uses 22 = .ok (.iconst 1, 1) := dk_4 (dk_at dksX0_uses_0 22 rfl rfl)
theorem dX0_uses_23 : decode cX0_uses 23 = .ok (.ireturn, 1) := dk_172 (dk_at dksX0_uses_0 23 rfl rfl)
theorem dX0_uses_24 : decode cX0_uses 24 = .ok (.iconst 0, 1) := dk_3 (dk_at dksX0_uses_1 0 rfl rfl)
theorem dX0_uses_25 : decode cX0_uses 25 = .ok (.ireturn, 1) := dk_172 (dk_at dksX0_uses_1 1 rfl rfl)
abbrev cX0_users : ByteArray := method_17_code
def yX0_users : MethodName := ⟨RX0, "users", "(LTollLeader;I[J)I"⟩
def dkwX0_users_0 : List UInt8 := [44, 3, 42, 27, 182, 0, 60, 133, 80, 167, 0, 6, 78, 4, 172, 3, 172]
abbrev dktX0_users_0 : List UInt8 := dkwX0_users_0 ++ []
theorem dksX0_users_0 : cX0_users.data.toList.drop 0 = dktX0_users_0 := by decide +kernel
theorem dX0_users_0 : decode cX0_users 0 = .ok (.aload_n 2, 1) := dk_44 (dk_at dksX0_users_0 0 rfl rfl)
theorem dX0_users_1 : decode cX0_users 1 = .ok (.iconst 0, 1) := dk_3 (dk_at dksX0_users_0 1 rfl rfl)
theorem dX0_users_2 : decode cX0_users 2 = .ok (.aload_n 0, 1) := dk_42 (dk_at dksX0_users_0 2 rfl rfl)
theorem dX0_users_3 : decode cX0_users 3 = .ok (.iload_n 1, 1) := dk_27 (dk_at dksX0_users_0 3 rfl rfl)
theorem dX0_users_4 : decode cX0_users 4 = .ok (.invokevirtual 60, 3) := dk_182 0 60 (dk_at dksX0_users_0 4 rfl rfl)
theorem dX0_users_7 : decode cX0_users 7 = .ok (.i2l, 1) := dk_133 (dk_at dksX0_users_0 7 rfl rfl)
theorem dX0_users_8 : decode cX0_users 8 = .ok (.lastore, 1) := dk_80 (dk_at dksX0_users_0 8 rfl rfl)
theorem dX0_users_9 : decode cX0_users 9 = .ok (.goto 6, 3) := dk_167 0 6 (dk_at dksX0_users_0 9 rfl rfl)
theorem dX0_users_12 : decode cX0_users 12 = .ok (.astore_n 3, 1) := dk_78 (dk_at dksX0_users_0 12 rfl rfl)
theorem dX0_users_13 : decode cX0_users 13 = .ok (.iconst 1, 1) := dk_4 (dk_at dksX0_users_0 13 rfl rfl)
theorem dX0_users_14 : decode cX0_users 14 = .ok (.ireturn, 1) := dk_172 (dk_at dksX0_users_0 14 rfl rfl)
theorem dX0_users_15 : decode cX0_users 15 = .ok (.iconst 0, 1) := dk_3 (dk_at dksX0_users_0 15 rfl rfl)
theorem dX0_users_16 : decode cX0_users 16 = .ok (.ireturn, 1) := dk_172 (dk_at dksX0_users_0 16 rfl rfl)
abbrev cX0_flow : ByteArray := method_18_code
def yX0_flow : MethodName := ⟨RX0, "flow", "(LTollLeader;I[J)I"⟩
def dkwX0_flow_0 : List UInt8 := [44, 3, 42, 27, 182, 0, 63, 133, 80, 167, 0, 6, 78, 4, 172, 3, 172]
abbrev dktX0_flow_0 : List UInt8 := dkwX0_flow_0 ++ []
theorem dksX0_flow_0 : cX0_flow.data.toList.drop 0 = dktX0_flow_0 := by decide +kernel
theorem dX0_flow_0 : decode cX0_flow 0 = .ok (.aload_n 2, 1) := dk_44 (dk_at dksX0_flow_0 0 rfl rfl)
theorem dX0_flow_1 : decode cX0_flow 1 = .ok (.iconst 0, 1) := dk_3 (dk_at dksX0_flow_0 1 rfl rfl)
theorem dX0_flow_2 : decode cX0_flow 2 = .ok (.aload_n 0, 1) := dk_42 (dk_at dksX0_flow_0 2 rfl rfl)
theorem dX0_flow_3 : decode cX0_flow 3 = .ok (.iload_n 1, 1) := dk_27 (dk_at dksX0_flow_0 3 rfl rfl)
theorem dX0_flow_4 : decode cX0_flow 4 = .ok (.invokevirtual 63, 3) := dk_182 0 63 (dk_at dksX0_flow_0 4 rfl rfl)
theorem dX0_flow_7 : decode cX0_flow 7 = .ok (.i2l, 1) := dk_133 (dk_at dksX0_flow_0 7 rfl rfl)
theorem dX0_flow_8 : decode cX0_flow 8 = .ok (.lastore, 1) := dk_80 (dk_at dksX0_flow_0 8 rfl rfl)
theorem dX0_flow_9 : decode cX0_flow 9 = .ok (.goto 6, 3) := dk_167 0 6 (dk_at dksX0_flow_0 9 rfl rfl)
theorem dX0_flow_12 : decode cX0_flow 12 = .ok (.astore_n 3, 1) := dk_78 (dk_at dksX0_flow_0 12 rfl rfl)
theorem dX0_flow_13 : decode cX0_flow 13 = .ok (.iconst 1, 1) := dk_4 (dk_at dksX0_flow_0 13 rfl rfl)
theorem dX0_flow_14 : decode cX0_flow 14 = .ok (.ireturn, 1) := dk_172 (dk_at dksX0_flow_0 14 rfl rfl)
theorem dX0_flow_15 : decode cX0_flow 15 = .ok (.iconst 0, 1) := dk_3 (dk_at dksX0_flow_0 15 rfl rfl)
theorem dX0_flow_16 : decode cX0_flow 16 = .ok (.ireturn, 1) := dk_172 (dk_at dksX0_flow_0 16 rfl rfl)
abbrev cX0_ties : ByteArray := method_19_code
def yX0_ties : MethodName := ⟨RX0, "ties", "(LTollLeader;I[J)I"⟩
def dkwX0_ties_0 : List UInt8 := [44, 3, 42, 27, 182, 0, 66, 80, 167, 0, 6, 78, 4, 172, 3, 172]
abbrev dktX0_ties_0 : List UInt8 := dkwX0_ties_0 ++ []
theorem dksX0_ties_0 : cX0_ties.data.toList.drop 0 = dktX0_ties_0 := by decide +kernel
theorem dX0_ties_0 : decode cX0_ties 0 = .ok (.aload_n 2, 1) := dk_44 (dk_at dksX0_ties_0 0 rfl rfl)
theorem dX0_ties_1 : decode cX0_ties 1 = .ok (.iconst 0, 1) := dk_3 (dk_at dksX0_ties_0 1 rfl rfl)
theorem dX0_ties_2 : decode cX0_ties 2 = .ok (.aload_n 0, 1) := dk_42 (dk_at dksX0_ties_0 2 rfl rfl)
theorem dX0_ties_3 : decode cX0_ties 3 = .ok (.iload_n 1, 1) := dk_27 (dk_at dksX0_ties_0 3 rfl rfl)
theorem dX0_ties_4 : decode cX0_ties 4 = .ok (.invokevirtual 66, 3) := dk_182 0 66 (dk_at dksX0_ties_0 4 rfl rfl)
theorem dX0_ties_7 : decode cX0_ties 7 = .ok (.lastore, 1) := dk_80 (dk_at dksX0_ties_0 7 rfl rfl)
theorem dX0_ties_8 : decode cX0_ties 8 = .ok (.goto 6, 3) := dk_167 0 6 (dk_at dksX0_ties_0 8 rfl rfl)
theorem dX0_ties_11 : decode cX0_ties 11 = .ok (.astore_n 3, 1) := dk_78 (dk_at dksX0_ties_0 11 rfl rfl)
theorem dX0_ties_12 : decode cX0_ties 12 = .ok (.iconst 1, 1) := dk_4 (dk_at dksX0_ties_0 12 rfl rfl)
theorem dX0_ties_13 : decode cX0_ties 13 = .ok (.ireturn, 1) := dk_172 (dk_at dksX0_ties_0 13 rfl rfl)
theorem dX0_ties_14 : decode cX0_ties 14 = .ok (.iconst 0, 1) := dk_3 (dk_at dksX0_ties_0 14 rfl rfl)
theorem dX0_ties_15 : decode cX0_ties 15 = .ok (.ireturn, 1) := dk_172 (dk_at dksX0_ties_0 15 rfl rfl)
abbrev cX0_tieSpan : ByteArray := method_20_code
def yX0_tieSpan : MethodName := ⟨RX0, "tieSpan", "(LTollLeader;I[J)I"⟩
def dkwX0_tieSpan_0 : List UInt8 := [44, 3, 42, 27, 182, 0, 70, 133, 80, 167, 0, 6, 78, 4, 172, 3, 172]
abbrev dktX0_tieSpan_0 : List UInt8 := dkwX0_tieSpan_0 ++ []
theorem dksX0_tieSpan_0 : cX0_tieSpan.data.toList.drop 0 = dktX0_tieSpan_0 := by decide +kernel
theorem dX0_tieSpan_0 : decode cX0_tieSpan 0 = .ok (.aload_n 2, 1) := dk_44 (dk_at dksX0_tieSpan_0 0 rfl rfl)
theorem dX0_tieSpan_1 : decode cX0_tieSpan 1 = .ok (.iconst 0, 1) := dk_3 (dk_at dksX0_tieSpan_0 1 rfl rfl)
theorem dX0_tieSpan_2 : decode cX0_tieSpan 2 = .ok (.aload_n 0, 1) := dk_42 (dk_at dksX0_tieSpan_0 2 rfl rfl)
theorem dX0_tieSpan_3 : decode cX0_tieSpan 3 = .ok (.iload_n 1, 1) := dk_27 (dk_at dksX0_tieSpan_0 3 rfl rfl)
theorem dX0_tieSpan_4 : decode cX0_tieSpan 4 = .ok (.invokevirtual 70, 3) := dk_182 0 70 (dk_at dksX0_tieSpan_0 4 rfl rfl)
theorem dX0_tieSpan_7 : decode cX0_tieSpan 7 = .ok (.i2l, 1) := dk_133 (dk_at dksX0_tieSpan_0 7 rfl rfl)
theorem dX0_tieSpan_8 : decode cX0_tieSpan 8 = .ok (.lastore, 1) := dk_80 (dk_at dksX0_tieSpan_0 8 rfl rfl)
theorem dX0_tieSpan_9 : decode cX0_tieSpan 9 = .ok (.goto 6, 3) := dk_167 0 6 (dk_at dksX0_tieSpan_0 9 rfl rfl)
theorem dX0_tieSpan_12 : decode cX0_tieSpan 12 = .ok (.astore_n 3, 1) := dk_78 (dk_at dksX0_tieSpan_0 12 rfl rfl)
theorem dX0_tieSpan_13 : decode cX0_tieSpan 13 = .ok (.iconst 1, 1) := dk_4 (dk_at dksX0_tieSpan_0 13 rfl rfl)
theorem dX0_tieSpan_14 : decode cX0_tieSpan 14 = .ok (.ireturn, 1) := dk_172 (dk_at dksX0_tieSpan_0 14 rfl rfl)
theorem dX0_tieSpan_15 : decode cX0_tieSpan 15 = .ok (.iconst 0, 1) := dk_3 (dk_at dksX0_tieSpan_0 15 rfl rfl)
theorem dX0_tieSpan_16 : decode cX0_tieSpan 16 = .ok (.ireturn, 1) := dk_172 (dk_at dksX0_tieSpan_0 16 rfl rfl)
abbrev cX0_revenueOf : ByteArray := method_21_code
def yX0_revenueOf : MethodName := ⟨RX0, "revenueOf", "(LTollLeader;I[J)I"⟩
def dkwX0_revenueOf_0 : List UInt8 := [44, 3, 42, 27, 182, 0, 73, 80, 167, 0, 6, 78, 4, 172, 3, 172]
abbrev dktX0_revenueOf_0 : List UInt8 := dkwX0_revenueOf_0 ++ []
theorem dksX0_revenueOf_0 : cX0_revenueOf.data.toList.drop 0 = dktX0_revenueOf_0 := by decide +kernel
theorem dX0_revenueOf_0 : decode cX0_revenueOf 0 = .ok (.aload_n 2, 1) := dk_44 (dk_at dksX0_revenueOf_0 0 rfl rfl)
theorem dX0_revenueOf_1 : decode cX0_revenueOf 1 = .ok (.iconst 0, 1) := dk_3 (dk_at dksX0_revenueOf_0 1 rfl rfl)
theorem dX0_revenueOf_2 : decode cX0_revenueOf 2 = .ok (.aload_n 0, 1) := dk_42 (dk_at dksX0_revenueOf_0 2 rfl rfl)
theorem dX0_revenueOf_3 : decode cX0_revenueOf 3 = .ok (.iload_n 1, 1) := dk_27 (dk_at dksX0_revenueOf_0 3 rfl rfl)
theorem dX0_revenueOf_4 : decode cX0_revenueOf 4 = .ok (.invokevirtual 73, 3) := dk_182 0 73 (dk_at dksX0_revenueOf_0 4 rfl rfl)
theorem dX0_revenueOf_7 : decode cX0_revenueOf 7 = .ok (.lastore, 1) := dk_80 (dk_at dksX0_revenueOf_0 7 rfl rfl)
theorem dX0_revenueOf_8 : decode cX0_revenueOf 8 = .ok (.goto 6, 3) := dk_167 0 6 (dk_at dksX0_revenueOf_0 8 rfl rfl)
theorem dX0_revenueOf_11 : decode cX0_revenueOf 11 = .ok (.astore_n 3, 1) := dk_78 (dk_at dksX0_revenueOf_0 11 rfl rfl)
theorem dX0_revenueOf_12 : decode cX0_revenueOf 12 = .ok (.iconst 1, 1) := dk_4 (dk_at dksX0_revenueOf_0 12 rfl rfl)
theorem dX0_revenueOf_13 : decode cX0_revenueOf 13 = .ok (.ireturn, 1) := dk_172 (dk_at dksX0_revenueOf_0 13 rfl rfl)
theorem dX0_revenueOf_14 : decode cX0_revenueOf 14 = .ok (.iconst 0, 1) := dk_3 (dk_at dksX0_revenueOf_0 14 rfl rfl)
theorem dX0_revenueOf_15 : decode cX0_revenueOf 15 = .ok (.ireturn, 1) := dk_172 (dk_at dksX0_revenueOf_0 15 rfl rfl)
abbrev cX0_arcRevenue : ByteArray := method_22_code
def yX0_arcRevenue : MethodName := ⟨RX0, "arcRevenue", "(LTollLeader;I[J)I"⟩
def dkwX0_arcRevenue_0 : List UInt8 := [44, 3, 42, 27, 182, 0, 76, 80, 167, 0, 6, 78, 4, 172, 3, 172]
abbrev dktX0_arcRevenue_0 : List UInt8 := dkwX0_arcRevenue_0 ++ []
theorem dksX0_arcRevenue_0 : cX0_arcRevenue.data.toList.drop 0 = dktX0_arcRevenue_0 := by decide +kernel
theorem dX0_arcRevenue_0 : decode cX0_arcRevenue 0 = .ok (.aload_n 2, 1) := dk_44 (dk_at dksX0_arcRevenue_0 0 rfl rfl)
theorem dX0_arcRevenue_1 : decode cX0_arcRevenue 1 = .ok (.iconst 0, 1) := dk_3 (dk_at dksX0_arcRevenue_0 1 rfl rfl)
theorem dX0_arcRevenue_2 : decode cX0_arcRevenue 2 = .ok (.aload_n 0, 1) := dk_42 (dk_at dksX0_arcRevenue_0 2 rfl rfl)
theorem dX0_arcRevenue_3 : decode cX0_arcRevenue 3 = .ok (.iload_n 1, 1) := dk_27 (dk_at dksX0_arcRevenue_0 3 rfl rfl)
theorem dX0_arcRevenue_4 : decode cX0_arcRevenue 4 = .ok (.invokevirtual 76, 3) := dk_182 0 76 (dk_at dksX0_arcRevenue_0 4 rfl rfl)
theorem dX0_arcRevenue_7 : decode cX0_arcRevenue 7 = .ok (.lastore, 1) := dk_80 (dk_at dksX0_arcRevenue_0 7 rfl rfl)
theorem dX0_arcRevenue_8 : decode cX0_arcRevenue 8 = .ok (.goto 6, 3) := dk_167 0 6 (dk_at dksX0_arcRevenue_0 8 rfl rfl)
theorem dX0_arcRevenue_11 : decode cX0_arcRevenue 11 = .ok (.astore_n 3, 1) := dk_78 (dk_at dksX0_arcRevenue_0 11 rfl rfl)
theorem dX0_arcRevenue_12 : decode cX0_arcRevenue 12 = .ok (.iconst 1, 1) := dk_4 (dk_at dksX0_arcRevenue_0 12 rfl rfl)
theorem dX0_arcRevenue_13 : decode cX0_arcRevenue 13 = .ok (.ireturn, 1) := dk_172 (dk_at dksX0_arcRevenue_0 13 rfl rfl)
theorem dX0_arcRevenue_14 : decode cX0_arcRevenue 14 = .ok (.iconst 0, 1) := dk_3 (dk_at dksX0_arcRevenue_0 14 rfl rfl)
theorem dX0_arcRevenue_15 : decode cX0_arcRevenue 15 = .ok (.ireturn, 1) := dk_172 (dk_at dksX0_arcRevenue_0 15 rfl rfl)
abbrev cX0_pledge : ByteArray := method_23_code
def yX0_pledge : MethodName := ⟨RX0, "pledge", "(LTollLeader;I[J)I"⟩
def dkwX0_pledge_0 : List UInt8 := [44, 3, 42, 27, 182, 0, 79, 80, 167, 0, 6, 78, 4, 172, 3, 172]
abbrev dktX0_pledge_0 : List UInt8 := dkwX0_pledge_0 ++ []
theorem dksX0_pledge_0 : cX0_pledge.data.toList.drop 0 = dktX0_pledge_0 := by decide +kernel
theorem dX0_pledge_0 : decode cX0_pledge 0 = .ok (.aload_n 2, 1) := dk_44 (dk_at dksX0_pledge_0 0 rfl rfl)
theorem dX0_pledge_1 : decode cX0_pledge 1 = .ok (.iconst 0, 1) := dk_3 (dk_at dksX0_pledge_0 1 rfl rfl)
theorem dX0_pledge_2 : decode cX0_pledge 2 = .ok (.aload_n 0, 1) := dk_42 (dk_at dksX0_pledge_0 2 rfl rfl)
theorem dX0_pledge_3 : decode cX0_pledge 3 = .ok (.iload_n 1, 1) := dk_27 (dk_at dksX0_pledge_0 3 rfl rfl)
theorem dX0_pledge_4 : decode cX0_pledge 4 = .ok (.invokevirtual 79, 3) := dk_182 0 79 (dk_at dksX0_pledge_0 4 rfl rfl)
theorem dX0_pledge_7 : decode cX0_pledge 7 = .ok (.lastore, 1) := dk_80 (dk_at dksX0_pledge_0 7 rfl rfl)
theorem dX0_pledge_8 : decode cX0_pledge 8 = .ok (.goto 6, 3) := dk_167 0 6 (dk_at dksX0_pledge_0 8 rfl rfl)
theorem dX0_pledge_11 : decode cX0_pledge 11 = .ok (.astore_n 3, 1) := dk_78 (dk_at dksX0_pledge_0 11 rfl rfl)
theorem dX0_pledge_12 : decode cX0_pledge 12 = .ok (.iconst 1, 1) := dk_4 (dk_at dksX0_pledge_0 12 rfl rfl)
theorem dX0_pledge_13 : decode cX0_pledge 13 = .ok (.ireturn, 1) := dk_172 (dk_at dksX0_pledge_0 13 rfl rfl)
theorem dX0_pledge_14 : decode cX0_pledge 14 = .ok (.iconst 0, 1) := dk_3 (dk_at dksX0_pledge_0 14 rfl rfl)
theorem dX0_pledge_15 : decode cX0_pledge 15 = .ok (.ireturn, 1) := dk_172 (dk_at dksX0_pledge_0 15 rfl rfl)
abbrev cX0_keepToll : ByteArray := method_24_code
def yX0_keepToll : MethodName := ⟨RX0, "keepToll", "(LTollLeader;II[J)I"⟩
def dkwX0_keepToll_0 : List UInt8 := [45, 3, 42, 27, 28, 182, 0, 82, 133, 80, 167, 0, 7, 58, 4, 4, 172, 3, 172]
abbrev dktX0_keepToll_0 : List UInt8 := dkwX0_keepToll_0 ++ []
theorem dksX0_keepToll_0 : cX0_keepToll.data.toList.drop 0 = dktX0_keepToll_0 := by decide +kernel
theorem dX0_keepToll_0 : decode cX0_keepToll 0 = .ok (.aload_n 3, 1) := dk_45 (dk_at dksX0_keepToll_0 0 rfl rfl)
theorem dX0_keepToll_1 : decode cX0_keepToll 1 = .ok (.iconst 0, 1) := dk_3 (dk_at dksX0_keepToll_0 1 rfl rfl)
theorem dX0_keepToll_2 : decode cX0_keepToll 2 = .ok (.aload_n 0, 1) := dk_42 (dk_at dksX0_keepToll_0 2 rfl rfl)
theorem dX0_keepToll_3 : decode cX0_keepToll 3 = .ok (.iload_n 1, 1) := dk_27 (dk_at dksX0_keepToll_0 3 rfl rfl)
theorem dX0_keepToll_4 : decode cX0_keepToll 4 = .ok (.iload_n 2, 1) := dk_28 (dk_at dksX0_keepToll_0 4 rfl rfl)
theorem dX0_keepToll_5 : decode cX0_keepToll 5 = .ok (.invokevirtual 82, 3) := dk_182 0 82 (dk_at dksX0_keepToll_0 5 rfl rfl)
theorem dX0_keepToll_8 : decode cX0_keepToll 8 = .ok (.i2l, 1) := dk_133 (dk_at dksX0_keepToll_0 8 rfl rfl)
theorem dX0_keepToll_9 : decode cX0_keepToll 9 = .ok (.lastore, 1) := dk_80 (dk_at dksX0_keepToll_0 9 rfl rfl)
theorem dX0_keepToll_10 : decode cX0_keepToll 10 = .ok (.goto 7, 3) := dk_167 0 7 (dk_at dksX0_keepToll_0 10 rfl rfl)
theorem dX0_keepToll_13 : decode cX0_keepToll 13 = .ok (.astore 4, 2) := dk_58 4 (dk_at dksX0_keepToll_0 13 rfl rfl)
theorem dX0_keepToll_15 : decode cX0_keepToll 15 = .ok (.iconst 1, 1) := dk_4 (dk_at dksX0_keepToll_0 15 rfl rfl)
theorem dX0_keepToll_16 : decode cX0_keepToll 16 = .ok (.ireturn, 1) := dk_172 (dk_at dksX0_keepToll_0 16 rfl rfl)
theorem dX0_keepToll_17 : decode cX0_keepToll 17 = .ok (.iconst 0, 1) := dk_3 (dk_at dksX0_keepToll_0 17 rfl rfl)
theorem dX0_keepToll_18 : decode cX0_keepToll 18 = .ok (.ireturn, 1) := dk_172 (dk_at dksX0_keepToll_0 18 rfl rfl)
abbrev cX0_bestToll : ByteArray := method_25_code
def yX0_bestToll : MethodName := ⟨RX0, "bestToll", "(LTollLeader;I[J)I"⟩
def dkwX0_bestToll_0 : List UInt8 := [44, 3, 42, 27, 182, 0, 85, 133, 80, 167, 0, 6, 78, 4, 172, 3, 172]
abbrev dktX0_bestToll_0 : List UInt8 := dkwX0_bestToll_0 ++ []
theorem dksX0_bestToll_0 : cX0_bestToll.data.toList.drop 0 = dktX0_bestToll_0 := by decide +kernel
theorem dX0_bestToll_0 : decode cX0_bestToll 0 = .ok (.aload_n 2, 1) := dk_44 (dk_at dksX0_bestToll_0 0 rfl rfl)
theorem dX0_bestToll_1 : decode cX0_bestToll 1 = .ok (.iconst 0, 1) := dk_3 (dk_at dksX0_bestToll_0 1 rfl rfl)
theorem dX0_bestToll_2 : decode cX0_bestToll 2 = .ok (.aload_n 0, 1) := dk_42 (dk_at dksX0_bestToll_0 2 rfl rfl)
theorem dX0_bestToll_3 : decode cX0_bestToll 3 = .ok (.iload_n 1, 1) := dk_27 (dk_at dksX0_bestToll_0 3 rfl rfl)
theorem dX0_bestToll_4 : decode cX0_bestToll 4 = .ok (.invokevirtual 85, 3) := dk_182 0 85 (dk_at dksX0_bestToll_0 4 rfl rfl)
theorem dX0_bestToll_7 : decode cX0_bestToll 7 = .ok (.i2l, 1) := dk_133 (dk_at dksX0_bestToll_0 7 rfl rfl)
theorem dX0_bestToll_8 : decode cX0_bestToll 8 = .ok (.lastore, 1) := dk_80 (dk_at dksX0_bestToll_0 8 rfl rfl)
theorem dX0_bestToll_9 : decode cX0_bestToll 9 = .ok (.goto 6, 3) := dk_167 0 6 (dk_at dksX0_bestToll_0 9 rfl rfl)
theorem dX0_bestToll_12 : decode cX0_bestToll 12 = .ok (.astore_n 3, 1) := dk_78 (dk_at dksX0_bestToll_0 12 rfl rfl)
theorem dX0_bestToll_13 : decode cX0_bestToll 13 = .ok (.iconst 1, 1) := dk_4 (dk_at dksX0_bestToll_0 13 rfl rfl)
theorem dX0_bestToll_14 : decode cX0_bestToll 14 = .ok (.ireturn, 1) := dk_172 (dk_at dksX0_bestToll_0 14 rfl rfl)
theorem dX0_bestToll_15 : decode cX0_bestToll 15 = .ok (.iconst 0, 1) := dk_3 (dk_at dksX0_bestToll_0 15 rfl rfl)
theorem dX0_bestToll_16 : decode cX0_bestToll 16 = .ok (.ireturn, 1) := dk_172 (dk_at dksX0_bestToll_0 16 rfl rfl)
abbrev cX0_optimize : ByteArray := method_26_code
def yX0_optimize : MethodName := ⟨RX0, "optimize", "(LTollLeader;I[J)I"⟩
def dkwX0_optimize_0 : List UInt8 := [44, 3, 42, 27, 182, 0, 88, 133, 80, 167, 0, 6, 78, 4, 172, 3, 172]
abbrev dktX0_optimize_0 : List UInt8 := dkwX0_optimize_0 ++ []
theorem dksX0_optimize_0 : cX0_optimize.data.toList.drop 0 = dktX0_optimize_0 := by decide +kernel
theorem dX0_optimize_0 : decode cX0_optimize 0 = .ok (.aload_n 2, 1) := dk_44 (dk_at dksX0_optimize_0 0 rfl rfl)
theorem dX0_optimize_1 : decode cX0_optimize 1 = .ok (.iconst 0, 1) := dk_3 (dk_at dksX0_optimize_0 1 rfl rfl)
theorem dX0_optimize_2 : decode cX0_optimize 2 = .ok (.aload_n 0, 1) := dk_42 (dk_at dksX0_optimize_0 2 rfl rfl)
theorem dX0_optimize_3 : decode cX0_optimize 3 = .ok (.iload_n 1, 1) := dk_27 (dk_at dksX0_optimize_0 3 rfl rfl)
theorem dX0_optimize_4 : decode cX0_optimize 4 = .ok (.invokevirtual 88, 3) := dk_182 0 88 (dk_at dksX0_optimize_0 4 rfl rfl)
theorem dX0_optimize_7 : decode cX0_optimize 7 = .ok (.i2l, 1) := dk_133 (dk_at dksX0_optimize_0 7 rfl rfl)
theorem dX0_optimize_8 : decode cX0_optimize 8 = .ok (.lastore, 1) := dk_80 (dk_at dksX0_optimize_0 8 rfl rfl)
theorem dX0_optimize_9 : decode cX0_optimize 9 = .ok (.goto 6, 3) := dk_167 0 6 (dk_at dksX0_optimize_0 9 rfl rfl)
theorem dX0_optimize_12 : decode cX0_optimize 12 = .ok (.astore_n 3, 1) := dk_78 (dk_at dksX0_optimize_0 12 rfl rfl)
theorem dX0_optimize_13 : decode cX0_optimize 13 = .ok (.iconst 1, 1) := dk_4 (dk_at dksX0_optimize_0 13 rfl rfl)
theorem dX0_optimize_14 : decode cX0_optimize 14 = .ok (.ireturn, 1) := dk_172 (dk_at dksX0_optimize_0 14 rfl rfl)
theorem dX0_optimize_15 : decode cX0_optimize 15 = .ok (.iconst 0, 1) := dk_3 (dk_at dksX0_optimize_0 15 rfl rfl)
theorem dX0_optimize_16 : decode cX0_optimize 16 = .ok (.ireturn, 1) := dk_172 (dk_at dksX0_optimize_0 16 rfl rfl)
abbrev cX0_bestPair : ByteArray := method_27_code
def yX0_bestPair : MethodName := ⟨RX0, "bestPair", "(LTollLeader;III[J)I"⟩
def dkwX0_bestPair_1 : List UInt8 := [172]
abbrev dktX0_bestPair_1 : List UInt8 := dkwX0_bestPair_1 ++ []
def dkwX0_bestPair_0 : List UInt8 := [25, 4, 3, 42, 27, 28, 29, 182, 0, 91, 133, 80, 167, 0, 11, 58, 5, 4, 172, 58, 5, 5, 172, 3]
abbrev dktX0_bestPair_0 : List UInt8 := dkwX0_bestPair_0 ++ dktX0_bestPair_1
theorem dksX0_bestPair_0 : cX0_bestPair.data.toList.drop 0 = dktX0_bestPair_0 := by decide +kernel
theorem dksX0_bestPair_1 : cX0_bestPair.data.toList.drop 24 = dktX0_bestPair_1 := dk_seg dksX0_bestPair_0 24 rfl rfl
theorem dX0_bestPair_0 : decode cX0_bestPair 0 = .ok (.aload 4, 2) := dk_25 4 (dk_at dksX0_bestPair_0 0 rfl rfl)
theorem dX0_bestPair_2 : decode cX0_bestPair 2 = .ok (.iconst 0, 1) := dk_3 (dk_at dksX0_bestPair_0 2 rfl rfl)
theorem dX0_bestPair_3 : decode cX0_bestPair 3 = .ok (.aload_n 0, 1) := dk_42 (dk_at dksX0_bestPair_0 3 rfl rfl)
theorem dX0_bestPair_4 : decode cX0_bestPair 4 = .ok (.iload_n 1, 1) := dk_27 (dk_at dksX0_bestPair_0 4 rfl rfl)
theorem dX0_bestPair_5 : decode cX0_bestPair 5 = .ok (.iload_n 2, 1) := dk_28 (dk_at dksX0_bestPair_0 5 rfl rfl)
theorem dX0_bestPair_6 : decode cX0_bestPair 6 = .ok (.iload_n 3, 1) := dk_29 (dk_at dksX0_bestPair_0 6 rfl rfl)
theorem dX0_bestPair_7 : decode cX0_bestPair 7 = .ok (.invokevirtual 91, 3) := dk_182 0 91 (dk_at dksX0_bestPair_0 7 rfl rfl)
theorem dX0_bestPair_10 : decode cX0_bestPair 10 = .ok (.i2l, 1) := dk_133 (dk_at dksX0_bestPair_0 10 rfl rfl)
theorem dX0_bestPair_11 : decode cX0_bestPair 11 = .ok (.lastore, 1) := dk_80 (dk_at dksX0_bestPair_0 11 rfl rfl)
theorem dX0_bestPair_12 : decode cX0_bestPair 12 = .ok (.goto 11, 3) := dk_167 0 11 (dk_at dksX0_bestPair_0 12 rfl rfl)
theorem dX0_bestPair_15 : decode cX0_bestPair 15 = .ok (.astore 5, 2) := dk_58 5 (dk_at dksX0_bestPair_0 15 rfl rfl)
theorem dX0_bestPair_17 : decode cX0_bestPair 17 = .ok (.iconst 1, 1) := dk_4 (dk_at dksX0_bestPair_0 17 rfl rfl)
theorem dX0_bestPair_18 : decode cX0_bestPair 18 = .ok (.ireturn, 1) := dk_172 (dk_at dksX0_bestPair_0 18 rfl rfl)
theorem dX0_bestPair_19 : decode cX0_bestPair 19 = .ok (.astore 5, 2) := dk_58 5 (dk_at dksX0_bestPair_0 19 rfl rfl)
theorem dX0_bestPair_21 : decode cX0_bestPair 21 = .ok (.iconst 2, 1) := dk_5 (dk_at dksX0_bestPair_0 21 rfl rfl)
theorem dX0_bestPair_22 : decode cX0_bestPair 22 = .ok (.ireturn, 1) := dk_172 (dk_at dksX0_bestPair_0 22 rfl rfl)
theorem dX0_bestPair_23 : decode cX0_bestPair 23 = .ok (.iconst 0, 1) := dk_3 (dk_at dksX0_bestPair_0 23 rfl rfl)
theorem dX0_bestPair_24 : decode cX0_bestPair 24 = .ok (.ireturn, 1) := dk_172 (dk_at dksX0_bestPair_1 0 rfl rfl)
abbrev cX0_detour : ByteArray := method_28_code
def yX0_detour : MethodName := ⟨RX0, "detour", "(LTollLeader;II[J)I"⟩
def dkwX0_detour_0 : List UInt8 := [45, 3, 42, 27, 28, 182, 0, 95, 133, 80, 167, 0, 7, 58, 4, 4, 172, 3, 172]
abbrev dktX0_detour_0 : List UInt8 := dkwX0_detour_0 ++ []
theorem dksX0_detour_0 : cX0_detour.data.toList.drop 0 = dktX0_detour_0 := by decide +kernel
theorem dX0_detour_0 : decode cX0_detour 0 = .ok (.aload_n 3, 1) := dk_45 (dk_at dksX0_detour_0 0 rfl rfl)
theorem dX0_detour_1 : decode cX0_detour 1 = .ok (.iconst 0, 1) := dk_3 (dk_at dksX0_detour_0 1 rfl rfl)
theorem dX0_detour_2 : decode cX0_detour 2 = .ok (.aload_n 0, 1) := dk_42 (dk_at dksX0_detour_0 2 rfl rfl)
theorem dX0_detour_3 : decode cX0_detour 3 = .ok (.iload_n 1, 1) := dk_27 (dk_at dksX0_detour_0 3 rfl rfl)
theorem dX0_detour_4 : decode cX0_detour 4 = .ok (.iload_n 2, 1) := dk_28 (dk_at dksX0_detour_0 4 rfl rfl)
theorem dX0_detour_5 : decode cX0_detour 5 = .ok (.invokevirtual 95, 3) := dk_182 0 95 (dk_at dksX0_detour_0 5 rfl rfl)
theorem dX0_detour_8 : decode cX0_detour 8 = .ok (.i2l, 1) := dk_133 (dk_at dksX0_detour_0 8 rfl rfl)
theorem dX0_detour_9 : decode cX0_detour 9 = .ok (.lastore, 1) := dk_80 (dk_at dksX0_detour_0 9 rfl rfl)
theorem dX0_detour_10 : decode cX0_detour 10 = .ok (.goto 7, 3) := dk_167 0 7 (dk_at dksX0_detour_0 10 rfl rfl)
theorem dX0_detour_13 : decode cX0_detour 13 = .ok (.astore 4, 2) := dk_58 4 (dk_at dksX0_detour_0 13 rfl rfl)
theorem dX0_detour_15 : decode cX0_detour 15 = .ok (.iconst 1, 1) := dk_4 (dk_at dksX0_detour_0 15 rfl rfl)
theorem dX0_detour_16 : decode cX0_detour 16 = .ok (.ireturn, 1) := dk_172 (dk_at dksX0_detour_0 16 rfl rfl)
theorem dX0_detour_17 : decode cX0_detour 17 = .ok (.iconst 0, 1) := dk_3 (dk_at dksX0_detour_0 17 rfl rfl)
theorem dX0_detour_18 : decode cX0_detour 18 = .ok (.ireturn, 1) := dk_172 (dk_at dksX0_detour_0 18 rfl rfl)
abbrev cX0_captives : ByteArray := method_29_code
def yX0_captives : MethodName := ⟨RX0, "captives", "(LTollLeader;I[J)I"⟩
def dkwX0_captives_0 : List UInt8 := [44, 3, 42, 27, 182, 0, 98, 133, 80, 167, 0, 6, 78, 4, 172, 3, 172]
abbrev dktX0_captives_0 : List UInt8 := dkwX0_captives_0 ++ []
theorem dksX0_captives_0 : cX0_captives.data.toList.drop 0 = dktX0_captives_0 := by decide +kernel
theorem dX0_captives_0 : decode cX0_captives 0 = .ok (.aload_n 2, 1) := dk_44 (dk_at dksX0_captives_0 0 rfl rfl)
theorem dX0_captives_1 : decode cX0_captives 1 = .ok (.iconst 0, 1) := dk_3 (dk_at dksX0_captives_0 1 rfl rfl)
theorem dX0_captives_2 : decode cX0_captives 2 = .ok (.aload_n 0, 1) := dk_42 (dk_at dksX0_captives_0 2 rfl rfl)
theorem dX0_captives_3 : decode cX0_captives 3 = .ok (.iload_n 1, 1) := dk_27 (dk_at dksX0_captives_0 3 rfl rfl)
theorem dX0_captives_4 : decode cX0_captives 4 = .ok (.invokevirtual 98, 3) := dk_182 0 98 (dk_at dksX0_captives_0 4 rfl rfl)
theorem dX0_captives_7 : decode cX0_captives 7 = .ok (.i2l, 1) := dk_133 (dk_at dksX0_captives_0 7 rfl rfl)
theorem dX0_captives_8 : decode cX0_captives 8 = .ok (.lastore, 1) := dk_80 (dk_at dksX0_captives_0 8 rfl rfl)
theorem dX0_captives_9 : decode cX0_captives 9 = .ok (.goto 6, 3) := dk_167 0 6 (dk_at dksX0_captives_0 9 rfl rfl)
theorem dX0_captives_12 : decode cX0_captives 12 = .ok (.astore_n 3, 1) := dk_78 (dk_at dksX0_captives_0 12 rfl rfl)
theorem dX0_captives_13 : decode cX0_captives 13 = .ok (.iconst 1, 1) := dk_4 (dk_at dksX0_captives_0 13 rfl rfl)
theorem dX0_captives_14 : decode cX0_captives 14 = .ok (.ireturn, 1) := dk_172 (dk_at dksX0_captives_0 14 rfl rfl)
theorem dX0_captives_15 : decode cX0_captives 15 = .ok (.iconst 0, 1) := dk_3 (dk_at dksX0_captives_0 15 rfl rfl)
theorem dX0_captives_16 : decode cX0_captives 16 = .ok (.ireturn, 1) := dk_172 (dk_at dksX0_captives_0 16 rfl rfl)
abbrev cX0_reachable : ByteArray := method_30_code
def yX0_reachable : MethodName := ⟨RX0, "reachable", "(LTollLeader;I[J)I"⟩
def dkwX0_reachable_0 : List UInt8 := [44, 3, 42, 27, 182, 0, 101, 133, 80, 167, 0, 6, 78, 4, 172, 3, 172]
abbrev dktX0_reachable_0 : List UInt8 := dkwX0_reachable_0 ++ []
theorem dksX0_reachable_0 : cX0_reachable.data.toList.drop 0 = dktX0_reachable_0 := by decide +kernel
theorem dX0_reachable_0 : decode cX0_reachable 0 = .ok (.aload_n 2, 1) := dk_44 (dk_at dksX0_reachable_0 0 rfl rfl)
theorem dX0_reachable_1 : decode cX0_reachable 1 = .ok (.iconst 0, 1) := dk_3 (dk_at dksX0_reachable_0 1 rfl rfl)
theorem dX0_reachable_2 : decode cX0_reachable 2 = .ok (.aload_n 0, 1) := dk_42 (dk_at dksX0_reachable_0 2 rfl rfl)
theorem dX0_reachable_3 : decode cX0_reachable 3 = .ok (.iload_n 1, 1) := dk_27 (dk_at dksX0_reachable_0 3 rfl rfl)
theorem dX0_reachable_4 : decode cX0_reachable 4 = .ok (.invokevirtual 101, 3) := dk_182 0 101 (dk_at dksX0_reachable_0 4 rfl rfl)
theorem dX0_reachable_7 : decode cX0_reachable 7 = .ok (.i2l, 1) := dk_133 (dk_at dksX0_reachable_0 7 rfl rfl)
theorem dX0_reachable_8 : decode cX0_reachable 8 = .ok (.lastore, 1) := dk_80 (dk_at dksX0_reachable_0 8 rfl rfl)
theorem dX0_reachable_9 : decode cX0_reachable 9 = .ok (.goto 6, 3) := dk_167 0 6 (dk_at dksX0_reachable_0 9 rfl rfl)
theorem dX0_reachable_12 : decode cX0_reachable 12 = .ok (.astore_n 3, 1) := dk_78 (dk_at dksX0_reachable_0 12 rfl rfl)
theorem dX0_reachable_13 : decode cX0_reachable 13 = .ok (.iconst 1, 1) := dk_4 (dk_at dksX0_reachable_0 13 rfl rfl)
theorem dX0_reachable_14 : decode cX0_reachable 14 = .ok (.ireturn, 1) := dk_172 (dk_at dksX0_reachable_0 14 rfl rfl)
theorem dX0_reachable_15 : decode cX0_reachable 15 = .ok (.iconst 0, 1) := dk_3 (dk_at dksX0_reachable_0 15 rfl rfl)
theorem dX0_reachable_16 : decode cX0_reachable 16 = .ok (.ireturn, 1) := dk_172 (dk_at dksX0_reachable_0 16 rfl rfl)
abbrev cX0_judge : ByteArray := method_31_code
def yX0_judge : MethodName := ⟨RX0, "judge", "(LTollLeader;I[J)I"⟩
def dkwX0_judge_0 : List UInt8 := [44, 3, 42, 27, 182, 0, 104, 133, 80, 167, 0, 6, 78, 4, 172, 3, 172]
abbrev dktX0_judge_0 : List UInt8 := dkwX0_judge_0 ++ []
theorem dksX0_judge_0 : cX0_judge.data.toList.drop 0 = dktX0_judge_0 := by decide +kernel
theorem dX0_judge_0 : decode cX0_judge 0 = .ok (.aload_n 2, 1) := dk_44 (dk_at dksX0_judge_0 0 rfl rfl)
theorem dX0_judge_1 : decode cX0_judge 1 = .ok (.iconst 0, 1) := dk_3 (dk_at dksX0_judge_0 1 rfl rfl)
theorem dX0_judge_2 : decode cX0_judge 2 = .ok (.aload_n 0, 1) := dk_42 (dk_at dksX0_judge_0 2 rfl rfl)
theorem dX0_judge_3 : decode cX0_judge 3 = .ok (.iload_n 1, 1) := dk_27 (dk_at dksX0_judge_0 3 rfl rfl)
theorem dX0_judge_4 : decode cX0_judge 4 = .ok (.invokevirtual 104, 3) := dk_182 0 104 (dk_at dksX0_judge_0 4 rfl rfl)
theorem dX0_judge_7 : decode cX0_judge 7 = .ok (.i2l, 1) := dk_133 (dk_at dksX0_judge_0 7 rfl rfl)
theorem dX0_judge_8 : decode cX0_judge 8 = .ok (.lastore, 1) := dk_80 (dk_at dksX0_judge_0 8 rfl rfl)
theorem dX0_judge_9 : decode cX0_judge 9 = .ok (.goto 6, 3) := dk_167 0 6 (dk_at dksX0_judge_0 9 rfl rfl)
theorem dX0_judge_12 : decode cX0_judge 12 = .ok (.astore_n 3, 1) := dk_78 (dk_at dksX0_judge_0 12 rfl rfl)
theorem dX0_judge_13 : decode cX0_judge 13 = .ok (.iconst 1, 1) := dk_4 (dk_at dksX0_judge_0 13 rfl rfl)
theorem dX0_judge_14 : decode cX0_judge 14 = .ok (.ireturn, 1) := dk_172 (dk_at dksX0_judge_0 14 rfl rfl)
theorem dX0_judge_15 : decode cX0_judge 15 = .ok (.iconst 0, 1) := dk_3 (dk_at dksX0_judge_0 15 rfl rfl)
theorem dX0_judge_16 : decode cX0_judge 16 = .ok (.ireturn, 1) := dk_172 (dk_at dksX0_judge_0 16 rfl rfl)
abbrev cX0_margin : ByteArray := method_32_code
def yX0_margin : MethodName := ⟨RX0, "margin", "(LTollLeader;I[J)I"⟩
def dkwX0_margin_0 : List UInt8 := [44, 3, 42, 27, 182, 0, 107, 133, 80, 167, 0, 6, 78, 4, 172, 3, 172]
abbrev dktX0_margin_0 : List UInt8 := dkwX0_margin_0 ++ []
theorem dksX0_margin_0 : cX0_margin.data.toList.drop 0 = dktX0_margin_0 := by decide +kernel
theorem dX0_margin_0 : decode cX0_margin 0 = .ok (.aload_n 2, 1) := dk_44 (dk_at dksX0_margin_0 0 rfl rfl)
theorem dX0_margin_1 : decode cX0_margin 1 = .ok (.iconst 0, 1) := dk_3 (dk_at dksX0_margin_0 1 rfl rfl)
theorem dX0_margin_2 : decode cX0_margin 2 = .ok (.aload_n 0, 1) := dk_42 (dk_at dksX0_margin_0 2 rfl rfl)
theorem dX0_margin_3 : decode cX0_margin 3 = .ok (.iload_n 1, 1) := dk_27 (dk_at dksX0_margin_0 3 rfl rfl)
theorem dX0_margin_4 : decode cX0_margin 4 = .ok (.invokevirtual 107, 3) := dk_182 0 107 (dk_at dksX0_margin_0 4 rfl rfl)
theorem dX0_margin_7 : decode cX0_margin 7 = .ok (.i2l, 1) := dk_133 (dk_at dksX0_margin_0 7 rfl rfl)
theorem dX0_margin_8 : decode cX0_margin 8 = .ok (.lastore, 1) := dk_80 (dk_at dksX0_margin_0 8 rfl rfl)
theorem dX0_margin_9 : decode cX0_margin 9 = .ok (.goto 6, 3) := dk_167 0 6 (dk_at dksX0_margin_0 9 rfl rfl)
theorem dX0_margin_12 : decode cX0_margin 12 = .ok (.astore_n 3, 1) := dk_78 (dk_at dksX0_margin_0 12 rfl rfl)
theorem dX0_margin_13 : decode cX0_margin 13 = .ok (.iconst 1, 1) := dk_4 (dk_at dksX0_margin_0 13 rfl rfl)
theorem dX0_margin_14 : decode cX0_margin 14 = .ok (.ireturn, 1) := dk_172 (dk_at dksX0_margin_0 14 rfl rfl)
theorem dX0_margin_15 : decode cX0_margin 15 = .ok (.iconst 0, 1) := dk_3 (dk_at dksX0_margin_0 15 rfl rfl)
theorem dX0_margin_16 : decode cX0_margin 16 = .ok (.ireturn, 1) := dk_172 (dk_at dksX0_margin_0 16 rfl rfl)
abbrev cX0_revenueWith : ByteArray := method_33_code
def yX0_revenueWith : MethodName := ⟨RX0, "revenueWith", "(LTollLeader;II[J)I"⟩
def dkwX0_revenueWith_0 : List UInt8 := [45, 3, 42, 27, 28, 182, 0, 110, 80, 167, 0, 11, 58, 4, 4, 172, 58, 4, 5, 172, 3, 172]
abbrev dktX0_revenueWith_0 : List UInt8 := dkwX0_revenueWith_0 ++ []
theorem dksX0_revenueWith_0 : cX0_revenueWith.data.toList.drop 0 = dktX0_revenueWith_0 := by decide +kernel
theorem dX0_revenueWith_0 : decode cX0_revenueWith 0 = .ok (.aload_n 3, 1) := dk_45 (dk_at dksX0_revenueWith_0 0 rfl rfl)
theorem dX0_revenueWith_1 : decode cX0_revenueWith 1 = .ok (.iconst 0, 1) := dk_3 (dk_at dksX0_revenueWith_0 1 rfl rfl)
theorem dX0_revenueWith_2 : decode cX0_revenueWith 2 = .ok (.aload_n 0, 1) := dk_42 (dk_at dksX0_revenueWith_0 2 rfl rfl)
theorem dX0_revenueWith_3 : decode cX0_revenueWith 3 = .ok (.iload_n 1, 1) := dk_27 (dk_at dksX0_revenueWith_0 3 rfl rfl)
theorem dX0_revenueWith_4 : decode cX0_revenueWith 4 = .ok (.iload_n 2, 1) := dk_28 (dk_at dksX0_revenueWith_0 4 rfl rfl)
theorem dX0_revenueWith_5 : decode cX0_revenueWith 5 = .ok (.invokevirtual 110, 3) := dk_182 0 110 (dk_at dksX0_revenueWith_0 5 rfl rfl)
theorem dX0_revenueWith_8 : decode cX0_revenueWith 8 = .ok (.lastore, 1) := dk_80 (dk_at dksX0_revenueWith_0 8 rfl rfl)
theorem dX0_revenueWith_9 : decode cX0_revenueWith 9 = .ok (.goto 11, 3) := dk_167 0 11 (dk_at dksX0_revenueWith_0 9 rfl rfl)
theorem dX0_revenueWith_12 : decode cX0_revenueWith 12 = .ok (.astore 4, 2) := dk_58 4 (dk_at dksX0_revenueWith_0 12 rfl rfl)
theorem dX0_revenueWith_14 : decode cX0_revenueWith 14 = .ok (.iconst 1, 1) := dk_4 (dk_at dksX0_revenueWith_0 14 rfl rfl)
theorem dX0_revenueWith_15 : decode cX0_revenueWith 15 = .ok (.ireturn, 1) := dk_172 (dk_at dksX0_revenueWith_0 15 rfl rfl)
theorem dX0_revenueWith_16 : decode cX0_revenueWith 16 = .ok (.astore 4, 2) := dk_58 4 (dk_at dksX0_revenueWith_0 16 rfl rfl)
theorem dX0_revenueWith_18 : decode cX0_revenueWith 18 = .ok (.iconst 2, 1) := dk_5 (dk_at dksX0_revenueWith_0 18 rfl rfl)
theorem dX0_revenueWith_19 : decode cX0_revenueWith 19 = .ok (.ireturn, 1) := dk_172 (dk_at dksX0_revenueWith_0 19 rfl rfl)
theorem dX0_revenueWith_20 : decode cX0_revenueWith 20 = .ok (.iconst 0, 1) := dk_3 (dk_at dksX0_revenueWith_0 20 rfl rfl)
theorem dX0_revenueWith_21 : decode cX0_revenueWith 21 = .ok (.ireturn, 1) := dk_172 (dk_at dksX0_revenueWith_0 21 rfl rfl)
abbrev cX0_stepCount : ByteArray := method_34_code
def yX0_stepCount : MethodName := ⟨RX0, "stepCount", "(LTollLeader;I[J)I"⟩
def dkwX0_stepCount_0 : List UInt8 := [44, 3, 42, 27, 182, 0, 114, 133, 80, 167, 0, 6, 78, 4, 172, 3, 172]
abbrev dktX0_stepCount_0 : List UInt8 := dkwX0_stepCount_0 ++ []
theorem dksX0_stepCount_0 : cX0_stepCount.data.toList.drop 0 = dktX0_stepCount_0 := by decide +kernel
theorem dX0_stepCount_0 : decode cX0_stepCount 0 = .ok (.aload_n 2, 1) := dk_44 (dk_at dksX0_stepCount_0 0 rfl rfl)
theorem dX0_stepCount_1 : decode cX0_stepCount 1 = .ok (.iconst 0, 1) := dk_3 (dk_at dksX0_stepCount_0 1 rfl rfl)
theorem dX0_stepCount_2 : decode cX0_stepCount 2 = .ok (.aload_n 0, 1) := dk_42 (dk_at dksX0_stepCount_0 2 rfl rfl)
theorem dX0_stepCount_3 : decode cX0_stepCount 3 = .ok (.iload_n 1, 1) := dk_27 (dk_at dksX0_stepCount_0 3 rfl rfl)
theorem dX0_stepCount_4 : decode cX0_stepCount 4 = .ok (.invokevirtual 114, 3) := dk_182 0 114 (dk_at dksX0_stepCount_0 4 rfl rfl)
theorem dX0_stepCount_7 : decode cX0_stepCount 7 = .ok (.i2l, 1) := dk_133 (dk_at dksX0_stepCount_0 7 rfl rfl)
theorem dX0_stepCount_8 : decode cX0_stepCount 8 = .ok (.lastore, 1) := dk_80 (dk_at dksX0_stepCount_0 8 rfl rfl)
theorem dX0_stepCount_9 : decode cX0_stepCount 9 = .ok (.goto 6, 3) := dk_167 0 6 (dk_at dksX0_stepCount_0 9 rfl rfl)
theorem dX0_stepCount_12 : decode cX0_stepCount 12 = .ok (.astore_n 3, 1) := dk_78 (dk_at dksX0_stepCount_0 12 rfl rfl)
theorem dX0_stepCount_13 : decode cX0_stepCount 13 = .ok (.iconst 1, 1) := dk_4 (dk_at dksX0_stepCount_0 13 rfl rfl)
theorem dX0_stepCount_14 : decode cX0_stepCount 14 = .ok (.ireturn, 1) := dk_172 (dk_at dksX0_stepCount_0 14 rfl rfl)
theorem dX0_stepCount_15 : decode cX0_stepCount 15 = .ok (.iconst 0, 1) := dk_3 (dk_at dksX0_stepCount_0 15 rfl rfl)
theorem dX0_stepCount_16 : decode cX0_stepCount 16 = .ok (.ireturn, 1) := dk_172 (dk_at dksX0_stepCount_0 16 rfl rfl)
abbrev cX0_step : ByteArray := method_35_code
def yX0_step : MethodName := ⟨RX0, "step", "(LTollLeader;II[J)I"⟩
def dkwX0_step_0 : List UInt8 := [45, 3, 42, 27, 28, 182, 0, 117, 133, 80, 167, 0, 7, 58, 4, 4, 172, 3, 172]
abbrev dktX0_step_0 : List UInt8 := dkwX0_step_0 ++ []
theorem dksX0_step_0 : cX0_step.data.toList.drop 0 = dktX0_step_0 := by decide +kernel
theorem dX0_step_0 : decode cX0_step 0 = .ok (.aload_n 3, 1) := dk_45 (dk_at dksX0_step_0 0 rfl rfl)
theorem dX0_step_1 : decode cX0_step 1 = .ok (.iconst 0, 1) := dk_3 (dk_at dksX0_step_0 1 rfl rfl)
theorem dX0_step_2 : decode cX0_step 2 = .ok (.aload_n 0, 1) := dk_42 (dk_at dksX0_step_0 2 rfl rfl)
theorem dX0_step_3 : decode cX0_step 3 = .ok (.iload_n 1, 1) := dk_27 (dk_at dksX0_step_0 3 rfl rfl)
theorem dX0_step_4 : decode cX0_step 4 = .ok (.iload_n 2, 1) := dk_28 (dk_at dksX0_step_0 4 rfl rfl)
theorem dX0_step_5 : decode cX0_step 5 = .ok (.invokevirtual 117, 3) := dk_182 0 117 (dk_at dksX0_step_0 5 rfl rfl)
theorem dX0_step_8 : decode cX0_step 8 = .ok (.i2l, 1) := dk_133 (dk_at dksX0_step_0 8 rfl rfl)
theorem dX0_step_9 : decode cX0_step 9 = .ok (.lastore, 1) := dk_80 (dk_at dksX0_step_0 9 rfl rfl)
theorem dX0_step_10 : decode cX0_step 10 = .ok (.goto 7, 3) := dk_167 0 7 (dk_at dksX0_step_0 10 rfl rfl)
theorem dX0_step_13 : decode cX0_step 13 = .ok (.astore 4, 2) := dk_58 4 (dk_at dksX0_step_0 13 rfl rfl)
theorem dX0_step_15 : decode cX0_step 15 = .ok (.iconst 1, 1) := dk_4 (dk_at dksX0_step_0 15 rfl rfl)
theorem dX0_step_16 : decode cX0_step 16 = .ok (.ireturn, 1) := dk_172 (dk_at dksX0_step_0 16 rfl rfl)
theorem dX0_step_17 : decode cX0_step 17 = .ok (.iconst 0, 1) := dk_3 (dk_at dksX0_step_0 17 rfl rfl)
theorem dX0_step_18 : decode cX0_step 18 = .ok (.ireturn, 1) := dk_172 (dk_at dksX0_step_0 18 rfl rfl)
abbrev cX0_scaleTolls : ByteArray := method_36_code
def yX0_scaleTolls : MethodName := ⟨RX0, "scaleTolls", "(LTollLeader;I[J)I"⟩
def dkwX0_scaleTolls_0 : List UInt8 := [44, 3, 42, 27, 182, 0, 120, 133, 80, 167, 0, 6, 78, 4, 172, 3, 172]
abbrev dktX0_scaleTolls_0 : List UInt8 := dkwX0_scaleTolls_0 ++ []
theorem dksX0_scaleTolls_0 : cX0_scaleTolls.data.toList.drop 0 = dktX0_scaleTolls_0 := by decide +kernel
theorem dX0_scaleTolls_0 : decode cX0_scaleTolls 0 = .ok (.aload_n 2, 1) := dk_44 (dk_at dksX0_scaleTolls_0 0 rfl rfl)
theorem dX0_scaleTolls_1 : decode cX0_scaleTolls 1 = .ok (.iconst 0, 1) := dk_3 (dk_at dksX0_scaleTolls_0 1 rfl rfl)
theorem dX0_scaleTolls_2 : decode cX0_scaleTolls 2 = .ok (.aload_n 0, 1) := dk_42 (dk_at dksX0_scaleTolls_0 2 rfl rfl)
theorem dX0_scaleTolls_3 : decode cX0_scaleTolls 3 = .ok (.iload_n 1, 1) := dk_27 (dk_at dksX0_scaleTolls_0 3 rfl rfl)
theorem dX0_scaleTolls_4 : decode cX0_scaleTolls 4 = .ok (.invokevirtual 120, 3) := dk_182 0 120 (dk_at dksX0_scaleTolls_0 4 rfl rfl)
theorem dX0_scaleTolls_7 : decode cX0_scaleTolls 7 = .ok (.i2l, 1) := dk_133 (dk_at dksX0_scaleTolls_0 7 rfl rfl)
theorem dX0_scaleTolls_8 : decode cX0_scaleTolls 8 = .ok (.lastore, 1) := dk_80 (dk_at dksX0_scaleTolls_0 8 rfl rfl)
theorem dX0_scaleTolls_9 : decode cX0_scaleTolls 9 = .ok (.goto 6, 3) := dk_167 0 6 (dk_at dksX0_scaleTolls_0 9 rfl rfl)
theorem dX0_scaleTolls_12 : decode cX0_scaleTolls 12 = .ok (.astore_n 3, 1) := dk_78 (dk_at dksX0_scaleTolls_0 12 rfl rfl)
theorem dX0_scaleTolls_13 : decode cX0_scaleTolls 13 = .ok (.iconst 1, 1) := dk_4 (dk_at dksX0_scaleTolls_0 13 rfl rfl)
theorem dX0_scaleTolls_14 : decode cX0_scaleTolls 14 = .ok (.ireturn, 1) := dk_172 (dk_at dksX0_scaleTolls_0 14 rfl rfl)
theorem dX0_scaleTolls_15 : decode cX0_scaleTolls 15 = .ok (.iconst 0, 1) := dk_3 (dk_at dksX0_scaleTolls_0 15 rfl rfl)
theorem dX0_scaleTolls_16 : decode cX0_scaleTolls 16 = .ok (.ireturn, 1) := dk_172 (dk_at dksX0_scaleTolls_0 16 rfl rfl)
abbrev cX0_swapTolls : ByteArray := method_37_code
def yX0_swapTolls : MethodName := ⟨RX0, "swapTolls", "(LTollLeader;II[J)I"⟩
def dkwX0_swapTolls_1 : List UInt8 := [3, 172]
abbrev dktX0_swapTolls_1 : List UInt8 := dkwX0_swapTolls_1 ++ []
def dkwX0_swapTolls_0 : List UInt8 := [45, 3, 42, 27, 28, 182, 0, 123, 153, 0, 7, 10, 167, 0, 4, 9, 80, 167, 0, 7, 58, 4, 4, 172]
abbrev dktX0_swapTolls_0 : List UInt8 := dkwX0_swapTolls_0 ++ dktX0_swapTolls_1
theorem dksX0_swapTolls_0 : cX0_swapTolls.data.toList.drop 0 = dktX0_swapTolls_0 := by decide +kernel
theorem dksX0_swapTolls_1 : cX0_swapTolls.data.toList.drop 24 = dktX0_swapTolls_1 := dk_seg dksX0_swapTolls_0 24 rfl rfl
theorem dX0_swapTolls_0 : decode cX0_swapTolls 0 = .ok (.aload_n 3, 1) := dk_45 (dk_at dksX0_swapTolls_0 0 rfl rfl)
theorem dX0_swapTolls_1 : decode cX0_swapTolls 1 = .ok (.iconst 0, 1) := dk_3 (dk_at dksX0_swapTolls_0 1 rfl rfl)
theorem dX0_swapTolls_2 : decode cX0_swapTolls 2 = .ok (.aload_n 0, 1) := dk_42 (dk_at dksX0_swapTolls_0 2 rfl rfl)
theorem dX0_swapTolls_3 : decode cX0_swapTolls 3 = .ok (.iload_n 1, 1) := dk_27 (dk_at dksX0_swapTolls_0 3 rfl rfl)
theorem dX0_swapTolls_4 : decode cX0_swapTolls 4 = .ok (.iload_n 2, 1) := dk_28 (dk_at dksX0_swapTolls_0 4 rfl rfl)
theorem dX0_swapTolls_5 : decode cX0_swapTolls 5 = .ok (.invokevirtual 123, 3) := dk_182 0 123 (dk_at dksX0_swapTolls_0 5 rfl rfl)
theorem dX0_swapTolls_8 : decode cX0_swapTolls 8 = .ok (.ifCond .eq 7, 3) := dk_153 0 7 (dk_at dksX0_swapTolls_0 8 rfl rfl)
theorem dX0_swapTolls_11 : decode cX0_swapTolls 11 = .ok (.lconst 1, 1) := dk_10 (dk_at dksX0_swapTolls_0 11 rfl rfl)
theorem dX0_swapTolls_12 : decode cX0_swapTolls 12 = .ok (.goto 4, 3) := dk_167 0 4 (dk_at dksX0_swapTolls_0 12 rfl rfl)
theorem dX0_swapTolls_15 : decode cX0_swapTolls 15 = .ok (.lconst 0, 1) := dk_9 (dk_at dksX0_swapTolls_0 15 rfl rfl)
theorem dX0_swapTolls_16 : decode cX0_swapTolls 16 = .ok (.lastore, 1) := dk_80 (dk_at dksX0_swapTolls_0 16 rfl rfl)
theorem dX0_swapTolls_17 : decode cX0_swapTolls 17 = .ok (.goto 7, 3) := dk_167 0 7 (dk_at dksX0_swapTolls_0 17 rfl rfl)
theorem dX0_swapTolls_20 : decode cX0_swapTolls 20 = .ok (.astore 4, 2) := dk_58 4 (dk_at dksX0_swapTolls_0 20 rfl rfl)
theorem dX0_swapTolls_22 : decode cX0_swapTolls 22 = .ok (.iconst 1, 1) := dk_4 (dk_at dksX0_swapTolls_0 22 rfl rfl)
theorem dX0_swapTolls_23 : decode cX0_swapTolls 23 = .ok (.ireturn, 1) := dk_172 (dk_at dksX0_swapTolls_0 23 rfl rfl)
theorem dX0_swapTolls_24 : decode cX0_swapTolls 24 = .ok (.iconst 0, 1) := dk_3 (dk_at dksX0_swapTolls_1 0 rfl rfl)
theorem dX0_swapTolls_25 : decode cX0_swapTolls 25 = .ok (.ireturn, 1) := dk_172 (dk_at dksX0_swapTolls_1 1 rfl rfl)
abbrev cX0_worth : ByteArray := method_38_code
def yX0_worth : MethodName := ⟨RX0, "worth", "(LTollLeader;I[J)I"⟩
def dkwX0_worth_0 : List UInt8 := [44, 3, 42, 27, 182, 0, 126, 80, 167, 0, 6, 78, 4, 172, 3, 172]
abbrev dktX0_worth_0 : List UInt8 := dkwX0_worth_0 ++ []
theorem dksX0_worth_0 : cX0_worth.data.toList.drop 0 = dktX0_worth_0 := by decide +kernel
theorem dX0_worth_0 : decode cX0_worth 0 = .ok (.aload_n 2, 1) := dk_44 (dk_at dksX0_worth_0 0 rfl rfl)
theorem dX0_worth_1 : decode cX0_worth 1 = .ok (.iconst 0, 1) := dk_3 (dk_at dksX0_worth_0 1 rfl rfl)
theorem dX0_worth_2 : decode cX0_worth 2 = .ok (.aload_n 0, 1) := dk_42 (dk_at dksX0_worth_0 2 rfl rfl)
theorem dX0_worth_3 : decode cX0_worth 3 = .ok (.iload_n 1, 1) := dk_27 (dk_at dksX0_worth_0 3 rfl rfl)
theorem dX0_worth_4 : decode cX0_worth 4 = .ok (.invokevirtual 126, 3) := dk_182 0 126 (dk_at dksX0_worth_0 4 rfl rfl)
theorem dX0_worth_7 : decode cX0_worth 7 = .ok (.lastore, 1) := dk_80 (dk_at dksX0_worth_0 7 rfl rfl)
theorem dX0_worth_8 : decode cX0_worth 8 = .ok (.goto 6, 3) := dk_167 0 6 (dk_at dksX0_worth_0 8 rfl rfl)
theorem dX0_worth_11 : decode cX0_worth 11 = .ok (.astore_n 3, 1) := dk_78 (dk_at dksX0_worth_0 11 rfl rfl)
theorem dX0_worth_12 : decode cX0_worth 12 = .ok (.iconst 1, 1) := dk_4 (dk_at dksX0_worth_0 12 rfl rfl)
theorem dX0_worth_13 : decode cX0_worth 13 = .ok (.ireturn, 1) := dk_172 (dk_at dksX0_worth_0 13 rfl rfl)
theorem dX0_worth_14 : decode cX0_worth 14 = .ok (.iconst 0, 1) := dk_3 (dk_at dksX0_worth_0 14 rfl rfl)
theorem dX0_worth_15 : decode cX0_worth 15 = .ok (.ireturn, 1) := dk_172 (dk_at dksX0_worth_0 15 rfl rfl)
abbrev cX0_writePath : ByteArray := method_39_code
def yX0_writePath : MethodName := ⟨RX0, "writePath", "(LTollLeader;I[J)I"⟩
def dkwX0_writePath_0 : List UInt8 := [44, 3, 42, 27, 182, 0, 129, 133, 80, 167, 0, 6, 78, 4, 172, 3, 172]
abbrev dktX0_writePath_0 : List UInt8 := dkwX0_writePath_0 ++ []
theorem dksX0_writePath_0 : cX0_writePath.data.toList.drop 0 = dktX0_writePath_0 := by decide +kernel
theorem dX0_writePath_0 : decode cX0_writePath 0 = .ok (.aload_n 2, 1) := dk_44 (dk_at dksX0_writePath_0 0 rfl rfl)
theorem dX0_writePath_1 : decode cX0_writePath 1 = .ok (.iconst 0, 1) := dk_3 (dk_at dksX0_writePath_0 1 rfl rfl)
theorem dX0_writePath_2 : decode cX0_writePath 2 = .ok (.aload_n 0, 1) := dk_42 (dk_at dksX0_writePath_0 2 rfl rfl)
theorem dX0_writePath_3 : decode cX0_writePath 3 = .ok (.iload_n 1, 1) := dk_27 (dk_at dksX0_writePath_0 3 rfl rfl)
theorem dX0_writePath_4 : decode cX0_writePath 4 = .ok (.invokevirtual 129, 3) := dk_182 0 129 (dk_at dksX0_writePath_0 4 rfl rfl)
theorem dX0_writePath_7 : decode cX0_writePath 7 = .ok (.i2l, 1) := dk_133 (dk_at dksX0_writePath_0 7 rfl rfl)
theorem dX0_writePath_8 : decode cX0_writePath 8 = .ok (.lastore, 1) := dk_80 (dk_at dksX0_writePath_0 8 rfl rfl)
theorem dX0_writePath_9 : decode cX0_writePath 9 = .ok (.goto 6, 3) := dk_167 0 6 (dk_at dksX0_writePath_0 9 rfl rfl)
theorem dX0_writePath_12 : decode cX0_writePath 12 = .ok (.astore_n 3, 1) := dk_78 (dk_at dksX0_writePath_0 12 rfl rfl)
theorem dX0_writePath_13 : decode cX0_writePath 13 = .ok (.iconst 1, 1) := dk_4 (dk_at dksX0_writePath_0 13 rfl rfl)
theorem dX0_writePath_14 : decode cX0_writePath 14 = .ok (.ireturn, 1) := dk_172 (dk_at dksX0_writePath_0 14 rfl rfl)
theorem dX0_writePath_15 : decode cX0_writePath 15 = .ok (.iconst 0, 1) := dk_3 (dk_at dksX0_writePath_0 15 rfl rfl)
theorem dX0_writePath_16 : decode cX0_writePath 16 = .ok (.ireturn, 1) := dk_172 (dk_at dksX0_writePath_0 16 rfl rfl)
abbrev cX0_saveSnapshot : ByteArray := method_40_code
def yX0_saveSnapshot : MethodName := ⟨RX0, "saveSnapshot", "(LTollLeader;I[J)I"⟩
def dkwX0_saveSnapshot_0 : List UInt8 := [44, 3, 42, 27, 182, 0, 132, 133, 80, 167, 0, 6, 78, 4, 172, 3, 172]
abbrev dktX0_saveSnapshot_0 : List UInt8 := dkwX0_saveSnapshot_0 ++ []
theorem dksX0_saveSnapshot_0 : cX0_saveSnapshot.data.toList.drop 0 = dktX0_saveSnapshot_0 := by decide +kernel
theorem dX0_saveSnapshot_0 : decode cX0_saveSnapshot 0 = .ok (.aload_n 2, 1) := dk_44 (dk_at dksX0_saveSnapshot_0 0 rfl rfl)
theorem dX0_saveSnapshot_1 : decode cX0_saveSnapshot 1 = .ok (.iconst 0, 1) := dk_3 (dk_at dksX0_saveSnapshot_0 1 rfl rfl)
theorem dX0_saveSnapshot_2 : decode cX0_saveSnapshot 2 = .ok (.aload_n 0, 1) := dk_42 (dk_at dksX0_saveSnapshot_0 2 rfl rfl)
theorem dX0_saveSnapshot_3 : decode cX0_saveSnapshot 3 = .ok (.iload_n 1, 1) := dk_27 (dk_at dksX0_saveSnapshot_0 3 rfl rfl)
theorem dX0_saveSnapshot_4 : decode cX0_saveSnapshot 4 = .ok (.invokevirtual 132, 3) := dk_182 0 132 (dk_at dksX0_saveSnapshot_0 4 rfl rfl)
theorem dX0_saveSnapshot_7 : decode cX0_saveSnapshot 7 = .ok (.i2l, 1) := dk_133 (dk_at dksX0_saveSnapshot_0 7 rfl rfl)
theorem dX0_saveSnapshot_8 : decode cX0_saveSnapshot 8 = .ok (.lastore, 1) := dk_80 (dk_at dksX0_saveSnapshot_0 8 rfl rfl)
theorem dX0_saveSnapshot_9 : decode cX0_saveSnapshot 9 = .ok (.goto 6, 3) := dk_167 0 6 (dk_at dksX0_saveSnapshot_0 9 rfl rfl)
theorem dX0_saveSnapshot_12 : decode cX0_saveSnapshot 12 = .ok (.astore_n 3, 1) := dk_78 (dk_at dksX0_saveSnapshot_0 12 rfl rfl)
theorem dX0_saveSnapshot_13 : decode cX0_saveSnapshot 13 = .ok (.iconst 1, 1) := dk_4 (dk_at dksX0_saveSnapshot_0 13 rfl rfl)
theorem dX0_saveSnapshot_14 : decode cX0_saveSnapshot 14 = .ok (.ireturn, 1) := dk_172 (dk_at dksX0_saveSnapshot_0 14 rfl rfl)
theorem dX0_saveSnapshot_15 : decode cX0_saveSnapshot 15 = .ok (.iconst 0, 1) := dk_3 (dk_at dksX0_saveSnapshot_0 15 rfl rfl)
theorem dX0_saveSnapshot_16 : decode cX0_saveSnapshot 16 = .ok (.ireturn, 1) := dk_172 (dk_at dksX0_saveSnapshot_0 16 rfl rfl)
abbrev cX0_restoreSnapshot : ByteArray := method_41_code
def yX0_restoreSnapshot : MethodName := ⟨RX0, "restoreSnapshot", "(LTollLeader;I[J)I"⟩
def dkwX0_restoreSnapshot_0 : List UInt8 := [44, 3, 42, 27, 182, 0, 135, 133, 80, 167, 0, 6, 78, 4, 172, 3, 172]
abbrev dktX0_restoreSnapshot_0 : List UInt8 := dkwX0_restoreSnapshot_0 ++ []
theorem dksX0_restoreSnapshot_0 : cX0_restoreSnapshot.data.toList.drop 0 = dktX0_restoreSnapshot_0 := by decide +kernel
theorem dX0_restoreSnapshot_0 : decode cX0_restoreSnapshot 0 = .ok (.aload_n 2, 1) := dk_44 (dk_at dksX0_restoreSnapshot_0 0 rfl rfl)
theorem dX0_restoreSnapshot_1 : decode cX0_restoreSnapshot 1 = .ok (.iconst 0, 1) := dk_3 (dk_at dksX0_restoreSnapshot_0 1 rfl rfl)
theorem dX0_restoreSnapshot_2 : decode cX0_restoreSnapshot 2 = .ok (.aload_n 0, 1) := dk_42 (dk_at dksX0_restoreSnapshot_0 2 rfl rfl)
theorem dX0_restoreSnapshot_3 : decode cX0_restoreSnapshot 3 = .ok (.iload_n 1, 1) := dk_27 (dk_at dksX0_restoreSnapshot_0 3 rfl rfl)
theorem dX0_restoreSnapshot_4 : decode cX0_restoreSnapshot 4 = .ok (.invokevirtual 135, 3) := dk_182 0 135 (dk_at dksX0_restoreSnapshot_0 4 rfl rfl)
theorem dX0_restoreSnapshot_7 : decode cX0_restoreSnapshot 7 = .ok (.i2l, 1) := dk_133 (dk_at dksX0_restoreSnapshot_0 7 rfl rfl)
theorem dX0_restoreSnapshot_8 : decode cX0_restoreSnapshot 8 = .ok (.lastore, 1) := dk_80 (dk_at dksX0_restoreSnapshot_0 8 rfl rfl)
theorem dX0_restoreSnapshot_9 : decode cX0_restoreSnapshot 9 = .ok (.goto 6, 3) := dk_167 0 6 (dk_at dksX0_restoreSnapshot_0 9 rfl rfl)
theorem dX0_restoreSnapshot_12 : decode cX0_restoreSnapshot 12 = .ok (.astore_n 3, 1) := dk_78 (dk_at dksX0_restoreSnapshot_0 12 rfl rfl)
theorem dX0_restoreSnapshot_13 : decode cX0_restoreSnapshot 13 = .ok (.iconst 1, 1) := dk_4 (dk_at dksX0_restoreSnapshot_0 13 rfl rfl)
theorem dX0_restoreSnapshot_14 : decode cX0_restoreSnapshot 14 = .ok (.ireturn, 1) := dk_172 (dk_at dksX0_restoreSnapshot_0 14 rfl rfl)
theorem dX0_restoreSnapshot_15 : decode cX0_restoreSnapshot 15 = .ok (.iconst 0, 1) := dk_3 (dk_at dksX0_restoreSnapshot_0 15 rfl rfl)
theorem dX0_restoreSnapshot_16 : decode cX0_restoreSnapshot 16 = .ok (.ireturn, 1) := dk_172 (dk_at dksX0_restoreSnapshot_0 16 rfl rfl)
theorem q111 : (Jvm.Cond.initialized "TollLeaderLaw") ∈ lw_all := lw_g (lw_at lw_m1 0 rfl) rfl
theorem q162 : (Jvm.Cond.classLink "TollLeaderLaw" (8 : Nat) "TollLeader") ∈ lw_all := lw_g (lw_at lw_m1 51 rfl) rfl
theorem q164 : (Jvm.Cond.methodLink "TollLeaderLaw" (138 : Nat) ({ cls := "TollLeader", name := "<init>", desc := "()V" } : Jvm.MethodName)) ∈ lw_all := lw_g (lw_at lw_m1 53 rfl) rfl
theorem q693 : (Jvm.Cond.methodLink "TollLeaderLaw" (144 : Nat) ({ cls := "TollLeader", name := "append", desc := "(J)I" } : Jvm.MethodName)) ∈ lw_all := lw_g (lw_at lw_m3 102 rfl) rfl
theorem q698 : (Jvm.Cond.methodLink "TollLeaderLaw" (149 : Nat) ({ cls := "TollLeader", name := "load", desc := "()I" } : Jvm.MethodName)) ∈ lw_all := lw_g (lw_at lw_m3 107 rfl) rfl
theorem q1077 : (Jvm.Cond.methodLink "TollLeaderLaw" (154 : Nat) ({ cls := "TollLeader", name := "loadError", desc := "()I" } : Jvm.MethodName)) ∈ lw_all := lw_g (lw_at lw_m5 6 rfl) rfl
theorem q1081 : (Jvm.Cond.methodLink "TollLeaderLaw" (158 : Nat) ({ cls := "TollLeader", name := "loadStatement", desc := "()I" } : Jvm.MethodName)) ∈ lw_all := lw_g (lw_at lw_m5 10 rfl) rfl
theorem q1085 : (Jvm.Cond.methodLink "TollLeaderLaw" (184 : Nat) ({ cls := "TollLeader", name := "clearTolls", desc := "()I" } : Jvm.MethodName)) ∈ lw_all := lw_g (lw_at lw_m5 14 rfl) rfl
theorem q1157 : (Jvm.Cond.methodLink "TollLeaderLaw" (195 : Nat) ({ cls := "TollLeader", name := "setTies", desc := "(Z)Z" } : Jvm.MethodName)) ∈ lw_all := lw_g (lw_at lw_m5 86 rfl) rfl
theorem q1161 : (Jvm.Cond.methodLink "TollLeaderLaw" (200 : Nat) ({ cls := "TollLeader", name := "tiesForLeader", desc := "()Z" } : Jvm.MethodName)) ∈ lw_all := lw_g (lw_at lw_m5 90 rfl) rfl
theorem q1165 : (Jvm.Cond.methodLink "TollLeaderLaw" (205 : Nat) ({ cls := "TollLeader", name := "undo", desc := "()I" } : Jvm.MethodName)) ∈ lw_all := lw_g (lw_at lw_m5 94 rfl) rfl
theorem q1184 : (Jvm.Cond.methodLink "TollLeaderLaw" (209 : Nat) ({ cls := "TollLeader", name := "undoCount", desc := "()I" } : Jvm.MethodName)) ∈ lw_all := lw_g (lw_at lw_m5 113 rfl) rfl
theorem q1188 : (Jvm.Cond.methodLink "TollLeaderLaw" (240 : Nat) ({ cls := "TollLeader", name := "busiest", desc := "()I" } : Jvm.MethodName)) ∈ lw_all := lw_g (lw_at lw_m5 117 rfl) rfl
theorem q1409 : (Jvm.Cond.methodLink "TollLeaderLaw" (244 : Nat) ({ cls := "TollLeader", name := "unused", desc := "()I" } : Jvm.MethodName)) ∈ lw_all := lw_g (lw_at lw_m6 98 rfl) rfl
theorem q1723 : (Jvm.Cond.methodLink "TollLeaderLaw" (254 : Nat) ({ cls := "TollLeader", name := "revenue", desc := "()J" } : Jvm.MethodName)) ∈ lw_all := lw_g (lw_at lw_m7 172 rfl) rfl
theorem q1739 : (Jvm.Cond.methodLink "TollLeaderLaw" (268 : Nat) ({ cls := "TollLeader", name := "bound", desc := "()J" } : Jvm.MethodName)) ∈ lw_all := lw_g (lw_at lw_m7 188 rfl) rfl
theorem q1760 : (Jvm.Cond.methodLink "TollLeaderLaw" (278 : Nat) ({ cls := "TollLeader", name := "improve", desc := "()I" } : Jvm.MethodName)) ∈ lw_all := lw_g (lw_at lw_m7 209 rfl) rfl
theorem q1811 : (Jvm.Cond.methodLink "TollLeaderLaw" (313 : Nat) ({ cls := "TollLeader", name := "burden", desc := "()J" } : Jvm.MethodName)) ∈ lw_all := lw_g (lw_at lw_m8 20 rfl) rfl
theorem q1815 : (Jvm.Cond.methodLink "TollLeaderLaw" (317 : Nat) ({ cls := "TollLeader", name := "dearest", desc := "()I" } : Jvm.MethodName)) ∈ lw_all := lw_g (lw_at lw_m8 24 rfl) rfl
theorem q1819 : (Jvm.Cond.methodLink "TollLeaderLaw" (327 : Nat) ({ cls := "TollLeader", name := "improvable", desc := "()I" } : Jvm.MethodName)) ∈ lw_all := lw_g (lw_at lw_m8 28 rfl) rfl
theorem q1823 : (Jvm.Cond.methodLink "TollLeaderLaw" (337 : Nat) ({ cls := "TollLeader", name := "writeTolls", desc := "()I" } : Jvm.MethodName)) ∈ lw_all := lw_g (lw_at lw_m8 32 rfl) rfl
theorem q1896 : (Jvm.Cond.methodLink "TollLeaderLaw" (341 : Nat) ({ cls := "TollLeader", name := "outputByte", desc := "(I)I" } : Jvm.MethodName)) ∈ lw_all := lw_g (lw_at lw_m8 105 rfl) rfl
theorem q1911 : (Jvm.Cond.methodLink "TollLeaderLaw" (162 : Nat) ({ cls := "TollLeaderLaw", name := "count", desc := "(LTollLeader;I[J)I" } : Jvm.MethodName)) ∈ lw_all := lw_g (lw_at lw_m8 120 rfl) rfl
theorem q1912 : (Jvm.Cond.static ({ cls := "TollLeaderLaw", name := "count", desc := "(LTollLeader;I[J)I" } : Jvm.MethodName)) ∈ lw_all := lw_g (lw_at lw_m8 121 rfl) rfl
theorem q1913 : (Jvm.Cond.codeWith ({ cls := "TollLeaderLaw", name := "count", desc := "(LTollLeader;I[J)I" } : Jvm.MethodName) method_3_code (4 : Nat) (Option.some Jvm.ClassFile.FieldType.int) [((0 : Nat), (9 : Nat), (12 : Nat), (13 : Nat))]) ∈ lw_all := lw_g (lw_at lw_m8 122 rfl) rfl
theorem q1914 : (Jvm.Cond.classLink "TollLeaderLaw" (13 : Nat) "java/lang/IllegalArgumentException") ∈ lw_all := lw_g (lw_at lw_m8 123 rfl) rfl
theorem q1915 : (Jvm.Cond.methodLink "TollLeaderLaw" (7 : Nat) ({ cls := "TollLeader", name := "count", desc := "(I)I" } : Jvm.MethodName)) ∈ lw_all := lw_g (lw_at lw_m8 124 rfl) rfl
theorem q1938 : (Jvm.Cond.methodLink "TollLeaderLaw" (171 : Nat) ({ cls := "TollLeaderLaw", name := "arcValue", desc := "(LTollLeader;II[J)I" } : Jvm.MethodName)) ∈ lw_all := lw_g (lw_at lw_m8 147 rfl) rfl
theorem q1939 : (Jvm.Cond.static ({ cls := "TollLeaderLaw", name := "arcValue", desc := "(LTollLeader;II[J)I" } : Jvm.MethodName)) ∈ lw_all := lw_g (lw_at lw_m8 148 rfl) rfl
theorem q1940 : (Jvm.Cond.codeWith ({ cls := "TollLeaderLaw", name := "arcValue", desc := "(LTollLeader;II[J)I" } : Jvm.MethodName) method_4_code (5 : Nat) (Option.some Jvm.ClassFile.FieldType.int) [((0 : Nat), (10 : Nat), (13 : Nat), (19 : Nat)), ((0 : Nat), (10 : Nat), (17 : Nat), (13 : Nat))]) ∈ lw_all := lw_g (lw_at lw_m8 149 rfl) rfl
theorem q1941 : (Jvm.Cond.classLink "TollLeaderLaw" (19 : Nat) "java/lang/IndexOutOfBoundsException") ∈ lw_all := lw_g (lw_at lw_m8 150 rfl) rfl
theorem q1944 : (Jvm.Cond.methodLink "TollLeaderLaw" (15 : Nat) ({ cls := "TollLeader", name := "arcValue", desc := "(II)I" } : Jvm.MethodName)) ∈ lw_all := lw_g (lw_at lw_m8 153 rfl) rfl
theorem q1968 : (Jvm.Cond.methodLink "TollLeaderLaw" (175 : Nat) ({ cls := "TollLeaderLaw", name := "tripValue", desc := "(LTollLeader;II[J)I" } : Jvm.MethodName)) ∈ lw_all := lw_g (lw_at lw_m8 177 rfl) rfl
theorem q1969 : (Jvm.Cond.static ({ cls := "TollLeaderLaw", name := "tripValue", desc := "(LTollLeader;II[J)I" } : Jvm.MethodName)) ∈ lw_all := lw_g (lw_at lw_m8 178 rfl) rfl
theorem q1970 : (Jvm.Cond.codeWith ({ cls := "TollLeaderLaw", name := "tripValue", desc := "(LTollLeader;II[J)I" } : Jvm.MethodName) method_5_code (5 : Nat) (Option.some Jvm.ClassFile.FieldType.int) [((0 : Nat), (10 : Nat), (13 : Nat), (19 : Nat)), ((0 : Nat), (10 : Nat), (17 : Nat), (13 : Nat))]) ∈ lw_all := lw_g (lw_at lw_m8 179 rfl) rfl
theorem q1971 : (Jvm.Cond.methodLink "TollLeaderLaw" (21 : Nat) ({ cls := "TollLeader", name := "tripValue", desc := "(II)I" } : Jvm.MethodName)) ∈ lw_all := lw_g (lw_at lw_m8 180 rfl) rfl
theorem q1986 : (Jvm.Cond.methodLink "TollLeaderLaw" (178 : Nat) ({ cls := "TollLeaderLaw", name := "setToll", desc := "(LTollLeader;II[J)I" } : Jvm.MethodName)) ∈ lw_all := lw_g (lw_at lw_m8 195 rfl) rfl
theorem q1987 : (Jvm.Cond.static ({ cls := "TollLeaderLaw", name := "setToll", desc := "(LTollLeader;II[J)I" } : Jvm.MethodName)) ∈ lw_all := lw_g (lw_at lw_m8 196 rfl) rfl
theorem q1988 : (Jvm.Cond.codeWith ({ cls := "TollLeaderLaw", name := "setToll", desc := "(LTollLeader;II[J)I" } : Jvm.MethodName) method_6_code (5 : Nat) (Option.some Jvm.ClassFile.FieldType.int) [((0 : Nat), (10 : Nat), (13 : Nat), (19 : Nat)), ((0 : Nat), (10 : Nat), (17 : Nat), (13 : Nat))]) ∈ lw_all := lw_g (lw_at lw_m8 197 rfl) rfl
theorem q1989 : (Jvm.Cond.methodLink "TollLeaderLaw" (24 : Nat) ({ cls := "TollLeader", name := "setToll", desc := "(II)I" } : Jvm.MethodName)) ∈ lw_all := lw_g (lw_at lw_m8 198 rfl) rfl
theorem q1996 : (Jvm.Cond.methodLink "TollLeaderLaw" (181 : Nat) ({ cls := "TollLeaderLaw", name := "addTolls", desc := "(LTollLeader;I[J)I" } : Jvm.MethodName)) ∈ lw_all := lw_g (lw_at lw_m8 205 rfl) rfl
theorem q1997 : (Jvm.Cond.static ({ cls := "TollLeaderLaw", name := "addTolls", desc := "(LTollLeader;I[J)I" } : Jvm.MethodName)) ∈ lw_all := lw_g (lw_at lw_m8 206 rfl) rfl
theorem q1998 : (Jvm.Cond.codeWith ({ cls := "TollLeaderLaw", name := "addTolls", desc := "(LTollLeader;I[J)I" } : Jvm.MethodName) method_7_code (4 : Nat) (Option.some Jvm.ClassFile.FieldType.int) [((0 : Nat), (9 : Nat), (12 : Nat), (13 : Nat))]) ∈ lw_all := lw_g (lw_at lw_m8 207 rfl) rfl
theorem q1999 : (Jvm.Cond.methodLink "TollLeaderLaw" (27 : Nat) ({ cls := "TollLeader", name := "addTolls", desc := "(I)I" } : Jvm.MethodName)) ∈ lw_all := lw_g (lw_at lw_m8 208 rfl) rfl
theorem q2006 : (Jvm.Cond.methodLink "TollLeaderLaw" (188 : Nat) ({ cls := "TollLeaderLaw", name := "setDemand", desc := "(LTollLeader;II[J)I" } : Jvm.MethodName)) ∈ lw_all := lw_g (lw_at lw_m8 215 rfl) rfl
theorem q2007 : (Jvm.Cond.static ({ cls := "TollLeaderLaw", name := "setDemand", desc := "(LTollLeader;II[J)I" } : Jvm.MethodName)) ∈ lw_all := lw_g (lw_at lw_m8 216 rfl) rfl
theorem q2008 : (Jvm.Cond.codeWith ({ cls := "TollLeaderLaw", name := "setDemand", desc := "(LTollLeader;II[J)I" } : Jvm.MethodName) method_8_code (5 : Nat) (Option.some Jvm.ClassFile.FieldType.int) [((0 : Nat), (10 : Nat), (13 : Nat), (19 : Nat)), ((0 : Nat), (10 : Nat), (17 : Nat), (13 : Nat))]) ∈ lw_all := lw_g (lw_at lw_m8 217 rfl) rfl
theorem q2009 : (Jvm.Cond.methodLink "TollLeaderLaw" (30 : Nat) ({ cls := "TollLeader", name := "setDemand", desc := "(II)I" } : Jvm.MethodName)) ∈ lw_all := lw_g (lw_at lw_m8 218 rfl) rfl
theorem q2014 : (Jvm.Cond.methodLink "TollLeaderLaw" (191 : Nat) ({ cls := "TollLeaderLaw", name := "close", desc := "(LTollLeader;IZ[J)I" } : Jvm.MethodName)) ∈ lw_all := lw_g (lw_at lw_m8 223 rfl) rfl
theorem q2015 : (Jvm.Cond.static ({ cls := "TollLeaderLaw", name := "close", desc := "(LTollLeader;IZ[J)I" } : Jvm.MethodName)) ∈ lw_all := lw_g (lw_at lw_m8 224 rfl) rfl
theorem q2016 : (Jvm.Cond.codeWith ({ cls := "TollLeaderLaw", name := "close", desc := "(LTollLeader;IZ[J)I" } : Jvm.MethodName) method_9_code (5 : Nat) (Option.some Jvm.ClassFile.FieldType.int) [((0 : Nat), (17 : Nat), (20 : Nat), (19 : Nat))]) ∈ lw_all := lw_g (lw_at lw_m8 225 rfl) rfl
theorem q2017 : (Jvm.Cond.methodLink "TollLeaderLaw" (33 : Nat) ({ cls := "TollLeader", name := "close", desc := "(IZ)Z" } : Jvm.MethodName)) ∈ lw_all := lw_g (lw_at lw_m8 226 rfl) rfl
theorem q2031 : (Jvm.Cond.methodLink "TollLeaderLaw" (213 : Nat) ({ cls := "TollLeaderLaw", name := "hasPath", desc := "(LTollLeader;I[J)I" } : Jvm.MethodName)) ∈ lw_all := lw_g (lw_at lw_m9 0 rfl) rfl
theorem q2032 : (Jvm.Cond.static ({ cls := "TollLeaderLaw", name := "hasPath", desc := "(LTollLeader;I[J)I" } : Jvm.MethodName)) ∈ lw_all := lw_g (lw_at lw_m9 1 rfl) rfl
theorem q2033 : (Jvm.Cond.codeWith ({ cls := "TollLeaderLaw", name := "hasPath", desc := "(LTollLeader;I[J)I" } : Jvm.MethodName) method_10_code (4 : Nat) (Option.some Jvm.ClassFile.FieldType.int) [((0 : Nat), (16 : Nat), (19 : Nat), (19 : Nat))]) ∈ lw_all := lw_g (lw_at lw_m9 2 rfl) rfl
theorem q2034 : (Jvm.Cond.methodLink "TollLeaderLaw" (37 : Nat) ({ cls := "TollLeader", name := "hasPath", desc := "(I)Z" } : Jvm.MethodName)) ∈ lw_all := lw_g (lw_at lw_m9 3 rfl) rfl
theorem q2038 : (Jvm.Cond.methodLink "TollLeaderLaw" (216 : Nat) ({ cls := "TollLeaderLaw", name := "pathLength", desc := "(LTollLeader;I[J)I" } : Jvm.MethodName)) ∈ lw_all := lw_g (lw_at lw_m9 7 rfl) rfl
theorem q2039 : (Jvm.Cond.static ({ cls := "TollLeaderLaw", name := "pathLength", desc := "(LTollLeader;I[J)I" } : Jvm.MethodName)) ∈ lw_all := lw_g (lw_at lw_m9 8 rfl) rfl
theorem q2040 : (Jvm.Cond.codeWith ({ cls := "TollLeaderLaw", name := "pathLength", desc := "(LTollLeader;I[J)I" } : Jvm.MethodName) method_11_code (4 : Nat) (Option.some Jvm.ClassFile.FieldType.int) [((0 : Nat), (9 : Nat), (12 : Nat), (19 : Nat))]) ∈ lw_all := lw_g (lw_at lw_m9 9 rfl) rfl
theorem q2041 : (Jvm.Cond.methodLink "TollLeaderLaw" (41 : Nat) ({ cls := "TollLeader", name := "pathLength", desc := "(I)I" } : Jvm.MethodName)) ∈ lw_all := lw_g (lw_at lw_m9 10 rfl) rfl
theorem q2078 : (Jvm.Cond.methodLink "TollLeaderLaw" (219 : Nat) ({ cls := "TollLeaderLaw", name := "pathArc", desc := "(LTollLeader;II[J)I" } : Jvm.MethodName)) ∈ lw_all := lw_g (lw_at lw_m9 47 rfl) rfl
theorem q2079 : (Jvm.Cond.static ({ cls := "TollLeaderLaw", name := "pathArc", desc := "(LTollLeader;II[J)I" } : Jvm.MethodName)) ∈ lw_all := lw_g (lw_at lw_m9 48 rfl) rfl
theorem q2080 : (Jvm.Cond.codeWith ({ cls := "TollLeaderLaw", name := "pathArc", desc := "(LTollLeader;II[J)I" } : Jvm.MethodName) method_12_code (5 : Nat) (Option.some Jvm.ClassFile.FieldType.int) [((0 : Nat), (10 : Nat), (13 : Nat), (19 : Nat))]) ∈ lw_all := lw_g (lw_at lw_m9 49 rfl) rfl
theorem q2081 : (Jvm.Cond.methodLink "TollLeaderLaw" (44 : Nat) ({ cls := "TollLeader", name := "pathArc", desc := "(II)I" } : Jvm.MethodName)) ∈ lw_all := lw_g (lw_at lw_m9 50 rfl) rfl
theorem q2086 : (Jvm.Cond.methodLink "TollLeaderLaw" (222 : Nat) ({ cls := "TollLeaderLaw", name := "pathCost", desc := "(LTollLeader;I[J)I" } : Jvm.MethodName)) ∈ lw_all := lw_g (lw_at lw_m9 55 rfl) rfl
theorem q2087 : (Jvm.Cond.static ({ cls := "TollLeaderLaw", name := "pathCost", desc := "(LTollLeader;I[J)I" } : Jvm.MethodName)) ∈ lw_all := lw_g (lw_at lw_m9 56 rfl) rfl
theorem q2088 : (Jvm.Cond.codeWith ({ cls := "TollLeaderLaw", name := "pathCost", desc := "(LTollLeader;I[J)I" } : Jvm.MethodName) method_13_code (4 : Nat) (Option.some Jvm.ClassFile.FieldType.int) [((0 : Nat), (9 : Nat), (12 : Nat), (19 : Nat))]) ∈ lw_all := lw_g (lw_at lw_m9 57 rfl) rfl
theorem q2089 : (Jvm.Cond.methodLink "TollLeaderLaw" (47 : Nat) ({ cls := "TollLeader", name := "pathCost", desc := "(I)I" } : Jvm.MethodName)) ∈ lw_all := lw_g (lw_at lw_m9 58 rfl) rfl
theorem q2098 : (Jvm.Cond.methodLink "TollLeaderLaw" (225 : Nat) ({ cls := "TollLeaderLaw", name := "pathToll", desc := "(LTollLeader;I[J)I" } : Jvm.MethodName)) ∈ lw_all := lw_g (lw_at lw_m9 67 rfl) rfl
theorem q2099 : (Jvm.Cond.static ({ cls := "TollLeaderLaw", name := "pathToll", desc := "(LTollLeader;I[J)I" } : Jvm.MethodName)) ∈ lw_all := lw_g (lw_at lw_m9 68 rfl) rfl
theorem q2100 : (Jvm.Cond.codeWith ({ cls := "TollLeaderLaw", name := "pathToll", desc := "(LTollLeader;I[J)I" } : Jvm.MethodName) method_14_code (4 : Nat) (Option.some Jvm.ClassFile.FieldType.int) [((0 : Nat), (9 : Nat), (12 : Nat), (19 : Nat))]) ∈ lw_all := lw_g (lw_at lw_m9 69 rfl) rfl
theorem q2101 : (Jvm.Cond.methodLink "TollLeaderLaw" (50 : Nat) ({ cls := "TollLeader", name := "pathToll", desc := "(I)I" } : Jvm.MethodName)) ∈ lw_all := lw_g (lw_at lw_m9 70 rfl) rfl
theorem q2105 : (Jvm.Cond.methodLink "TollLeaderLaw" (228 : Nat) ({ cls := "TollLeaderLaw", name := "felt", desc := "(LTollLeader;I[J)I" } : Jvm.MethodName)) ∈ lw_all := lw_g (lw_at lw_m9 74 rfl) rfl
theorem q2106 : (Jvm.Cond.static ({ cls := "TollLeaderLaw", name := "felt", desc := "(LTollLeader;I[J)I" } : Jvm.MethodName)) ∈ lw_all := lw_g (lw_at lw_m9 75 rfl) rfl
theorem q2107 : (Jvm.Cond.codeWith ({ cls := "TollLeaderLaw", name := "felt", desc := "(LTollLeader;I[J)I" } : Jvm.MethodName) method_15_code (4 : Nat) (Option.some Jvm.ClassFile.FieldType.int) [((0 : Nat), (9 : Nat), (12 : Nat), (19 : Nat))]) ∈ lw_all := lw_g (lw_at lw_m9 76 rfl) rfl
theorem q2108 : (Jvm.Cond.methodLink "TollLeaderLaw" (53 : Nat) ({ cls := "TollLeader", name := "felt", desc := "(I)I" } : Jvm.MethodName)) ∈ lw_all := lw_g (lw_at lw_m9 77 rfl) rfl
theorem q2112 : (Jvm.Cond.methodLink "TollLeaderLaw" (231 : Nat) ({ cls := "TollLeaderLaw", name := "uses", desc := "(LTollLeader;II[J)I" } : Jvm.MethodName)) ∈ lw_all := lw_g (lw_at lw_m9 81 rfl) rfl
theorem q2113 : (Jvm.Cond.static ({ cls := "TollLeaderLaw", name := "uses", desc := "(LTollLeader;II[J)I" } : Jvm.MethodName)) ∈ lw_all := lw_g (lw_at lw_m9 82 rfl) rfl
theorem q2114 : (Jvm.Cond.codeWith ({ cls := "TollLeaderLaw", name := "uses", desc := "(LTollLeader;II[J)I" } : Jvm.MethodName) method_16_code (5 : Nat) (Option.some Jvm.ClassFile.FieldType.int) [((0 : Nat), (17 : Nat), (20 : Nat), (19 : Nat))]) ∈ lw_all := lw_g (lw_at lw_m9 83 rfl) rfl
theorem q2115 : (Jvm.Cond.methodLink "TollLeaderLaw" (56 : Nat) ({ cls := "TollLeader", name := "uses", desc := "(II)Z" } : Jvm.MethodName)) ∈ lw_all := lw_g (lw_at lw_m9 84 rfl) rfl
theorem q2119 : (Jvm.Cond.methodLink "TollLeaderLaw" (234 : Nat) ({ cls := "TollLeaderLaw", name := "users", desc := "(LTollLeader;I[J)I" } : Jvm.MethodName)) ∈ lw_all := lw_g (lw_at lw_m9 88 rfl) rfl
theorem q2120 : (Jvm.Cond.static ({ cls := "TollLeaderLaw", name := "users", desc := "(LTollLeader;I[J)I" } : Jvm.MethodName)) ∈ lw_all := lw_g (lw_at lw_m9 89 rfl) rfl
theorem q2121 : (Jvm.Cond.codeWith ({ cls := "TollLeaderLaw", name := "users", desc := "(LTollLeader;I[J)I" } : Jvm.MethodName) method_17_code (4 : Nat) (Option.some Jvm.ClassFile.FieldType.int) [((0 : Nat), (9 : Nat), (12 : Nat), (19 : Nat))]) ∈ lw_all := lw_g (lw_at lw_m9 90 rfl) rfl
theorem q2122 : (Jvm.Cond.methodLink "TollLeaderLaw" (60 : Nat) ({ cls := "TollLeader", name := "users", desc := "(I)I" } : Jvm.MethodName)) ∈ lw_all := lw_g (lw_at lw_m9 91 rfl) rfl
theorem q2126 : (Jvm.Cond.methodLink "TollLeaderLaw" (237 : Nat) ({ cls := "TollLeaderLaw", name := "flow", desc := "(LTollLeader;I[J)I" } : Jvm.MethodName)) ∈ lw_all := lw_g (lw_at lw_m9 95 rfl) rfl
theorem q2127 : (Jvm.Cond.static ({ cls := "TollLeaderLaw", name := "flow", desc := "(LTollLeader;I[J)I" } : Jvm.MethodName)) ∈ lw_all := lw_g (lw_at lw_m9 96 rfl) rfl
theorem q2128 : (Jvm.Cond.codeWith ({ cls := "TollLeaderLaw", name := "flow", desc := "(LTollLeader;I[J)I" } : Jvm.MethodName) method_18_code (4 : Nat) (Option.some Jvm.ClassFile.FieldType.int) [((0 : Nat), (9 : Nat), (12 : Nat), (19 : Nat))]) ∈ lw_all := lw_g (lw_at lw_m9 97 rfl) rfl
theorem q2129 : (Jvm.Cond.methodLink "TollLeaderLaw" (63 : Nat) ({ cls := "TollLeader", name := "flow", desc := "(I)I" } : Jvm.MethodName)) ∈ lw_all := lw_g (lw_at lw_m9 98 rfl) rfl
theorem q2133 : (Jvm.Cond.methodLink "TollLeaderLaw" (248 : Nat) ({ cls := "TollLeaderLaw", name := "ties", desc := "(LTollLeader;I[J)I" } : Jvm.MethodName)) ∈ lw_all := lw_g (lw_at lw_m9 102 rfl) rfl
theorem q2134 : (Jvm.Cond.static ({ cls := "TollLeaderLaw", name := "ties", desc := "(LTollLeader;I[J)I" } : Jvm.MethodName)) ∈ lw_all := lw_g (lw_at lw_m9 103 rfl) rfl
theorem q2135 : (Jvm.Cond.codeWith ({ cls := "TollLeaderLaw", name := "ties", desc := "(LTollLeader;I[J)I" } : Jvm.MethodName) method_19_code (4 : Nat) (Option.some Jvm.ClassFile.FieldType.int) [((0 : Nat), (8 : Nat), (11 : Nat), (19 : Nat))]) ∈ lw_all := lw_g (lw_at lw_m9 104 rfl) rfl
theorem q2136 : (Jvm.Cond.methodLink "TollLeaderLaw" (66 : Nat) ({ cls := "TollLeader", name := "ties", desc := "(I)J" } : Jvm.MethodName)) ∈ lw_all := lw_g (lw_at lw_m9 105 rfl) rfl
theorem q2153 : (Jvm.Cond.methodLink "TollLeaderLaw" (251 : Nat) ({ cls := "TollLeaderLaw", name := "tieSpan", desc := "(LTollLeader;I[J)I" } : Jvm.MethodName)) ∈ lw_all := lw_g (lw_at lw_m9 122 rfl) rfl
theorem q2154 : (Jvm.Cond.static ({ cls := "TollLeaderLaw", name := "tieSpan", desc := "(LTollLeader;I[J)I" } : Jvm.MethodName)) ∈ lw_all := lw_g (lw_at lw_m9 123 rfl) rfl
theorem q2155 : (Jvm.Cond.codeWith ({ cls := "TollLeaderLaw", name := "tieSpan", desc := "(LTollLeader;I[J)I" } : Jvm.MethodName) method_20_code (4 : Nat) (Option.some Jvm.ClassFile.FieldType.int) [((0 : Nat), (9 : Nat), (12 : Nat), (19 : Nat))]) ∈ lw_all := lw_g (lw_at lw_m9 124 rfl) rfl
theorem q2156 : (Jvm.Cond.methodLink "TollLeaderLaw" (70 : Nat) ({ cls := "TollLeader", name := "tieSpan", desc := "(I)I" } : Jvm.MethodName)) ∈ lw_all := lw_g (lw_at lw_m9 125 rfl) rfl
theorem q2164 : (Jvm.Cond.methodLink "TollLeaderLaw" (259 : Nat) ({ cls := "TollLeaderLaw", name := "revenueOf", desc := "(LTollLeader;I[J)I" } : Jvm.MethodName)) ∈ lw_all := lw_g (lw_at lw_m9 133 rfl) rfl
theorem q2165 : (Jvm.Cond.static ({ cls := "TollLeaderLaw", name := "revenueOf", desc := "(LTollLeader;I[J)I" } : Jvm.MethodName)) ∈ lw_all := lw_g (lw_at lw_m9 134 rfl) rfl
theorem q2166 : (Jvm.Cond.codeWith ({ cls := "TollLeaderLaw", name := "revenueOf", desc := "(LTollLeader;I[J)I" } : Jvm.MethodName) method_21_code (4 : Nat) (Option.some Jvm.ClassFile.FieldType.int) [((0 : Nat), (8 : Nat), (11 : Nat), (19 : Nat))]) ∈ lw_all := lw_g (lw_at lw_m9 135 rfl) rfl
theorem q2167 : (Jvm.Cond.methodLink "TollLeaderLaw" (73 : Nat) ({ cls := "TollLeader", name := "revenueOf", desc := "(I)J" } : Jvm.MethodName)) ∈ lw_all := lw_g (lw_at lw_m9 136 rfl) rfl
theorem q2171 : (Jvm.Cond.methodLink "TollLeaderLaw" (262 : Nat) ({ cls := "TollLeaderLaw", name := "arcRevenue", desc := "(LTollLeader;I[J)I" } : Jvm.MethodName)) ∈ lw_all := lw_g (lw_at lw_m9 140 rfl) rfl
theorem q2172 : (Jvm.Cond.static ({ cls := "TollLeaderLaw", name := "arcRevenue", desc := "(LTollLeader;I[J)I" } : Jvm.MethodName)) ∈ lw_all := lw_g (lw_at lw_m9 141 rfl) rfl
theorem q2173 : (Jvm.Cond.codeWith ({ cls := "TollLeaderLaw", name := "arcRevenue", desc := "(LTollLeader;I[J)I" } : Jvm.MethodName) method_22_code (4 : Nat) (Option.some Jvm.ClassFile.FieldType.int) [((0 : Nat), (8 : Nat), (11 : Nat), (19 : Nat))]) ∈ lw_all := lw_g (lw_at lw_m9 142 rfl) rfl
theorem q2174 : (Jvm.Cond.methodLink "TollLeaderLaw" (76 : Nat) ({ cls := "TollLeader", name := "arcRevenue", desc := "(I)J" } : Jvm.MethodName)) ∈ lw_all := lw_g (lw_at lw_m9 143 rfl) rfl
theorem q2178 : (Jvm.Cond.methodLink "TollLeaderLaw" (265 : Nat) ({ cls := "TollLeaderLaw", name := "pledge", desc := "(LTollLeader;I[J)I" } : Jvm.MethodName)) ∈ lw_all := lw_g (lw_at lw_m9 147 rfl) rfl
theorem q2179 : (Jvm.Cond.static ({ cls := "TollLeaderLaw", name := "pledge", desc := "(LTollLeader;I[J)I" } : Jvm.MethodName)) ∈ lw_all := lw_g (lw_at lw_m9 148 rfl) rfl
theorem q2180 : (Jvm.Cond.codeWith ({ cls := "TollLeaderLaw", name := "pledge", desc := "(LTollLeader;I[J)I" } : Jvm.MethodName) method_23_code (4 : Nat) (Option.some Jvm.ClassFile.FieldType.int) [((0 : Nat), (8 : Nat), (11 : Nat), (19 : Nat))]) ∈ lw_all := lw_g (lw_at lw_m9 149 rfl) rfl
theorem q2181 : (Jvm.Cond.methodLink "TollLeaderLaw" (79 : Nat) ({ cls := "TollLeader", name := "pledge", desc := "(I)J" } : Jvm.MethodName)) ∈ lw_all := lw_g (lw_at lw_m9 150 rfl) rfl
theorem q2185 : (Jvm.Cond.methodLink "TollLeaderLaw" (272 : Nat) ({ cls := "TollLeaderLaw", name := "keepToll", desc := "(LTollLeader;II[J)I" } : Jvm.MethodName)) ∈ lw_all := lw_g (lw_at lw_m9 154 rfl) rfl
theorem q2186 : (Jvm.Cond.static ({ cls := "TollLeaderLaw", name := "keepToll", desc := "(LTollLeader;II[J)I" } : Jvm.MethodName)) ∈ lw_all := lw_g (lw_at lw_m9 155 rfl) rfl
theorem q2187 : (Jvm.Cond.codeWith ({ cls := "TollLeaderLaw", name := "keepToll", desc := "(LTollLeader;II[J)I" } : Jvm.MethodName) method_24_code (5 : Nat) (Option.some Jvm.ClassFile.FieldType.int) [((0 : Nat), (10 : Nat), (13 : Nat), (19 : Nat))]) ∈ lw_all := lw_g (lw_at lw_m9 156 rfl) rfl
theorem q2188 : (Jvm.Cond.methodLink "TollLeaderLaw" (82 : Nat) ({ cls := "TollLeader", name := "keepToll", desc := "(II)I" } : Jvm.MethodName)) ∈ lw_all := lw_g (lw_at lw_m9 157 rfl) rfl
theorem q2193 : (Jvm.Cond.methodLink "TollLeaderLaw" (275 : Nat) ({ cls := "TollLeaderLaw", name := "bestToll", desc := "(LTollLeader;I[J)I" } : Jvm.MethodName)) ∈ lw_all := lw_g (lw_at lw_m9 162 rfl) rfl
theorem q2194 : (Jvm.Cond.static ({ cls := "TollLeaderLaw", name := "bestToll", desc := "(LTollLeader;I[J)I" } : Jvm.MethodName)) ∈ lw_all := lw_g (lw_at lw_m9 163 rfl) rfl
theorem q2195 : (Jvm.Cond.codeWith ({ cls := "TollLeaderLaw", name := "bestToll", desc := "(LTollLeader;I[J)I" } : Jvm.MethodName) method_25_code (4 : Nat) (Option.some Jvm.ClassFile.FieldType.int) [((0 : Nat), (9 : Nat), (12 : Nat), (19 : Nat))]) ∈ lw_all := lw_g (lw_at lw_m9 164 rfl) rfl
theorem q2196 : (Jvm.Cond.methodLink "TollLeaderLaw" (85 : Nat) ({ cls := "TollLeader", name := "bestToll", desc := "(I)I" } : Jvm.MethodName)) ∈ lw_all := lw_g (lw_at lw_m9 165 rfl) rfl
theorem q2200 : (Jvm.Cond.methodLink "TollLeaderLaw" (282 : Nat) ({ cls := "TollLeaderLaw", name := "optimize", desc := "(LTollLeader;I[J)I" } : Jvm.MethodName)) ∈ lw_all := lw_g (lw_at lw_m9 169 rfl) rfl
theorem q2201 : (Jvm.Cond.static ({ cls := "TollLeaderLaw", name := "optimize", desc := "(LTollLeader;I[J)I" } : Jvm.MethodName)) ∈ lw_all := lw_g (lw_at lw_m9 170 rfl) rfl
theorem q2202 : (Jvm.Cond.codeWith ({ cls := "TollLeaderLaw", name := "optimize", desc := "(LTollLeader;I[J)I" } : Jvm.MethodName) method_26_code (4 : Nat) (Option.some Jvm.ClassFile.FieldType.int) [((0 : Nat), (9 : Nat), (12 : Nat), (13 : Nat))]) ∈ lw_all := lw_g (lw_at lw_m9 171 rfl) rfl
theorem q2203 : (Jvm.Cond.methodLink "TollLeaderLaw" (88 : Nat) ({ cls := "TollLeader", name := "optimize", desc := "(I)I" } : Jvm.MethodName)) ∈ lw_all := lw_g (lw_at lw_m9 172 rfl) rfl
theorem q2208 : (Jvm.Cond.methodLink "TollLeaderLaw" (285 : Nat) ({ cls := "TollLeaderLaw", name := "bestPair", desc := "(LTollLeader;III[J)I" } : Jvm.MethodName)) ∈ lw_all := lw_g (lw_at lw_m9 177 rfl) rfl
theorem q2209 : (Jvm.Cond.static ({ cls := "TollLeaderLaw", name := "bestPair", desc := "(LTollLeader;III[J)I" } : Jvm.MethodName)) ∈ lw_all := lw_g (lw_at lw_m9 178 rfl) rfl
theorem q2210 : (Jvm.Cond.codeWith ({ cls := "TollLeaderLaw", name := "bestPair", desc := "(LTollLeader;III[J)I" } : Jvm.MethodName) method_27_code (6 : Nat) (Option.some Jvm.ClassFile.FieldType.int) [((0 : Nat), (12 : Nat), (15 : Nat), (19 : Nat)), ((0 : Nat), (12 : Nat), (19 : Nat), (13 : Nat))]) ∈ lw_all := lw_g (lw_at lw_m9 179 rfl) rfl
theorem q2211 : (Jvm.Cond.methodLink "TollLeaderLaw" (91 : Nat) ({ cls := "TollLeader", name := "bestPair", desc := "(III)I" } : Jvm.MethodName)) ∈ lw_all := lw_g (lw_at lw_m9 180 rfl) rfl
theorem q2215 : (Jvm.Cond.methodLink "TollLeaderLaw" (289 : Nat) ({ cls := "TollLeaderLaw", name := "detour", desc := "(LTollLeader;II[J)I" } : Jvm.MethodName)) ∈ lw_all := lw_g (lw_at lw_m9 184 rfl) rfl
theorem q2216 : (Jvm.Cond.static ({ cls := "TollLeaderLaw", name := "detour", desc := "(LTollLeader;II[J)I" } : Jvm.MethodName)) ∈ lw_all := lw_g (lw_at lw_m9 185 rfl) rfl
theorem q2217 : (Jvm.Cond.codeWith ({ cls := "TollLeaderLaw", name := "detour", desc := "(LTollLeader;II[J)I" } : Jvm.MethodName) method_28_code (5 : Nat) (Option.some Jvm.ClassFile.FieldType.int) [((0 : Nat), (10 : Nat), (13 : Nat), (19 : Nat))]) ∈ lw_all := lw_g (lw_at lw_m9 186 rfl) rfl
theorem q2218 : (Jvm.Cond.methodLink "TollLeaderLaw" (95 : Nat) ({ cls := "TollLeader", name := "detour", desc := "(II)I" } : Jvm.MethodName)) ∈ lw_all := lw_g (lw_at lw_m9 187 rfl) rfl
theorem q2227 : (Jvm.Cond.methodLink "TollLeaderLaw" (292 : Nat) ({ cls := "TollLeaderLaw", name := "captives", desc := "(LTollLeader;I[J)I" } : Jvm.MethodName)) ∈ lw_all := lw_g (lw_at lw_m9 196 rfl) rfl
theorem q2228 : (Jvm.Cond.static ({ cls := "TollLeaderLaw", name := "captives", desc := "(LTollLeader;I[J)I" } : Jvm.MethodName)) ∈ lw_all := lw_g (lw_at lw_m9 197 rfl) rfl
theorem q2229 : (Jvm.Cond.codeWith ({ cls := "TollLeaderLaw", name := "captives", desc := "(LTollLeader;I[J)I" } : Jvm.MethodName) method_29_code (4 : Nat) (Option.some Jvm.ClassFile.FieldType.int) [((0 : Nat), (9 : Nat), (12 : Nat), (19 : Nat))]) ∈ lw_all := lw_g (lw_at lw_m9 198 rfl) rfl
theorem q2230 : (Jvm.Cond.methodLink "TollLeaderLaw" (98 : Nat) ({ cls := "TollLeader", name := "captives", desc := "(I)I" } : Jvm.MethodName)) ∈ lw_all := lw_g (lw_at lw_m9 199 rfl) rfl
theorem q2234 : (Jvm.Cond.methodLink "TollLeaderLaw" (295 : Nat) ({ cls := "TollLeaderLaw", name := "reachable", desc := "(LTollLeader;I[J)I" } : Jvm.MethodName)) ∈ lw_all := lw_g (lw_at lw_m9 203 rfl) rfl
theorem q2235 : (Jvm.Cond.static ({ cls := "TollLeaderLaw", name := "reachable", desc := "(LTollLeader;I[J)I" } : Jvm.MethodName)) ∈ lw_all := lw_g (lw_at lw_m9 204 rfl) rfl
theorem q2236 : (Jvm.Cond.codeWith ({ cls := "TollLeaderLaw", name := "reachable", desc := "(LTollLeader;I[J)I" } : Jvm.MethodName) method_30_code (4 : Nat) (Option.some Jvm.ClassFile.FieldType.int) [((0 : Nat), (9 : Nat), (12 : Nat), (13 : Nat))]) ∈ lw_all := lw_g (lw_at lw_m9 205 rfl) rfl
theorem q2237 : (Jvm.Cond.methodLink "TollLeaderLaw" (101 : Nat) ({ cls := "TollLeader", name := "reachable", desc := "(I)I" } : Jvm.MethodName)) ∈ lw_all := lw_g (lw_at lw_m9 206 rfl) rfl
theorem q2317 : (Jvm.Cond.methodLink "TollLeaderLaw" (298 : Nat) ({ cls := "TollLeaderLaw", name := "judge", desc := "(LTollLeader;I[J)I" } : Jvm.MethodName)) ∈ lw_all := lw_g (lw_at lw_m10 46 rfl) rfl
theorem q2318 : (Jvm.Cond.static ({ cls := "TollLeaderLaw", name := "judge", desc := "(LTollLeader;I[J)I" } : Jvm.MethodName)) ∈ lw_all := lw_g (lw_at lw_m10 47 rfl) rfl
theorem q2319 : (Jvm.Cond.codeWith ({ cls := "TollLeaderLaw", name := "judge", desc := "(LTollLeader;I[J)I" } : Jvm.MethodName) method_31_code (4 : Nat) (Option.some Jvm.ClassFile.FieldType.int) [((0 : Nat), (9 : Nat), (12 : Nat), (19 : Nat))]) ∈ lw_all := lw_g (lw_at lw_m10 48 rfl) rfl
theorem q2320 : (Jvm.Cond.methodLink "TollLeaderLaw" (104 : Nat) ({ cls := "TollLeader", name := "judge", desc := "(I)I" } : Jvm.MethodName)) ∈ lw_all := lw_g (lw_at lw_m10 49 rfl) rfl
theorem q2330 : (Jvm.Cond.methodLink "TollLeaderLaw" (301 : Nat) ({ cls := "TollLeaderLaw", name := "margin", desc := "(LTollLeader;I[J)I" } : Jvm.MethodName)) ∈ lw_all := lw_g (lw_at lw_m10 59 rfl) rfl
theorem q2331 : (Jvm.Cond.static ({ cls := "TollLeaderLaw", name := "margin", desc := "(LTollLeader;I[J)I" } : Jvm.MethodName)) ∈ lw_all := lw_g (lw_at lw_m10 60 rfl) rfl
theorem q2332 : (Jvm.Cond.codeWith ({ cls := "TollLeaderLaw", name := "margin", desc := "(LTollLeader;I[J)I" } : Jvm.MethodName) method_32_code (4 : Nat) (Option.some Jvm.ClassFile.FieldType.int) [((0 : Nat), (9 : Nat), (12 : Nat), (19 : Nat))]) ∈ lw_all := lw_g (lw_at lw_m10 61 rfl) rfl
theorem q2333 : (Jvm.Cond.methodLink "TollLeaderLaw" (107 : Nat) ({ cls := "TollLeader", name := "margin", desc := "(I)I" } : Jvm.MethodName)) ∈ lw_all := lw_g (lw_at lw_m10 62 rfl) rfl
theorem q2340 : (Jvm.Cond.methodLink "TollLeaderLaw" (304 : Nat) ({ cls := "TollLeaderLaw", name := "revenueWith", desc := "(LTollLeader;II[J)I" } : Jvm.MethodName)) ∈ lw_all := lw_g (lw_at lw_m10 69 rfl) rfl
theorem q2341 : (Jvm.Cond.static ({ cls := "TollLeaderLaw", name := "revenueWith", desc := "(LTollLeader;II[J)I" } : Jvm.MethodName)) ∈ lw_all := lw_g (lw_at lw_m10 70 rfl) rfl
theorem q2342 : (Jvm.Cond.codeWith ({ cls := "TollLeaderLaw", name := "revenueWith", desc := "(LTollLeader;II[J)I" } : Jvm.MethodName) method_33_code (5 : Nat) (Option.some Jvm.ClassFile.FieldType.int) [((0 : Nat), (9 : Nat), (12 : Nat), (19 : Nat)), ((0 : Nat), (9 : Nat), (16 : Nat), (13 : Nat))]) ∈ lw_all := lw_g (lw_at lw_m10 71 rfl) rfl
theorem q2343 : (Jvm.Cond.methodLink "TollLeaderLaw" (110 : Nat) ({ cls := "TollLeader", name := "revenueWith", desc := "(II)J" } : Jvm.MethodName)) ∈ lw_all := lw_g (lw_at lw_m10 72 rfl) rfl
theorem q2347 : (Jvm.Cond.methodLink "TollLeaderLaw" (307 : Nat) ({ cls := "TollLeaderLaw", name := "stepCount", desc := "(LTollLeader;I[J)I" } : Jvm.MethodName)) ∈ lw_all := lw_g (lw_at lw_m10 76 rfl) rfl
theorem q2348 : (Jvm.Cond.static ({ cls := "TollLeaderLaw", name := "stepCount", desc := "(LTollLeader;I[J)I" } : Jvm.MethodName)) ∈ lw_all := lw_g (lw_at lw_m10 77 rfl) rfl
theorem q2349 : (Jvm.Cond.codeWith ({ cls := "TollLeaderLaw", name := "stepCount", desc := "(LTollLeader;I[J)I" } : Jvm.MethodName) method_34_code (4 : Nat) (Option.some Jvm.ClassFile.FieldType.int) [((0 : Nat), (9 : Nat), (12 : Nat), (19 : Nat))]) ∈ lw_all := lw_g (lw_at lw_m10 78 rfl) rfl
theorem q2350 : (Jvm.Cond.methodLink "TollLeaderLaw" (114 : Nat) ({ cls := "TollLeader", name := "stepCount", desc := "(I)I" } : Jvm.MethodName)) ∈ lw_all := lw_g (lw_at lw_m10 79 rfl) rfl
theorem q2361 : (Jvm.Cond.methodLink "TollLeaderLaw" (310 : Nat) ({ cls := "TollLeaderLaw", name := "step", desc := "(LTollLeader;II[J)I" } : Jvm.MethodName)) ∈ lw_all := lw_g (lw_at lw_m10 90 rfl) rfl
theorem q2362 : (Jvm.Cond.static ({ cls := "TollLeaderLaw", name := "step", desc := "(LTollLeader;II[J)I" } : Jvm.MethodName)) ∈ lw_all := lw_g (lw_at lw_m10 91 rfl) rfl
theorem q2363 : (Jvm.Cond.codeWith ({ cls := "TollLeaderLaw", name := "step", desc := "(LTollLeader;II[J)I" } : Jvm.MethodName) method_35_code (5 : Nat) (Option.some Jvm.ClassFile.FieldType.int) [((0 : Nat), (10 : Nat), (13 : Nat), (19 : Nat))]) ∈ lw_all := lw_g (lw_at lw_m10 92 rfl) rfl
theorem q2364 : (Jvm.Cond.methodLink "TollLeaderLaw" (117 : Nat) ({ cls := "TollLeader", name := "step", desc := "(II)I" } : Jvm.MethodName)) ∈ lw_all := lw_g (lw_at lw_m10 93 rfl) rfl
theorem q2368 : (Jvm.Cond.methodLink "TollLeaderLaw" (321 : Nat) ({ cls := "TollLeaderLaw", name := "scaleTolls", desc := "(LTollLeader;I[J)I" } : Jvm.MethodName)) ∈ lw_all := lw_g (lw_at lw_m10 97 rfl) rfl
theorem q2369 : (Jvm.Cond.static ({ cls := "TollLeaderLaw", name := "scaleTolls", desc := "(LTollLeader;I[J)I" } : Jvm.MethodName)) ∈ lw_all := lw_g (lw_at lw_m10 98 rfl) rfl
theorem q2370 : (Jvm.Cond.codeWith ({ cls := "TollLeaderLaw", name := "scaleTolls", desc := "(LTollLeader;I[J)I" } : Jvm.MethodName) method_36_code (4 : Nat) (Option.some Jvm.ClassFile.FieldType.int) [((0 : Nat), (9 : Nat), (12 : Nat), (13 : Nat))]) ∈ lw_all := lw_g (lw_at lw_m10 99 rfl) rfl
theorem q2371 : (Jvm.Cond.methodLink "TollLeaderLaw" (120 : Nat) ({ cls := "TollLeader", name := "scaleTolls", desc := "(I)I" } : Jvm.MethodName)) ∈ lw_all := lw_g (lw_at lw_m10 100 rfl) rfl
theorem q2376 : (Jvm.Cond.methodLink "TollLeaderLaw" (324 : Nat) ({ cls := "TollLeaderLaw", name := "swapTolls", desc := "(LTollLeader;II[J)I" } : Jvm.MethodName)) ∈ lw_all := lw_g (lw_at lw_m10 105 rfl) rfl
theorem q2377 : (Jvm.Cond.static ({ cls := "TollLeaderLaw", name := "swapTolls", desc := "(LTollLeader;II[J)I" } : Jvm.MethodName)) ∈ lw_all := lw_g (lw_at lw_m10 106 rfl) rfl
theorem q2378 : (Jvm.Cond.codeWith ({ cls := "TollLeaderLaw", name := "swapTolls", desc := "(LTollLeader;II[J)I" } : Jvm.MethodName) method_37_code (5 : Nat) (Option.some Jvm.ClassFile.FieldType.int) [((0 : Nat), (17 : Nat), (20 : Nat), (19 : Nat))]) ∈ lw_all := lw_g (lw_at lw_m10 107 rfl) rfl
theorem q2379 : (Jvm.Cond.methodLink "TollLeaderLaw" (123 : Nat) ({ cls := "TollLeader", name := "swapTolls", desc := "(II)Z" } : Jvm.MethodName)) ∈ lw_all := lw_g (lw_at lw_m10 108 rfl) rfl
theorem q2383 : (Jvm.Cond.methodLink "TollLeaderLaw" (331 : Nat) ({ cls := "TollLeaderLaw", name := "worth", desc := "(LTollLeader;I[J)I" } : Jvm.MethodName)) ∈ lw_all := lw_g (lw_at lw_m10 112 rfl) rfl
theorem q2384 : (Jvm.Cond.static ({ cls := "TollLeaderLaw", name := "worth", desc := "(LTollLeader;I[J)I" } : Jvm.MethodName)) ∈ lw_all := lw_g (lw_at lw_m10 113 rfl) rfl
theorem q2385 : (Jvm.Cond.codeWith ({ cls := "TollLeaderLaw", name := "worth", desc := "(LTollLeader;I[J)I" } : Jvm.MethodName) method_38_code (4 : Nat) (Option.some Jvm.ClassFile.FieldType.int) [((0 : Nat), (8 : Nat), (11 : Nat), (19 : Nat))]) ∈ lw_all := lw_g (lw_at lw_m10 114 rfl) rfl
theorem q2386 : (Jvm.Cond.methodLink "TollLeaderLaw" (126 : Nat) ({ cls := "TollLeader", name := "worth", desc := "(I)J" } : Jvm.MethodName)) ∈ lw_all := lw_g (lw_at lw_m10 115 rfl) rfl
theorem q2390 : (Jvm.Cond.methodLink "TollLeaderLaw" (334 : Nat) ({ cls := "TollLeaderLaw", name := "writePath", desc := "(LTollLeader;I[J)I" } : Jvm.MethodName)) ∈ lw_all := lw_g (lw_at lw_m10 119 rfl) rfl
theorem q2391 : (Jvm.Cond.static ({ cls := "TollLeaderLaw", name := "writePath", desc := "(LTollLeader;I[J)I" } : Jvm.MethodName)) ∈ lw_all := lw_g (lw_at lw_m10 120 rfl) rfl
theorem q2392 : (Jvm.Cond.codeWith ({ cls := "TollLeaderLaw", name := "writePath", desc := "(LTollLeader;I[J)I" } : Jvm.MethodName) method_39_code (4 : Nat) (Option.some Jvm.ClassFile.FieldType.int) [((0 : Nat), (9 : Nat), (12 : Nat), (19 : Nat))]) ∈ lw_all := lw_g (lw_at lw_m10 121 rfl) rfl
theorem q2393 : (Jvm.Cond.methodLink "TollLeaderLaw" (129 : Nat) ({ cls := "TollLeader", name := "writePath", desc := "(I)I" } : Jvm.MethodName)) ∈ lw_all := lw_g (lw_at lw_m10 122 rfl) rfl
theorem q2407 : (Jvm.Cond.methodLink "TollLeaderLaw" (345 : Nat) ({ cls := "TollLeaderLaw", name := "saveSnapshot", desc := "(LTollLeader;I[J)I" } : Jvm.MethodName)) ∈ lw_all := lw_g (lw_at lw_m10 136 rfl) rfl
theorem q2408 : (Jvm.Cond.static ({ cls := "TollLeaderLaw", name := "saveSnapshot", desc := "(LTollLeader;I[J)I" } : Jvm.MethodName)) ∈ lw_all := lw_g (lw_at lw_m10 137 rfl) rfl
theorem q2409 : (Jvm.Cond.codeWith ({ cls := "TollLeaderLaw", name := "saveSnapshot", desc := "(LTollLeader;I[J)I" } : Jvm.MethodName) method_40_code (4 : Nat) (Option.some Jvm.ClassFile.FieldType.int) [((0 : Nat), (9 : Nat), (12 : Nat), (13 : Nat))]) ∈ lw_all := lw_g (lw_at lw_m10 138 rfl) rfl
theorem q2410 : (Jvm.Cond.methodLink "TollLeaderLaw" (132 : Nat) ({ cls := "TollLeader", name := "saveSnapshot", desc := "(I)I" } : Jvm.MethodName)) ∈ lw_all := lw_g (lw_at lw_m10 139 rfl) rfl
theorem q2417 : (Jvm.Cond.methodLink "TollLeaderLaw" (348 : Nat) ({ cls := "TollLeaderLaw", name := "restoreSnapshot", desc := "(LTollLeader;I[J)I" } : Jvm.MethodName)) ∈ lw_all := lw_g (lw_at lw_m10 146 rfl) rfl
theorem q2418 : (Jvm.Cond.static ({ cls := "TollLeaderLaw", name := "restoreSnapshot", desc := "(LTollLeader;I[J)I" } : Jvm.MethodName)) ∈ lw_all := lw_g (lw_at lw_m10 147 rfl) rfl
theorem q2419 : (Jvm.Cond.codeWith ({ cls := "TollLeaderLaw", name := "restoreSnapshot", desc := "(LTollLeader;I[J)I" } : Jvm.MethodName) method_41_code (4 : Nat) (Option.some Jvm.ClassFile.FieldType.int) [((0 : Nat), (9 : Nat), (12 : Nat), (13 : Nat))]) ∈ lw_all := lw_g (lw_at lw_m10 148 rfl) rfl
theorem q2420 : (Jvm.Cond.methodLink "TollLeaderLaw" (135 : Nat) ({ cls := "TollLeader", name := "restoreSnapshot", desc := "(I)I" } : Jvm.MethodName)) ∈ lw_all := lw_g (lw_at lw_m10 149 rfl) rfl
theorem q2424 : (Jvm.Cond.classLink "TollLeaderLaw" (139 : Nat) "TollLeaderModel") ∈ lw_all := lw_g (lw_at lw_m10 153 rfl) rfl
theorem q2426 : (Jvm.Cond.methodLink "TollLeaderLaw" (141 : Nat) ({ cls := "TollLeaderModel", name := "<init>", desc := "()V" } : Jvm.MethodName)) ∈ lw_all := lw_g (lw_at lw_m10 155 rfl) rfl
theorem q2534 : (Jvm.Cond.methodLink "TollLeaderLaw" (168 : Nat) ({ cls := "TollLeaderModel", name := "thrown", desc := "()I" } : Jvm.MethodName)) ∈ lw_all := lw_g (lw_at lw_m11 23 rfl) rfl
theorem q2538 : (Jvm.Cond.methodLink "TollLeaderLaw" (148 : Nat) ({ cls := "TollLeaderModel", name := "append", desc := "(J)I" } : Jvm.MethodName)) ∈ lw_all := lw_g (lw_at lw_m11 27 rfl) rfl
theorem q2546 : (Jvm.Cond.methodLink "TollLeaderLaw" (153 : Nat) ({ cls := "TollLeaderModel", name := "load", desc := "()I" } : Jvm.MethodName)) ∈ lw_all := lw_g (lw_at lw_m11 35 rfl) rfl
theorem q2621 : (Jvm.Cond.methodLink "TollLeaderLaw" (157 : Nat) ({ cls := "TollLeaderModel", name := "loadError", desc := "()I" } : Jvm.MethodName)) ∈ lw_all := lw_g (lw_at lw_m11 110 rfl) rfl
theorem q2625 : (Jvm.Cond.methodLink "TollLeaderLaw" (161 : Nat) ({ cls := "TollLeaderModel", name := "loadStatement", desc := "()I" } : Jvm.MethodName)) ∈ lw_all := lw_g (lw_at lw_m11 114 rfl) rfl
theorem q2629 : (Jvm.Cond.methodLink "TollLeaderLaw" (167 : Nat) ({ cls := "TollLeaderModel", name := "count", desc := "(I)I" } : Jvm.MethodName)) ∈ lw_all := lw_g (lw_at lw_m11 118 rfl) rfl
theorem q2641 : (Jvm.Cond.methodLink "TollLeaderLaw" (174 : Nat) ({ cls := "TollLeaderModel", name := "arcValue", desc := "(II)I" } : Jvm.MethodName)) ∈ lw_all := lw_g (lw_at lw_m11 130 rfl) rfl
theorem q2649 : (Jvm.Cond.methodLink "TollLeaderLaw" (177 : Nat) ({ cls := "TollLeaderModel", name := "tripValue", desc := "(II)I" } : Jvm.MethodName)) ∈ lw_all := lw_g (lw_at lw_m11 138 rfl) rfl
theorem q2661 : (Jvm.Cond.methodLink "TollLeaderLaw" (180 : Nat) ({ cls := "TollLeaderModel", name := "setToll", desc := "(II)I" } : Jvm.MethodName)) ∈ lw_all := lw_g (lw_at lw_m11 150 rfl) rfl
theorem q2673 : (Jvm.Cond.methodLink "TollLeaderLaw" (183 : Nat) ({ cls := "TollLeaderModel", name := "addTolls", desc := "(I)I" } : Jvm.MethodName)) ∈ lw_all := lw_g (lw_at lw_m11 162 rfl) rfl
theorem q2682 : (Jvm.Cond.methodLink "TollLeaderLaw" (187 : Nat) ({ cls := "TollLeaderModel", name := "clearTolls", desc := "()I" } : Jvm.MethodName)) ∈ lw_all := lw_g (lw_at lw_m11 171 rfl) rfl
theorem q2686 : (Jvm.Cond.methodLink "TollLeaderLaw" (323 : Nat) ({ cls := "TollLeaderModel", name := "scaleTolls", desc := "(I)I" } : Jvm.MethodName)) ∈ lw_all := lw_g (lw_at lw_m11 175 rfl) rfl
theorem q2690 : (Jvm.Cond.methodLink "TollLeaderLaw" (326 : Nat) ({ cls := "TollLeaderModel", name := "swapTolls", desc := "(II)Z" } : Jvm.MethodName)) ∈ lw_all := lw_g (lw_at lw_m11 179 rfl) rfl
theorem q2694 : (Jvm.Cond.methodLink "TollLeaderLaw" (190 : Nat) ({ cls := "TollLeaderModel", name := "setDemand", desc := "(II)I" } : Jvm.MethodName)) ∈ lw_all := lw_g (lw_at lw_m11 183 rfl) rfl
theorem q2698 : (Jvm.Cond.methodLink "TollLeaderLaw" (194 : Nat) ({ cls := "TollLeaderModel", name := "close", desc := "(IZ)Z" } : Jvm.MethodName)) ∈ lw_all := lw_g (lw_at lw_m11 187 rfl) rfl
theorem q2702 : (Jvm.Cond.methodLink "TollLeaderLaw" (199 : Nat) ({ cls := "TollLeaderModel", name := "setTies", desc := "(Z)Z" } : Jvm.MethodName)) ∈ lw_all := lw_g (lw_at lw_m11 191 rfl) rfl
theorem q2706 : (Jvm.Cond.methodLink "TollLeaderLaw" (204 : Nat) ({ cls := "TollLeaderModel", name := "tiesForLeader", desc := "()Z" } : Jvm.MethodName)) ∈ lw_all := lw_g (lw_at lw_m11 195 rfl) rfl
theorem q2710 : (Jvm.Cond.methodLink "TollLeaderLaw" (208 : Nat) ({ cls := "TollLeaderModel", name := "undo", desc := "()I" } : Jvm.MethodName)) ∈ lw_all := lw_g (lw_at lw_m11 199 rfl) rfl
theorem q2714 : (Jvm.Cond.methodLink "TollLeaderLaw" (212 : Nat) ({ cls := "TollLeaderModel", name := "undoCount", desc := "()I" } : Jvm.MethodName)) ∈ lw_all := lw_g (lw_at lw_m11 203 rfl) rfl
theorem q2718 : (Jvm.Cond.methodLink "TollLeaderLaw" (215 : Nat) ({ cls := "TollLeaderModel", name := "hasPath", desc := "(I)Z" } : Jvm.MethodName)) ∈ lw_all := lw_g (lw_at lw_m11 207 rfl) rfl
theorem q2757 : (Jvm.Cond.methodLink "TollLeaderLaw" (218 : Nat) ({ cls := "TollLeaderModel", name := "pathLength", desc := "(I)I" } : Jvm.MethodName)) ∈ lw_all := lw_g (lw_at lw_m12 6 rfl) rfl
theorem q2761 : (Jvm.Cond.methodLink "TollLeaderLaw" (221 : Nat) ({ cls := "TollLeaderModel", name := "pathArc", desc := "(II)I" } : Jvm.MethodName)) ∈ lw_all := lw_g (lw_at lw_m12 10 rfl) rfl
theorem q2765 : (Jvm.Cond.methodLink "TollLeaderLaw" (224 : Nat) ({ cls := "TollLeaderModel", name := "pathCost", desc := "(I)I" } : Jvm.MethodName)) ∈ lw_all := lw_g (lw_at lw_m12 14 rfl) rfl
theorem q2773 : (Jvm.Cond.methodLink "TollLeaderLaw" (227 : Nat) ({ cls := "TollLeaderModel", name := "pathToll", desc := "(I)I" } : Jvm.MethodName)) ∈ lw_all := lw_g (lw_at lw_m12 22 rfl) rfl
theorem q2777 : (Jvm.Cond.methodLink "TollLeaderLaw" (230 : Nat) ({ cls := "TollLeaderModel", name := "felt", desc := "(I)I" } : Jvm.MethodName)) ∈ lw_all := lw_g (lw_at lw_m12 26 rfl) rfl
theorem q2789 : (Jvm.Cond.methodLink "TollLeaderLaw" (233 : Nat) ({ cls := "TollLeaderModel", name := "uses", desc := "(II)Z" } : Jvm.MethodName)) ∈ lw_all := lw_g (lw_at lw_m12 38 rfl) rfl
theorem q2801 : (Jvm.Cond.methodLink "TollLeaderLaw" (236 : Nat) ({ cls := "TollLeaderModel", name := "users", desc := "(I)I" } : Jvm.MethodName)) ∈ lw_all := lw_g (lw_at lw_m12 50 rfl) rfl
theorem q2809 : (Jvm.Cond.methodLink "TollLeaderLaw" (239 : Nat) ({ cls := "TollLeaderModel", name := "flow", desc := "(I)I" } : Jvm.MethodName)) ∈ lw_all := lw_g (lw_at lw_m12 58 rfl) rfl
theorem q2817 : (Jvm.Cond.methodLink "TollLeaderLaw" (243 : Nat) ({ cls := "TollLeaderModel", name := "busiest", desc := "()I" } : Jvm.MethodName)) ∈ lw_all := lw_g (lw_at lw_m12 66 rfl) rfl
theorem q2821 : (Jvm.Cond.methodLink "TollLeaderLaw" (247 : Nat) ({ cls := "TollLeaderModel", name := "unused", desc := "()I" } : Jvm.MethodName)) ∈ lw_all := lw_g (lw_at lw_m12 70 rfl) rfl
theorem q2825 : (Jvm.Cond.methodLink "TollLeaderLaw" (250 : Nat) ({ cls := "TollLeaderModel", name := "ties", desc := "(I)J" } : Jvm.MethodName)) ∈ lw_all := lw_g (lw_at lw_m12 74 rfl) rfl
theorem q2848 : (Jvm.Cond.methodLink "TollLeaderLaw" (253 : Nat) ({ cls := "TollLeaderModel", name := "tieSpan", desc := "(I)I" } : Jvm.MethodName)) ∈ lw_all := lw_g (lw_at lw_m12 97 rfl) rfl
theorem q2852 : (Jvm.Cond.methodLink "TollLeaderLaw" (258 : Nat) ({ cls := "TollLeaderModel", name := "revenue", desc := "()J" } : Jvm.MethodName)) ∈ lw_all := lw_g (lw_at lw_m12 101 rfl) rfl
theorem q2864 : (Jvm.Cond.methodLink "TollLeaderLaw" (261 : Nat) ({ cls := "TollLeaderModel", name := "revenueOf", desc := "(I)J" } : Jvm.MethodName)) ∈ lw_all := lw_g (lw_at lw_m12 113 rfl) rfl
theorem q2868 : (Jvm.Cond.methodLink "TollLeaderLaw" (264 : Nat) ({ cls := "TollLeaderModel", name := "arcRevenue", desc := "(I)J" } : Jvm.MethodName)) ∈ lw_all := lw_g (lw_at lw_m12 117 rfl) rfl
theorem q2872 : (Jvm.Cond.methodLink "TollLeaderLaw" (267 : Nat) ({ cls := "TollLeaderModel", name := "pledge", desc := "(I)J" } : Jvm.MethodName)) ∈ lw_all := lw_g (lw_at lw_m12 121 rfl) rfl
theorem q2889 : (Jvm.Cond.methodLink "TollLeaderLaw" (271 : Nat) ({ cls := "TollLeaderModel", name := "bound", desc := "()J" } : Jvm.MethodName)) ∈ lw_all := lw_g (lw_at lw_m12 138 rfl) rfl
theorem q2893 : (Jvm.Cond.methodLink "TollLeaderLaw" (316 : Nat) ({ cls := "TollLeaderModel", name := "burden", desc := "()J" } : Jvm.MethodName)) ∈ lw_all := lw_g (lw_at lw_m12 142 rfl) rfl
theorem q2897 : (Jvm.Cond.methodLink "TollLeaderLaw" (320 : Nat) ({ cls := "TollLeaderModel", name := "dearest", desc := "()I" } : Jvm.MethodName)) ∈ lw_all := lw_g (lw_at lw_m12 146 rfl) rfl
theorem q2901 : (Jvm.Cond.methodLink "TollLeaderLaw" (274 : Nat) ({ cls := "TollLeaderModel", name := "keepToll", desc := "(II)I" } : Jvm.MethodName)) ∈ lw_all := lw_g (lw_at lw_m12 150 rfl) rfl
theorem q2913 : (Jvm.Cond.methodLink "TollLeaderLaw" (306 : Nat) ({ cls := "TollLeaderModel", name := "revenueWith", desc := "(II)J" } : Jvm.MethodName)) ∈ lw_all := lw_g (lw_at lw_m12 162 rfl) rfl
theorem q2921 : (Jvm.Cond.methodLink "TollLeaderLaw" (277 : Nat) ({ cls := "TollLeaderModel", name := "bestToll", desc := "(I)I" } : Jvm.MethodName)) ∈ lw_all := lw_g (lw_at lw_m12 170 rfl) rfl
theorem q2936 : (Jvm.Cond.methodLink "TollLeaderLaw" (281 : Nat) ({ cls := "TollLeaderModel", name := "improve", desc := "()I" } : Jvm.MethodName)) ∈ lw_all := lw_g (lw_at lw_m12 185 rfl) rfl
theorem q2944 : (Jvm.Cond.methodLink "TollLeaderLaw" (284 : Nat) ({ cls := "TollLeaderModel", name := "optimize", desc := "(I)I" } : Jvm.MethodName)) ∈ lw_all := lw_g (lw_at lw_m12 193 rfl) rfl
theorem q2948 : (Jvm.Cond.methodLink "TollLeaderLaw" (330 : Nat) ({ cls := "TollLeaderModel", name := "improvable", desc := "()I" } : Jvm.MethodName)) ∈ lw_all := lw_g (lw_at lw_m12 197 rfl) rfl
theorem q2952 : (Jvm.Cond.methodLink "TollLeaderLaw" (288 : Nat) ({ cls := "TollLeaderModel", name := "bestPair", desc := "(III)I" } : Jvm.MethodName)) ∈ lw_all := lw_g (lw_at lw_m12 201 rfl) rfl
theorem q2956 : (Jvm.Cond.methodLink "TollLeaderLaw" (309 : Nat) ({ cls := "TollLeaderModel", name := "stepCount", desc := "(I)I" } : Jvm.MethodName)) ∈ lw_all := lw_g (lw_at lw_m12 205 rfl) rfl
theorem q2964 : (Jvm.Cond.methodLink "TollLeaderLaw" (312 : Nat) ({ cls := "TollLeaderModel", name := "step", desc := "(II)I" } : Jvm.MethodName)) ∈ lw_all := lw_g (lw_at lw_m12 213 rfl) rfl
theorem q2968 : (Jvm.Cond.methodLink "TollLeaderLaw" (291 : Nat) ({ cls := "TollLeaderModel", name := "detour", desc := "(II)I" } : Jvm.MethodName)) ∈ lw_all := lw_g (lw_at lw_m12 217 rfl) rfl
theorem q2972 : (Jvm.Cond.methodLink "TollLeaderLaw" (294 : Nat) ({ cls := "TollLeaderModel", name := "captives", desc := "(I)I" } : Jvm.MethodName)) ∈ lw_all := lw_g (lw_at lw_m12 221 rfl) rfl
theorem q2976 : (Jvm.Cond.methodLink "TollLeaderLaw" (333 : Nat) ({ cls := "TollLeaderModel", name := "worth", desc := "(I)J" } : Jvm.MethodName)) ∈ lw_all := lw_g (lw_at lw_m12 225 rfl) rfl
theorem q2980 : (Jvm.Cond.methodLink "TollLeaderLaw" (297 : Nat) ({ cls := "TollLeaderModel", name := "reachable", desc := "(I)I" } : Jvm.MethodName)) ∈ lw_all := lw_g (lw_at lw_m12 229 rfl) rfl
theorem q2984 : (Jvm.Cond.methodLink "TollLeaderLaw" (300 : Nat) ({ cls := "TollLeaderModel", name := "judge", desc := "(I)I" } : Jvm.MethodName)) ∈ lw_all := lw_g (lw_at lw_m12 233 rfl) rfl
theorem q2992 : (Jvm.Cond.methodLink "TollLeaderLaw" (303 : Nat) ({ cls := "TollLeaderModel", name := "margin", desc := "(I)I" } : Jvm.MethodName)) ∈ lw_all := lw_g (lw_at lw_m13 1 rfl) rfl
theorem q3000 : (Jvm.Cond.methodLink "TollLeaderLaw" (336 : Nat) ({ cls := "TollLeaderModel", name := "writePath", desc := "(I)I" } : Jvm.MethodName)) ∈ lw_all := lw_g (lw_at lw_m13 9 rfl) rfl
theorem q3017 : (Jvm.Cond.methodLink "TollLeaderLaw" (340 : Nat) ({ cls := "TollLeaderModel", name := "writeTolls", desc := "()I" } : Jvm.MethodName)) ∈ lw_all := lw_g (lw_at lw_m13 26 rfl) rfl
theorem q3021 : (Jvm.Cond.methodLink "TollLeaderLaw" (344 : Nat) ({ cls := "TollLeaderModel", name := "outputByte", desc := "(I)I" } : Jvm.MethodName)) ∈ lw_all := lw_g (lw_at lw_m13 30 rfl) rfl
theorem q3025 : (Jvm.Cond.methodLink "TollLeaderLaw" (347 : Nat) ({ cls := "TollLeaderModel", name := "saveSnapshot", desc := "(I)I" } : Jvm.MethodName)) ∈ lw_all := lw_g (lw_at lw_m13 34 rfl) rfl
theorem q3029 : (Jvm.Cond.methodLink "TollLeaderLaw" (350 : Nat) ({ cls := "TollLeaderModel", name := "restoreSnapshot", desc := "(I)I" } : Jvm.MethodName)) ∈ lw_all := lw_g (lw_at lw_m13 38 rfl) rfl
theorem q3033 : (Jvm.Cond.constantLong "TollLeaderLaw" (142 : Nat) (4294967295 : Int64)) ∈ lw_all := lw_g (lw_at lw_m13 42 rfl) rfl
/-! TollLeader -/
set_option maxRecDepth 100000
def RX1 : String := "TollLeader"
def TX1 : u_T := fun k => match k with
  | 0 => ("TollLeader", "state", "LTollLeader$State;", false)
  | 1 => ("TollLeader", "finder", "LTollLeader$Finder;", true)
  | 2 => ("TollLeader", "past", "Ljava/util/ArrayDeque;", true)
  | 3 => ("TollLeader", "snapshots", "[LTollLeader$State;", true)
  | 4 => ("TollLeader", "text", "[B", true)
  | 5 => ("TollLeader", "length", "I", false)
  | 6 => ("TollLeader", "error", "I", false)
  | 7 => ("TollLeader", "errorStatement", "I", false)
  | _ => ("TollLeader", "output", "Ljava/lang/StringBuilder;", true)
def tyX1 : Nat → FieldType := fun k => match k with
  | 0 => .object "TollLeader$State"
  | 1 => .object "TollLeader$Finder"
  | 2 => .object "java/util/ArrayDeque"
  | 3 => .array (.object "TollLeader$State")
  | 4 => .array .byte
  | 5 => .int
  | 6 => .int
  | 7 => .int
  | _ => .object "java/lang/StringBuilder"
abbrev wsX10 : List Cond := u_ws RX1 TX1 9
theorem nmX1 : ∀ a, a < 9 → ∀ b, b < 9 → a ≠ b → (TX1 a).2.1 ≠ (TX1 b).2.1 := by decide +kernel
theorem tyX1_ok : ∀ k, k < 9 → parseFieldDescriptor (TX1 k).2.2.1 = some (tyX1 k) := by decide +kernel
abbrev cX1_init : ByteArray := prog_1_method_1_code
def yX1_init : MethodName := ⟨RX1, "<init>", "()V"⟩
def dkwX1_init_3 : List UInt8 := [187, 0, 51, 89, 183, 0, 53, 181, 0, 54, 177]
abbrev dktX1_init_3 : List UInt8 := dkwX1_init_3 ++ []
def dkwX1_init_2 : List UInt8 := [5, 189, 0, 9, 181, 0, 39, 42, 17, 2, 88, 188, 8, 181, 0, 43, 42, 2, 181, 0, 47, 42]
abbrev dktX1_init_2 : List UInt8 := dkwX1_init_2 ++ dktX1_init_3
def dkwX1_init_1 : List UInt8 := [187, 0, 25, 89, 183, 0, 27, 181, 0, 28, 42, 187, 0, 32, 89, 16, 12, 183, 0, 34, 181, 0, 35, 42]
abbrev dktX1_init_1 : List UInt8 := dkwX1_init_1 ++ dktX1_init_2
def dkwX1_init_0 : List UInt8 := [42, 183, 0, 3, 42, 187, 0, 9, 89, 187, 0, 11, 89, 5, 183, 0, 13, 183, 0, 16, 181, 0, 19, 42]
abbrev dktX1_init_0 : List UInt8 := dkwX1_init_0 ++ dktX1_init_1
theorem dksX1_init_0 : cX1_init.data.toList.drop 0 = dktX1_init_0 := by decide +kernel
theorem dksX1_init_1 : cX1_init.data.toList.drop 24 = dktX1_init_1 := dk_seg dksX1_init_0 24 rfl rfl
theorem dksX1_init_2 : cX1_init.data.toList.drop 48 = dktX1_init_2 := dk_seg dksX1_init_1 24 rfl rfl
theorem dksX1_init_3 : cX1_init.data.toList.drop 70 = dktX1_init_3 := dk_seg dksX1_init_2 22 rfl rfl
theorem dX1_init_0 : decode cX1_init 0 = .ok (.aload_n 0, 1) := dk_42 (dk_at dksX1_init_0 0 rfl rfl)
theorem dX1_init_1 : decode cX1_init 1 = .ok (.invokespecial 3, 3) := dk_183 0 3 (dk_at dksX1_init_0 1 rfl rfl)
theorem dX1_init_4 : decode cX1_init 4 = .ok (.aload_n 0, 1) := dk_42 (dk_at dksX1_init_0 4 rfl rfl)
theorem dX1_init_5 : decode cX1_init 5 = .ok (.new 9, 3) := dk_187 0 9 (dk_at dksX1_init_0 5 rfl rfl)
theorem dX1_init_8 : decode cX1_init 8 = .ok (.dup, 1) := dk_89 (dk_at dksX1_init_0 8 rfl rfl)
theorem dX1_init_9 : decode cX1_init 9 = .ok (.new 11, 3) := dk_187 0 11 (dk_at dksX1_init_0 9 rfl rfl)
theorem dX1_init_12 : decode cX1_init 12 = .ok (.dup, 1) := dk_89 (dk_at dksX1_init_0 12 rfl rfl)
theorem dX1_init_13 : decode cX1_init 13 = .ok (.iconst 2, 1) := dk_5 (dk_at dksX1_init_0 13 rfl rfl)
theorem dX1_init_14 : decode cX1_init 14 = .ok (.invokespecial 13, 3) := dk_183 0 13 (dk_at dksX1_init_0 14 rfl rfl)
theorem dX1_init_17 : decode cX1_init 17 = .ok (.invokespecial 16, 3) := dk_183 0 16 (dk_at dksX1_init_0 17 rfl rfl)
theorem dX1_init_20 : decode cX1_init 20 = .ok (.putfield 19, 3) := dk_181 0 19 (dk_at dksX1_init_0 20 rfl rfl)
theorem dX1_init_23 : decode cX1_init 23 = .ok (.aload_n 0, 1) := dk_42 (dk_at dksX1_init_0 23 rfl rfl)
theorem dX1_init_24 : decode cX1_init 24 = .ok (.new 25, 3) := dk_187 0 25 (dk_at dksX1_init_1 0 rfl rfl)
theorem dX1_init_27 : decode cX1_init 27 = .ok (.dup, 1) := dk_89 (dk_at dksX1_init_1 3 rfl rfl)
theorem dX1_init_28 : decode cX1_init 28 = .ok (.invokespecial 27, 3) := dk_183 0 27 (dk_at dksX1_init_1 4 rfl rfl)
theorem dX1_init_31 : decode cX1_init 31 = .ok (.putfield 28, 3) := dk_181 0 28 (dk_at dksX1_init_1 7 rfl rfl)
theorem dX1_init_34 : decode cX1_init 34 = .ok (.aload_n 0, 1) := dk_42 (dk_at dksX1_init_1 10 rfl rfl)
theorem dX1_init_35 : decode cX1_init 35 = .ok (.new 32, 3) := dk_187 0 32 (dk_at dksX1_init_1 11 rfl rfl)
theorem dX1_init_38 : decode cX1_init 38 = .ok (.dup, 1) := dk_89 (dk_at dksX1_init_1 14 rfl rfl)
theorem dX1_init_39 : decode cX1_init 39 = .ok (.bipush 12, 2) := dk_16 12 (dk_at dksX1_init_1 15 rfl rfl)
theorem dX1_init_41 : decode cX1_init 41 = .ok (.invokespecial 34, 3) := dk_183 0 34 (dk_at dksX1_init_1 17 rfl rfl)
theorem dX1_init_44 : decode cX1_init 44 = .ok (.putfield 35, 3) := dk_181 0 35 (dk_at dksX1_init_1 20 rfl rfl)
theorem dX1_init_47 : decode cX1_init 47 = .ok (.aload_n 0, 1) := dk_42 (dk_at dksX1_init_1 23 rfl rfl)
theorem dX1_init_48 : decode cX1_init 48 = .ok (.iconst 2, 1) := dk_5 (dk_at dksX1_init_2 0 rfl rfl)
theorem dX1_init_49 : decode cX1_init 49 = .ok (.anewarray 9, 3) := dk_189 0 9 (dk_at dksX1_init_2 1 rfl rfl)
theorem dX1_init_52 : decode cX1_init 52 = .ok (.putfield 39, 3) := dk_181 0 39 (dk_at dksX1_init_2 4 rfl rfl)
theorem dX1_init_55 : decode cX1_init 55 = .ok (.aload_n 0, 1) := dk_42 (dk_at dksX1_init_2 7 rfl rfl)
theorem dX1_init_56 : decode cX1_init 56 = .ok (.sipush 600, 3) := dk_17 2 88 (dk_at dksX1_init_2 8 rfl rfl)
theorem dX1_init_59 : decode cX1_init 59 = .ok (.newarray .byte, 2) := dk_188_8 (dk_at dksX1_init_2 11 rfl rfl)
theorem dX1_init_61 : decode cX1_init 61 = .ok (.putfield 43, 3) := dk_181 0 43 (dk_at dksX1_init_2 13 rfl rfl)
theorem dX1_init_64 : decode cX1_init 64 = .ok (.aload_n 0, 1) := dk_42 (dk_at dksX1_init_2 16 rfl rfl)
theorem dX1_init_65 : decode cX1_init 65 = .ok (.iconst (-1), 1) := dk_2 (dk_at dksX1_init_2 17 rfl rfl)
theorem dX1_init_66 : decode cX1_init 66 = .ok (.putfield 47, 3) := dk_181 0 47 (dk_at dksX1_init_2 18 rfl rfl)
theorem dX1_init_69 : decode cX1_init 69 = .ok (.aload_n 0, 1) := dk_42 (dk_at dksX1_init_2 21 rfl rfl)
theorem dX1_init_70 : decode cX1_init 70 = .ok (.new 51, 3) := dk_187 0 51 (dk_at dksX1_init_3 0 rfl rfl)
theorem dX1_init_73 : decode cX1_init 73 = .ok (.dup, 1) := dk_89 (dk_at dksX1_init_3 3 rfl rfl)
theorem dX1_init_74 : decode cX1_init 74 = .ok (.invokespecial 53, 3) := dk_183 0 53 (dk_at dksX1_init_3 4 rfl rfl)
theorem dX1_init_77 : decode cX1_init 77 = .ok (.putfield 54, 3) := dk_181 0 54 (dk_at dksX1_init_3 7 rfl rfl)
theorem dX1_init_80 : decode cX1_init 80 = .ok (.return_, 1) := dk_177 (dk_at dksX1_init_3 10 rfl rfl)
abbrev cX1_append : ByteArray := prog_1_method_6_code
def yX1_append : MethodName := ⟨RX1, "append", "(J)I"⟩
def dkwX1_append_5 : List UInt8 := [172]
abbrev dktX1_append_5 : List UInt8 := dkwX1_append_5 ++ []
def dkwX1_append_4 : List UInt8 := [21, 5, 145, 84, 42, 89, 180, 0, 81, 4, 96, 181, 0, 81, 132, 4, 248, 167, 255, 207, 42, 180, 0, 81]
abbrev dktX1_append_4 : List UInt8 := dkwX1_append_4 ++ dktX1_append_5
def dkwX1_append_3 : List UInt8 := [20, 0, 79, 127, 136, 54, 5, 21, 5, 154, 0, 6, 167, 0, 25, 42, 180, 0, 43, 42, 180, 0, 81]
abbrev dktX1_append_3 : List UInt8 := dkwX1_append_3 ++ dktX1_append_4
def dkwX1_append_2 : List UInt8 := [17, 2, 88, 164, 0, 6, 16, 254, 172, 16, 56, 54, 4, 21, 4, 155, 0, 50, 31, 21, 4, 125]
abbrev dktX1_append_2 : List UInt8 := dkwX1_append_2 ++ dktX1_append_3
def dkwX1_append_1 : List UInt8 := [153, 0, 7, 4, 167, 0, 4, 3, 96, 62, 132, 4, 248, 167, 255, 227, 42, 180, 0, 81, 29, 96]
abbrev dktX1_append_1 : List UInt8 := dkwX1_append_1 ++ dktX1_append_2
def dkwX1_append_0 : List UInt8 := [3, 62, 16, 56, 54, 4, 21, 4, 155, 0, 30, 29, 31, 21, 4, 125, 20, 0, 79, 127, 9, 148]
abbrev dktX1_append_0 : List UInt8 := dkwX1_append_0 ++ dktX1_append_1
theorem dksX1_append_0 : cX1_append.data.toList.drop 0 = dktX1_append_0 := by decide +kernel
theorem dksX1_append_1 : cX1_append.data.toList.drop 22 = dktX1_append_1 := dk_seg dksX1_append_0 22 rfl rfl
theorem dksX1_append_2 : cX1_append.data.toList.drop 44 = dktX1_append_2 := dk_seg dksX1_append_1 22 rfl rfl
theorem dksX1_append_3 : cX1_append.data.toList.drop 66 = dktX1_append_3 := dk_seg dksX1_append_2 22 rfl rfl
theorem dksX1_append_4 : cX1_append.data.toList.drop 89 = dktX1_append_4 := dk_seg dksX1_append_3 23 rfl rfl
theorem dksX1_append_5 : cX1_append.data.toList.drop 113 = dktX1_append_5 := dk_seg dksX1_append_4 24 rfl rfl
theorem dX1_append_0 : decode cX1_append 0 = .ok (.iconst 0, 1) := dk_3 (dk_at dksX1_append_0 0 rfl rfl)
theorem dX1_append_1 : decode cX1_append 1 = .ok (.istore_n 3, 1) := dk_62 (dk_at dksX1_append_0 1 rfl rfl)
theorem dX1_append_2 : decode cX1_append 2 = .ok (.bipush 56, 2) := dk_16 56 (dk_at dksX1_append_0 2 rfl rfl)
theorem dX1_append_4 : decode cX1_append 4 = .ok (.istore 4, 2) := dk_54 4 (dk_at dksX1_append_0 4 rfl rfl)
theorem dX1_append_6 : decode cX1_append 6 = .ok (.iload 4, 2) := dk_21 4 (dk_at dksX1_append_0 6 rfl rfl)
theorem dX1_append_8 : decode cX1_append 8 = .ok (.ifCond .lt 30, 3) := dk_155 0 30 (dk_at dksX1_append_0 8 rfl rfl)
theorem dX1_append_11 : decode cX1_append 11 = .ok (.iload_n 3, 1) := dk_29 (dk_at dksX1_append_0 11 rfl rfl)
theorem dX1_append_12 : decode cX1_append 12 = .ok (.lload_n 1, 1) := dk_31 (dk_at dksX1_append_0 12 rfl rfl)
theorem dX1_append_13 : decode cX1_append 13 = .ok (.iload 4, 2) := dk_21 4 (dk_at dksX1_append_0 13 rfl rfl)
theorem dX1_append_15 : decode cX1_append 15 = .ok (.lushr, 1) := dk_125 (dk_at dksX1_append_0 15 rfl rfl)
theorem dX1_append_16 : decode cX1_append 16 = .ok (.ldc2_w 79, 3) := dk_20 0 79 (dk_at dksX1_append_0 16 rfl rfl)
theorem dX1_append_19 : decode cX1_append 19 = .ok (.land, 1) := dk_127 (dk_at dksX1_append_0 19 rfl rfl)
theorem dX1_append_20 : decode cX1_append 20 = .ok (.lconst 0, 1) := dk_9 (dk_at dksX1_append_0 20 rfl rfl)
theorem dX1_append_21 : decode cX1_append 21 = .ok (.lcmp, 1) := dk_148 (dk_at dksX1_append_0 21 rfl rfl)
theorem dX1_append_22 : decode cX1_append 22 = .ok (.ifCond .eq 7, 3) := dk_153 0 7 (dk_at dksX1_append_1 0 rfl rfl)
theorem dX1_append_25 : decode cX1_append 25 = .ok (.iconst 1, 1) := dk_4 (dk_at dksX1_append_1 3 rfl rfl)
theorem dX1_append_26 : decode cX1_append 26 = .ok (.goto 4, 3) := dk_167 0 4 (dk_at dksX1_append_1 4 rfl rfl)
theorem dX1_append_29 : decode cX1_append 29 = .ok (.iconst 0, 1) := dk_3 (dk_at dksX1_append_1 7 rfl rfl)
theorem dX1_append_30 : decode cX1_append 30 = .ok (.iadd, 1) := dk_96 (dk_at dksX1_append_1 8 rfl rfl)
theorem dX1_append_31 : decode cX1_append 31 = .ok (.istore_n 3, 1) := dk_62 (dk_at dksX1_append_1 9 rfl rfl)
theorem dX1_append_32 : decode cX1_append 32 = .ok (.iinc 4 (-8), 3) := dk_132 4 248 (dk_at dksX1_append_1 10 rfl rfl)
theorem dX1_append_35 : decode cX1_append 35 = .ok (.goto (-29), 3) := dk_167 255 227 (dk_at dksX1_append_1 13 rfl rfl)
theorem dX1_append_38 : decode cX1_append 38 = .ok (.aload_n 0, 1) := dk_42 (dk_at dksX1_append_1 16 rfl rfl)
theorem dX1_append_39 : decode cX1_append 39 = .ok (.getfield 81, 3) := dk_180 0 81 (dk_at dksX1_append_1 17 rfl rfl)
theorem dX1_append_42 : decode cX1_append 42 = .ok (.iload_n 3, 1) := dk_29 (dk_at dksX1_append_1 20 rfl rfl)
theorem dX1_append_43 : decode cX1_append 43 = .ok (.iadd, 1) := dk_96 (dk_at dksX1_append_1 21 rfl rfl)
theorem dX1_append_44 : decode cX1_append 44 = .ok (.sipush 600, 3) := dk_17 2 88 (dk_at dksX1_append_2 0 rfl rfl)
theorem dX1_append_47 : decode cX1_append 47 = .ok (.if_icmp .le 6, 3) := dk_164 0 6 (dk_at dksX1_append_2 3 rfl rfl)
theorem dX1_append_50 : decode cX1_append 50 = .ok (.bipush (-2), 2) := dk_16 254 (dk_at dksX1_append_2 6 rfl rfl)
theorem dX1_append_52 : decode cX1_append 52 = .ok (.ireturn, 1) := dk_172 (dk_at dksX1_append_2 8 rfl rfl)
theorem dX1_append_53 : decode cX1_append 53 = .ok (.bipush 56, 2) := dk_16 56 (dk_at dksX1_append_2 9 rfl rfl)
theorem dX1_append_55 : decode cX1_append 55 = .ok (.istore 4, 2) := dk_54 4 (dk_at dksX1_append_2 11 rfl rfl)
theorem dX1_append_57 : decode cX1_append 57 = .ok (.iload 4, 2) := dk_21 4 (dk_at dksX1_append_2 13 rfl rfl)
theorem dX1_append_59 : decode cX1_append 59 = .ok (.ifCond .lt 50, 3) := dk_155 0 50 (dk_at dksX1_append_2 15 rfl rfl)
theorem dX1_append_62 : decode cX1_append 62 = .ok (.lload_n 1, 1) := dk_31 (dk_at dksX1_append_2 18 rfl rfl)
theorem dX1_append_63 : decode cX1_append 63 = .ok (.iload 4, 2) := dk_21 4 (dk_at dksX1_append_2 19 rfl rfl)
theorem dX1_append_65 : decode cX1_append 65 = .ok (.lushr, 1) := dk_125 (dk_at dksX1_append_2 21 rfl rfl)
theorem dX1_append_66 : decode cX1_append 66 = .ok (.ldc2_w 79, 3) := dk_20 0 79 (dk_at dksX1_append_3 0 rfl rfl)
theorem dX1_append_69 : decode cX1_append 69 = .ok (.land, 1) := dk_127 (dk_at dksX1_append_3 3 rfl rfl)
theorem dX1_append_70 : decode cX1_append 70 = .ok (.l2i, 1) := dk_136 (dk_at dksX1_append_3 4 rfl rfl)
theorem dX1_append_71 : decode cX1_append 71 = .ok (.istore 5, 2) := dk_54 5 (dk_at dksX1_append_3 5 rfl rfl)
theorem dX1_append_73 : decode cX1_append 73 = .ok (.iload 5, 2) := dk_21 5 (dk_at dksX1_append_3 7 rfl rfl)
theorem dX1_append_75 : decode cX1_append 75 = .ok (.ifCond .ne 6, 3) := dk_154 0 6 (dk_at dksX1_append_3 9 rfl rfl)
theorem dX1_append_78 : decode cX1_append 78 = .ok (.goto 25, 3) := dk_167 0 25 (dk_at dksX1_append_3 12 rfl rfl)
theorem dX1_append_81 : decode cX1_append 81 = .ok (.aload_n 0, 1) := dk_42 (dk_at dksX1_append_3 15 rfl rfl)
theorem dX1_append_82 : decode cX1_append 82 = .ok (.getfield 43, 3) := dk_180 0 43 (dk_at dksX1_append_3 16 rfl rfl)
theorem dX1_append_85 : decode cX1_append 85 = .ok (.aload_n 0, 1) := dk_42 (dk_at dksX1_append_3 19 rfl rfl)
theorem dX1_append_86 : decode cX1_append 86 = .ok (.getfield 81, 3) := dk_180 0 81 (dk_at dksX1_append_3 20 rfl rfl)
theorem dX1_append_89 : decode cX1_append 89 = .ok (.iload 5, 2) := dk_21 5 (dk_at dksX1_append_4 0 rfl rfl)
theorem dX1_append_91 : decode cX1_append 91 = .ok (.i2b, 1) := dk_145 (dk_at dksX1_append_4 2 rfl rfl)
theorem dX1_append_92 : decode cX1_append 92 = .ok (.bastore, 1) := dk_84 (dk_at dksX1_append_4 3 rfl rfl)
theorem dX1_append_93 : decode cX1_append 93 = .ok (.aload_n 0, 1) := dk_42 (dk_at dksX1_append_4 4 rfl rfl)
theorem dX1_append_94 : decode cX1_append 94 = .ok (.dup, 1) := dk_89 (dk_at dksX1_append_4 5 rfl rfl)
theorem dX1_append_95 : decode cX1_append 95 = .ok (.getfield 81, 3) := dk_180 0 81 (dk_at dksX1_append_4 6 rfl rfl)
theorem dX1_append_98 : decode cX1_append 98 = .ok (.iconst 1, 1) := dk_4 (dk_at dksX1_append_4 9 rfl rfl)
theorem dX1_append_99 : decode cX1_append 99 = .ok (.iadd, 1) := dk_96 (dk_at dksX1_append_4 10 rfl rfl)
theorem dX1_append_100 : decode cX1_append 100 = .ok (.putfield 81, 3) := dk_181 0 81 (dk_at dksX1_append_4 11 rfl rfl)
theorem dX1_append_103 : decode cX1_append 103 = .ok (.iinc 4 (-8), 3) := dk_132 4 248 (dk_at dksX1_append_4 14 rfl rfl)
theorem dX1_append_106 : decode cX1_append 106 = .ok (.goto (-49), 3) := dk_167 255 207 (dk_at dksX1_append_4 17 rfl rfl)
theorem dX1_append_109 : decode cX1_append 109 = .ok (.aload_n 0, 1) := dk_42 (dk_at dksX1_append_4 20 rfl rfl)
theorem dX1_append_110 : decode cX1_append 110 = .ok (.getfield 81, 3) := dk_180 0 81 (dk_at dksX1_append_4 21 rfl rfl)
theorem dX1_append_113 : decode cX1_append 113 = .ok (.ireturn, 1) := dk_172 (dk_at dksX1_append_5 0 rfl rfl)
abbrev cX1_load : ByteArray := prog_1_method_7_code
def yX1_load : MethodName := ⟨RX1, "load", "()I"⟩
def dkwX1_load_4 : List UInt8 := [29, 172, 58, 4, 42, 3, 181, 0, 81, 25, 4, 191]
abbrev dktX1_load_4 : List UInt8 := dkwX1_load_4 ++ []
def dkwX1_load_3 : List UInt8 := [181, 0, 84, 42, 43, 180, 0, 115, 181, 0, 47, 16, 156, 44, 180, 0, 118, 100, 62, 42, 3, 181, 0, 81]
abbrev dktX1_load_3 : List UInt8 := dkwX1_load_3 ++ dktX1_load_4
def dkwX1_load_2 : List UInt8 := [180, 0, 103, 185, 0, 107, 1, 0, 61, 42, 3, 181, 0, 81, 28, 172, 77, 42, 44, 180, 0, 112]
abbrev dktX1_load_2 : List UInt8 := dkwX1_load_2 ++ dktX1_load_3
def dkwX1_load_1 : List UInt8 := [43, 182, 0, 92, 183, 0, 16, 181, 0, 19, 42, 180, 0, 35, 182, 0, 96, 42, 180, 0, 19, 180, 0, 99]
abbrev dktX1_load_1 : List UInt8 := dkwX1_load_1 ++ dktX1_load_2
def dkwX1_load_0 : List UInt8 := [42, 3, 181, 0, 84, 42, 2, 181, 0, 47, 187, 0, 87, 89, 42, 183, 0, 89, 76, 42, 187, 0, 9, 89]
abbrev dktX1_load_0 : List UInt8 := dkwX1_load_0 ++ dktX1_load_1
theorem dksX1_load_0 : cX1_load.data.toList.drop 0 = dktX1_load_0 := by decide +kernel
theorem dksX1_load_1 : cX1_load.data.toList.drop 24 = dktX1_load_1 := dk_seg dksX1_load_0 24 rfl rfl
theorem dksX1_load_2 : cX1_load.data.toList.drop 48 = dktX1_load_2 := dk_seg dksX1_load_1 24 rfl rfl
theorem dksX1_load_3 : cX1_load.data.toList.drop 70 = dktX1_load_3 := dk_seg dksX1_load_2 22 rfl rfl
theorem dksX1_load_4 : cX1_load.data.toList.drop 94 = dktX1_load_4 := dk_seg dksX1_load_3 24 rfl rfl
theorem dX1_load_0 : decode cX1_load 0 = .ok (.aload_n 0, 1) := dk_42 (dk_at dksX1_load_0 0 rfl rfl)
theorem dX1_load_1 : decode cX1_load 1 = .ok (.iconst 0, 1) := dk_3 (dk_at dksX1_load_0 1 rfl rfl)
theorem dX1_load_2 : decode cX1_load 2 = .ok (.putfield 84, 3) := dk_181 0 84 (dk_at dksX1_load_0 2 rfl rfl)
theorem dX1_load_5 : decode cX1_load 5 = .ok (.aload_n 0, 1) := dk_42 (dk_at dksX1_load_0 5 rfl rfl)
theorem dX1_load_6 : decode cX1_load 6 = .ok (.iconst (-1), 1) := dk_2 (dk_at dksX1_load_0 6 rfl rfl)
theorem dX1_load_7 : decode cX1_load 7 = .ok (.putfield 47, 3) := dk_181 0 47 (dk_at dksX1_load_0 7 rfl rfl)
theorem dX1_load_10 : decode cX1_load 10 = .ok (.new 87, 3) := dk_187 0 87 (dk_at dksX1_load_0 10 rfl rfl)
theorem dX1_load_13 : decode cX1_load 13 = .ok (.dup, 1) := dk_89 (dk_at dksX1_load_0 13 rfl rfl)
theorem dX1_load_14 : decode cX1_load 14 = .ok (.aload_n 0, 1) := dk_42 (dk_at dksX1_load_0 14 rfl rfl)
theorem dX1_load_15 : decode cX1_load 15 = .ok (.invokespecial 89, 3) := dk_183 0 89 (dk_at dksX1_load_0 15 rfl rfl)
theorem dX1_load_18 : decode cX1_load 18 = .ok (.astore_n 1, 1) := dk_76 (dk_at dksX1_load_0 18 rfl rfl)
theorem dX1_load_19 : decode cX1_load 19 = .ok (.aload_n 0, 1) := dk_42 (dk_at dksX1_load_0 19 rfl rfl)
theorem dX1_load_20 : decode cX1_load 20 = .ok (.new 9, 3) := dk_187 0 9 (dk_at dksX1_load_0 20 rfl rfl)
theorem dX1_load_23 : decode cX1_load 23 = .ok (.dup, 1) := dk_89 (dk_at dksX1_load_0 23 rfl rfl)
theorem dX1_load_24 : decode cX1_load 24 = .ok (.aload_n 1, 1) := dk_43 (dk_at dksX1_load_1 0 rfl rfl)
theorem dX1_load_25 : decode cX1_load 25 = .ok (.invokevirtual 92, 3) := dk_182 0 92 (dk_at dksX1_load_1 1 rfl rfl)
theorem dX1_load_28 : decode cX1_load 28 = .ok (.invokespecial 16, 3) := dk_183 0 16 (dk_at dksX1_load_1 4 rfl rfl)
theorem dX1_load_31 : decode cX1_load 31 = .ok (.putfield 19, 3) := dk_181 0 19 (dk_at dksX1_load_1 7 rfl rfl)
theorem dX1_load_34 : decode cX1_load 34 = .ok (.aload_n 0, 1) := dk_42 (dk_at dksX1_load_1 10 rfl rfl)
theorem dX1_load_35 : decode cX1_load 35 = .ok (.getfield 35, 3) := dk_180 0 35 (dk_at dksX1_load_1 11 rfl rfl)
theorem dX1_load_38 : decode cX1_load 38 = .ok (.invokevirtual 96, 3) := dk_182 0 96 (dk_at dksX1_load_1 14 rfl rfl)
theorem dX1_load_41 : decode cX1_load 41 = .ok (.aload_n 0, 1) := dk_42 (dk_at dksX1_load_1 17 rfl rfl)
theorem dX1_load_42 : decode cX1_load 42 = .ok (.getfield 19, 3) := dk_180 0 19 (dk_at dksX1_load_1 18 rfl rfl)
theorem dX1_load_45 : decode cX1_load 45 = .ok (.getfield 99, 3) := dk_180 0 99 (dk_at dksX1_load_1 21 rfl rfl)
theorem dX1_load_48 : decode cX1_load 48 = .ok (.getfield 103, 3) := dk_180 0 103 (dk_at dksX1_load_2 0 rfl rfl)
theorem dX1_load_51 : decode cX1_load 51 = .ok (.invokeinterface 107 1, 5) := by decide +kernel
theorem dX1_load_56 : decode cX1_load 56 = .ok (.istore_n 2, 1) := dk_61 (dk_at dksX1_load_2 8 rfl rfl)
theorem dX1_load_57 : decode cX1_load 57 = .ok (.aload_n 0, 1) := dk_42 (dk_at dksX1_load_2 9 rfl rfl)
theorem dX1_load_58 : decode cX1_load 58 = .ok (.iconst 0, 1) := dk_3 (dk_at dksX1_load_2 10 rfl rfl)
theorem dX1_load_59 : decode cX1_load 59 = .ok (.putfield 81, 3) := dk_181 0 81 (dk_at dksX1_load_2 11 rfl rfl)
theorem dX1_load_62 : decode cX1_load 62 = .ok (.iload_n 2, 1) := dk_28 (dk_at dksX1_load_2 14 rfl rfl)
theorem dX1_load_63 : decode cX1_load 63 = .ok (.ireturn, 1) := dk_172 (dk_at dksX1_load_2 15 rfl rfl)
theorem dX1_load_64 : decode cX1_load 64 = .ok (.astore_n 2, 1) := dk_77 (dk_at dksX1_load_2 16 rfl rfl)
theorem dX1_load_65 : decode cX1_load 65 = .ok (.aload_n 0, 1) := dk_42 (dk_at dksX1_load_2 17 rfl rfl)
theorem dX1_load_66 : decode cX1_load 66 = .ok (.aload_n 2, 1) := dk_44 (dk_at dksX1_load_2 18 rfl rfl)
theorem dX1_load_67 : decode cX1_load 67 = .ok (.getfield 112, 3) := dk_180 0 112 (dk_at dksX1_load_2 19 rfl rfl)
theorem dX1_load_70 : decode cX1_load 70 = .ok (.putfield 84, 3) := dk_181 0 84 (dk_at dksX1_load_3 0 rfl rfl)
theorem dX1_load_73 : decode cX1_load 73 = .ok (.aload_n 0, 1) := dk_42 (dk_at dksX1_load_3 3 rfl rfl)
theorem dX1_load_74 : decode cX1_load 74 = .ok (.aload_n 1, 1) := dk_43 (dk_at dksX1_load_3 4 rfl rfl)
theorem dX1_load_75 : decode cX1_load 75 = .ok (.getfield 115, 3) := dk_180 0 115 (dk_at dksX1_load_3 5 rfl rfl)
theorem dX1_load_78 : decode cX1_load 78 = .ok (.putfield 47, 3) := dk_181 0 47 (dk_at dksX1_load_3 8 rfl rfl)
theorem dX1_load_81 : decode cX1_load 81 = .ok (.bipush (-100), 2) := dk_16 156 (dk_at dksX1_load_3 11 rfl rfl)
theorem dX1_load_83 : decode cX1_load 83 = .ok (.aload_n 2, 1) := dk_44 (dk_at dksX1_load_3 13 rfl rfl)
theorem dX1_load_84 : decode cX1_load 84 = .ok (.getfield 118, 3) := dk_180 0 118 (dk_at dksX1_load_3 14 rfl rfl)
theorem dX1_load_87 : decode cX1_load 87 = .ok (.isub, 1) := dk_100 (dk_at dksX1_load_3 17 rfl rfl)
theorem dX1_load_88 : decode cX1_load 88 = .ok (.istore_n 3, 1) := dk_62 (dk_at dksX1_load_3 18 rfl rfl)
theorem dX1_load_89 : decode cX1_load 89 = .ok (.aload_n 0, 1) := dk_42 (dk_at dksX1_load_3 19 rfl rfl)
theorem dX1_load_90 : decode cX1_load 90 = .ok (.iconst 0, 1) := dk_3 (dk_at dksX1_load_3 20 rfl rfl)
theorem dX1_load_91 : decode cX1_load 91 = .ok (.putfield 81, 3) := dk_181 0 81 (dk_at dksX1_load_3 21 rfl rfl)
theorem dX1_load_94 : decode cX1_load 94 = .ok (.iload_n 3, 1) := dk_29 (dk_at dksX1_load_4 0 rfl rfl)
theorem dX1_load_95 : decode cX1_load 95 = .ok (.ireturn, 1) := dk_172 (dk_at dksX1_load_4 1 rfl rfl)
theorem dX1_load_96 : decode cX1_load 96 = .ok (.astore 4, 2) := dk_58 4 (dk_at dksX1_load_4 2 rfl rfl)
theorem dX1_load_98 : decode cX1_load 98 = .ok (.aload_n 0, 1) := dk_42 (dk_at dksX1_load_4 4 rfl rfl)
theorem dX1_load_99 : decode cX1_load 99 = .ok (.iconst 0, 1) := dk_3 (dk_at dksX1_load_4 5 rfl rfl)
theorem dX1_load_100 : decode cX1_load 100 = .ok (.putfield 81, 3) := dk_181 0 81 (dk_at dksX1_load_4 6 rfl rfl)
theorem dX1_load_103 : decode cX1_load 103 = .ok (.aload 4, 2) := dk_25 4 (dk_at dksX1_load_4 9 rfl rfl)
theorem dX1_load_105 : decode cX1_load 105 = .ok (.athrow, 1) := dk_191 (dk_at dksX1_load_4 11 rfl rfl)
abbrev cX1_inRange : ByteArray := prog_1_method_2_code
def yX1_inRange : MethodName := ⟨RX1, "inRange", "(JJJ)Z"⟩
def dkwX1_inRange_0 : List UInt8 := [32, 30, 148, 157, 0, 14, 30, 22, 4, 148, 157, 0, 7, 4, 167, 0, 4, 3, 172]
abbrev dktX1_inRange_0 : List UInt8 := dkwX1_inRange_0 ++ []
theorem dksX1_inRange_0 : cX1_inRange.data.toList.drop 0 = dktX1_inRange_0 := by decide +kernel
theorem dX1_inRange_0 : decode cX1_inRange 0 = .ok (.lload_n 2, 1) := dk_32 (dk_at dksX1_inRange_0 0 rfl rfl)
theorem dX1_inRange_1 : decode cX1_inRange 1 = .ok (.lload_n 0, 1) := dk_30 (dk_at dksX1_inRange_0 1 rfl rfl)
theorem dX1_inRange_2 : decode cX1_inRange 2 = .ok (.lcmp, 1) := dk_148 (dk_at dksX1_inRange_0 2 rfl rfl)
theorem dX1_inRange_3 : decode cX1_inRange 3 = .ok (.ifCond .gt 14, 3) := dk_157 0 14 (dk_at dksX1_inRange_0 3 rfl rfl)
theorem dX1_inRange_6 : decode cX1_inRange 6 = .ok (.lload_n 0, 1) := dk_30 (dk_at dksX1_inRange_0 6 rfl rfl)
theorem dX1_inRange_7 : decode cX1_inRange 7 = .ok (.lload 4, 2) := dk_22 4 (dk_at dksX1_inRange_0 7 rfl rfl)
theorem dX1_inRange_9 : decode cX1_inRange 9 = .ok (.lcmp, 1) := dk_148 (dk_at dksX1_inRange_0 9 rfl rfl)
theorem dX1_inRange_10 : decode cX1_inRange 10 = .ok (.ifCond .gt 7, 3) := dk_157 0 7 (dk_at dksX1_inRange_0 10 rfl rfl)
theorem dX1_inRange_13 : decode cX1_inRange 13 = .ok (.iconst 1, 1) := dk_4 (dk_at dksX1_inRange_0 13 rfl rfl)
theorem dX1_inRange_14 : decode cX1_inRange 14 = .ok (.goto 4, 3) := dk_167 0 4 (dk_at dksX1_inRange_0 14 rfl rfl)
theorem dX1_inRange_17 : decode cX1_inRange 17 = .ok (.iconst 0, 1) := dk_3 (dk_at dksX1_inRange_0 17 rfl rfl)
theorem dX1_inRange_18 : decode cX1_inRange 18 = .ok (.ireturn, 1) := dk_172 (dk_at dksX1_inRange_0 18 rfl rfl)
abbrev cX1_loadError : ByteArray := prog_1_method_8_code
def yX1_loadError : MethodName := ⟨RX1, "loadError", "()I"⟩
theorem dX1_loadError_0 : decode cX1_loadError 0 = .ok (.aload_n 0, 1) := by decide +kernel
theorem dX1_loadError_1 : decode cX1_loadError 1 = .ok (.getfield 84, 3) := by decide +kernel
theorem dX1_loadError_4 : decode cX1_loadError 4 = .ok (.ireturn, 1) := by decide +kernel
abbrev cX1_loadStatement : ByteArray := prog_1_method_9_code
def yX1_loadStatement : MethodName := ⟨RX1, "loadStatement", "()I"⟩
theorem dX1_loadStatement_0 : decode cX1_loadStatement 0 = .ok (.aload_n 0, 1) := by decide +kernel
theorem dX1_loadStatement_1 : decode cX1_loadStatement 1 = .ok (.getfield 47, 3) := by decide +kernel
theorem dX1_loadStatement_4 : decode cX1_loadStatement 4 = .ok (.ireturn, 1) := by decide +kernel
abbrev cX1_clearTolls : ByteArray := prog_1_method_20_code
def yX1_clearTolls : MethodName := ⟨RX1, "clearTolls", "()I"⟩
def dkwX1_clearTolls_2 : List UInt8 := [167, 255, 217, 27, 172]
abbrev dktX1_clearTolls_2 : List UInt8 := dkwX1_clearTolls_2 ++ []
def dkwX1_clearTolls_1 : List UInt8 := [153, 0, 7, 4, 167, 0, 4, 3, 96, 60, 42, 180, 0, 19, 180, 0, 218, 28, 3, 79, 132, 2, 1]
abbrev dktX1_clearTolls_1 : List UInt8 := dkwX1_clearTolls_1 ++ dktX1_clearTolls_2
def dkwX1_clearTolls_0 : List UInt8 := [42, 182, 0, 215, 3, 60, 3, 61, 28, 16, 24, 162, 0, 39, 27, 42, 180, 0, 19, 180, 0, 218, 28, 46]
abbrev dktX1_clearTolls_0 : List UInt8 := dkwX1_clearTolls_0 ++ dktX1_clearTolls_1
theorem dksX1_clearTolls_0 : cX1_clearTolls.data.toList.drop 0 = dktX1_clearTolls_0 := by decide +kernel
theorem dksX1_clearTolls_1 : cX1_clearTolls.data.toList.drop 24 = dktX1_clearTolls_1 := dk_seg dksX1_clearTolls_0 24 rfl rfl
theorem dksX1_clearTolls_2 : cX1_clearTolls.data.toList.drop 47 = dktX1_clearTolls_2 := dk_seg dksX1_clearTolls_1 23 rfl rfl
theorem dX1_clearTolls_0 : decode cX1_clearTolls 0 = .ok (.aload_n 0, 1) := dk_42 (dk_at dksX1_clearTolls_0 0 rfl rfl)
theorem dX1_clearTolls_1 : decode cX1_clearTolls 1 = .ok (.invokevirtual 215, 3) := dk_182 0 215 (dk_at dksX1_clearTolls_0 1 rfl rfl)
theorem dX1_clearTolls_4 : decode cX1_clearTolls 4 = .ok (.iconst 0, 1) := dk_3 (dk_at dksX1_clearTolls_0 4 rfl rfl)
theorem dX1_clearTolls_5 : decode cX1_clearTolls 5 = .ok (.istore_n 1, 1) := dk_60 (dk_at dksX1_clearTolls_0 5 rfl rfl)
theorem dX1_clearTolls_6 : decode cX1_clearTolls 6 = .ok (.iconst 0, 1) := dk_3 (dk_at dksX1_clearTolls_0 6 rfl rfl)
theorem dX1_clearTolls_7 : decode cX1_clearTolls 7 = .ok (.istore_n 2, 1) := dk_61 (dk_at dksX1_clearTolls_0 7 rfl rfl)
theorem dX1_clearTolls_8 : decode cX1_clearTolls 8 = .ok (.iload_n 2, 1) := dk_28 (dk_at dksX1_clearTolls_0 8 rfl rfl)
theorem dX1_clearTolls_9 : decode cX1_clearTolls 9 = .ok (.bipush 24, 2) := dk_16 24 (dk_at dksX1_clearTolls_0 9 rfl rfl)
theorem dX1_clearTolls_11 : decode cX1_clearTolls 11 = .ok (.if_icmp .ge 39, 3) := dk_162 0 39 (dk_at dksX1_clearTolls_0 11 rfl rfl)
theorem dX1_clearTolls_14 : decode cX1_clearTolls 14 = .ok (.iload_n 1, 1) := dk_27 (dk_at dksX1_clearTolls_0 14 rfl rfl)
theorem dX1_clearTolls_15 : decode cX1_clearTolls 15 = .ok (.aload_n 0, 1) := dk_42 (dk_at dksX1_clearTolls_0 15 rfl rfl)
theorem dX1_clearTolls_16 : decode cX1_clearTolls 16 = .ok (.getfield 19, 3) := dk_180 0 19 (dk_at dksX1_clearTolls_0 16 rfl rfl)
theorem dX1_clearTolls_19 : decode cX1_clearTolls 19 = .ok (.getfield 218, 3) := dk_180 0 218 (dk_at dksX1_clearTolls_0 19 rfl rfl)
theorem dX1_clearTolls_22 : decode cX1_clearTolls 22 = .ok (.iload_n 2, 1) := dk_28 (dk_at dksX1_clearTolls_0 22 rfl rfl)
theorem dX1_clearTolls_23 : decode cX1_clearTolls 23 = .ok (.iaload, 1) := dk_46 (dk_at dksX1_clearTolls_0 23 rfl rfl)
theorem dX1_clearTolls_24 : decode cX1_clearTolls 24 = .ok (.ifCond .eq 7, 3) := dk_153 0 7 (dk_at dksX1_clearTolls_1 0 rfl rfl)
theorem dX1_clearTolls_27 : decode cX1_clearTolls 27 = .ok (.iconst 1, 1) := dk_4 (dk_at dksX1_clearTolls_1 3 rfl rfl)
theorem dX1_clearTolls_28 : decode cX1_clearTolls 28 = .ok (.goto 4, 3) := dk_167 0 4 (dk_at dksX1_clearTolls_1 4 rfl rfl)
theorem dX1_clearTolls_31 : decode cX1_clearTolls 31 = .ok (.iconst 0, 1) := dk_3 (dk_at dksX1_clearTolls_1 7 rfl rfl)
theorem dX1_clearTolls_32 : decode cX1_clearTolls 32 = .ok (.iadd, 1) := dk_96 (dk_at dksX1_clearTolls_1 8 rfl rfl)
theorem dX1_clearTolls_33 : decode cX1_clearTolls 33 = .ok (.istore_n 1, 1) := dk_60 (dk_at dksX1_clearTolls_1 9 rfl rfl)
theorem dX1_clearTolls_34 : decode cX1_clearTolls 34 = .ok (.aload_n 0, 1) := dk_42 (dk_at dksX1_clearTolls_1 10 rfl rfl)
theorem dX1_clearTolls_35 : decode cX1_clearTolls 35 = .ok (.getfield 19, 3) := dk_180 0 19 (dk_at dksX1_clearTolls_1 11 rfl rfl)
theorem dX1_clearTolls_38 : decode cX1_clearTolls 38 = .ok (.getfield 218, 3) := dk_180 0 218 (dk_at dksX1_clearTolls_1 14 rfl rfl)
theorem dX1_clearTolls_41 : decode cX1_clearTolls 41 = .ok (.iload_n 2, 1) := dk_28 (dk_at dksX1_clearTolls_1 17 rfl rfl)
theorem dX1_clearTolls_42 : decode cX1_clearTolls 42 = .ok (.iconst 0, 1) := dk_3 (dk_at dksX1_clearTolls_1 18 rfl rfl)
theorem dX1_clearTolls_43 : decode cX1_clearTolls 43 = .ok (.iastore, 1) := dk_79 (dk_at dksX1_clearTolls_1 19 rfl rfl)
theorem dX1_clearTolls_44 : decode cX1_clearTolls 44 = .ok (.iinc 2 1, 3) := dk_132 2 1 (dk_at dksX1_clearTolls_1 20 rfl rfl)
theorem dX1_clearTolls_47 : decode cX1_clearTolls 47 = .ok (.goto (-39), 3) := dk_167 255 217 (dk_at dksX1_clearTolls_2 0 rfl rfl)
theorem dX1_clearTolls_50 : decode cX1_clearTolls 50 = .ok (.iload_n 1, 1) := dk_27 (dk_at dksX1_clearTolls_2 3 rfl rfl)
theorem dX1_clearTolls_51 : decode cX1_clearTolls 51 = .ok (.ireturn, 1) := dk_172 (dk_at dksX1_clearTolls_2 4 rfl rfl)
abbrev cX1_act : ByteArray := prog_1_method_5_code
def yX1_act : MethodName := ⟨RX1, "act", "()V"⟩
def dkwX1_act_1 : List UInt8 := [180, 0, 35, 187, 0, 9, 89, 42, 180, 0, 19, 183, 0, 72, 182, 0, 75, 177]
abbrev dktX1_act_1 : List UInt8 := dkwX1_act_1 ++ []
def dkwX1_act_0 : List UInt8 := [42, 180, 0, 35, 182, 0, 64, 16, 12, 160, 0, 14, 42, 180, 0, 35, 182, 0, 68, 192, 0, 9, 76, 42]
abbrev dktX1_act_0 : List UInt8 := dkwX1_act_0 ++ dktX1_act_1
theorem dksX1_act_0 : cX1_act.data.toList.drop 0 = dktX1_act_0 := by decide +kernel
theorem dksX1_act_1 : cX1_act.data.toList.drop 24 = dktX1_act_1 := dk_seg dksX1_act_0 24 rfl rfl
theorem dX1_act_0 : decode cX1_act 0 = .ok (.aload_n 0, 1) := dk_42 (dk_at dksX1_act_0 0 rfl rfl)
theorem dX1_act_1 : decode cX1_act 1 = .ok (.getfield 35, 3) := dk_180 0 35 (dk_at dksX1_act_0 1 rfl rfl)
theorem dX1_act_4 : decode cX1_act 4 = .ok (.invokevirtual 64, 3) := dk_182 0 64 (dk_at dksX1_act_0 4 rfl rfl)
theorem dX1_act_7 : decode cX1_act 7 = .ok (.bipush 12, 2) := dk_16 12 (dk_at dksX1_act_0 7 rfl rfl)
theorem dX1_act_9 : decode cX1_act 9 = .ok (.if_icmp .ne 14, 3) := dk_160 0 14 (dk_at dksX1_act_0 9 rfl rfl)
theorem dX1_act_12 : decode cX1_act 12 = .ok (.aload_n 0, 1) := dk_42 (dk_at dksX1_act_0 12 rfl rfl)
theorem dX1_act_13 : decode cX1_act 13 = .ok (.getfield 35, 3) := dk_180 0 35 (dk_at dksX1_act_0 13 rfl rfl)
theorem dX1_act_16 : decode cX1_act 16 = .ok (.invokevirtual 68, 3) := dk_182 0 68 (dk_at dksX1_act_0 16 rfl rfl)
theorem dX1_act_19 : decode cX1_act 19 = .ok (.checkcast 9, 3) := dk_192 0 9 (dk_at dksX1_act_0 19 rfl rfl)
theorem dX1_act_22 : decode cX1_act 22 = .ok (.astore_n 1, 1) := dk_76 (dk_at dksX1_act_0 22 rfl rfl)
theorem dX1_act_23 : decode cX1_act 23 = .ok (.aload_n 0, 1) := dk_42 (dk_at dksX1_act_0 23 rfl rfl)
theorem dX1_act_24 : decode cX1_act 24 = .ok (.getfield 35, 3) := dk_180 0 35 (dk_at dksX1_act_1 0 rfl rfl)
theorem dX1_act_27 : decode cX1_act 27 = .ok (.new 9, 3) := dk_187 0 9 (dk_at dksX1_act_1 3 rfl rfl)
theorem dX1_act_30 : decode cX1_act 30 = .ok (.dup, 1) := dk_89 (dk_at dksX1_act_1 6 rfl rfl)
theorem dX1_act_31 : decode cX1_act 31 = .ok (.aload_n 0, 1) := dk_42 (dk_at dksX1_act_1 7 rfl rfl)
theorem dX1_act_32 : decode cX1_act 32 = .ok (.getfield 19, 3) := dk_180 0 19 (dk_at dksX1_act_1 8 rfl rfl)
theorem dX1_act_35 : decode cX1_act 35 = .ok (.invokespecial 72, 3) := dk_183 0 72 (dk_at dksX1_act_1 11 rfl rfl)
theorem dX1_act_38 : decode cX1_act 38 = .ok (.invokevirtual 75, 3) := dk_182 0 75 (dk_at dksX1_act_1 14 rfl rfl)
theorem dX1_act_41 : decode cX1_act 41 = .ok (.return_, 1) := dk_177 (dk_at dksX1_act_1 17 rfl rfl)
abbrev cX1_setTies : ByteArray := prog_1_method_23_code
def yX1_setTies : MethodName := ⟨RX1, "setTies", "(Z)Z"⟩
def dkwX1_setTies_0 : List UInt8 := [42, 182, 0, 215, 42, 180, 0, 19, 180, 0, 245, 61, 42, 180, 0, 19, 27, 181, 0, 245, 28, 172]
abbrev dktX1_setTies_0 : List UInt8 := dkwX1_setTies_0 ++ []
theorem dksX1_setTies_0 : cX1_setTies.data.toList.drop 0 = dktX1_setTies_0 := by decide +kernel
theorem dX1_setTies_0 : decode cX1_setTies 0 = .ok (.aload_n 0, 1) := dk_42 (dk_at dksX1_setTies_0 0 rfl rfl)
theorem dX1_setTies_1 : decode cX1_setTies 1 = .ok (.invokevirtual 215, 3) := dk_182 0 215 (dk_at dksX1_setTies_0 1 rfl rfl)
theorem dX1_setTies_4 : decode cX1_setTies 4 = .ok (.aload_n 0, 1) := dk_42 (dk_at dksX1_setTies_0 4 rfl rfl)
theorem dX1_setTies_5 : decode cX1_setTies 5 = .ok (.getfield 19, 3) := dk_180 0 19 (dk_at dksX1_setTies_0 5 rfl rfl)
theorem dX1_setTies_8 : decode cX1_setTies 8 = .ok (.getfield 245, 3) := dk_180 0 245 (dk_at dksX1_setTies_0 8 rfl rfl)
theorem dX1_setTies_11 : decode cX1_setTies 11 = .ok (.istore_n 2, 1) := dk_61 (dk_at dksX1_setTies_0 11 rfl rfl)
theorem dX1_setTies_12 : decode cX1_setTies 12 = .ok (.aload_n 0, 1) := dk_42 (dk_at dksX1_setTies_0 12 rfl rfl)
theorem dX1_setTies_13 : decode cX1_setTies 13 = .ok (.getfield 19, 3) := dk_180 0 19 (dk_at dksX1_setTies_0 13 rfl rfl)
theorem dX1_setTies_16 : decode cX1_setTies 16 = .ok (.iload_n 1, 1) := dk_27 (dk_at dksX1_setTies_0 16 rfl rfl)
theorem dX1_setTies_17 : decode cX1_setTies 17 = .ok (.putfield 245, 3) := dk_181 0 245 (dk_at dksX1_setTies_0 17 rfl rfl)
theorem dX1_setTies_20 : decode cX1_setTies 20 = .ok (.iload_n 2, 1) := dk_28 (dk_at dksX1_setTies_0 20 rfl rfl)
theorem dX1_setTies_21 : decode cX1_setTies 21 = .ok (.ireturn, 1) := dk_172 (dk_at dksX1_setTies_0 21 rfl rfl)
abbrev cX1_tiesForLeader : ByteArray := prog_1_method_24_code
def yX1_tiesForLeader : MethodName := ⟨RX1, "tiesForLeader", "()Z"⟩
def dkwX1_tiesForLeader_0 : List UInt8 := [42, 180, 0, 19, 180, 0, 245, 172]
abbrev dktX1_tiesForLeader_0 : List UInt8 := dkwX1_tiesForLeader_0 ++ []
theorem dksX1_tiesForLeader_0 : cX1_tiesForLeader.data.toList.drop 0 = dktX1_tiesForLeader_0 := by decide +kernel
theorem dX1_tiesForLeader_0 : decode cX1_tiesForLeader 0 = .ok (.aload_n 0, 1) := dk_42 (dk_at dksX1_tiesForLeader_0 0 rfl rfl)
theorem dX1_tiesForLeader_1 : decode cX1_tiesForLeader 1 = .ok (.getfield 19, 3) := dk_180 0 19 (dk_at dksX1_tiesForLeader_0 1 rfl rfl)
theorem dX1_tiesForLeader_4 : decode cX1_tiesForLeader 4 = .ok (.getfield 245, 3) := dk_180 0 245 (dk_at dksX1_tiesForLeader_0 4 rfl rfl)
theorem dX1_tiesForLeader_7 : decode cX1_tiesForLeader 7 = .ok (.ireturn, 1) := dk_172 (dk_at dksX1_tiesForLeader_0 7 rfl rfl)
abbrev cX1_undo : ByteArray := prog_1_method_25_code
def yX1_undo : MethodName := ⟨RX1, "undo", "()I"⟩
def dkwX1_undo_1 : List UInt8 := [181, 0, 19, 42, 180, 0, 35, 182, 0, 64, 172]
abbrev dktX1_undo_1 : List UInt8 := dkwX1_undo_1 ++ []
def dkwX1_undo_0 : List UInt8 := [42, 180, 0, 35, 182, 0, 249, 153, 0, 5, 2, 172, 42, 42, 180, 0, 35, 182, 0, 252, 192, 0, 9]
abbrev dktX1_undo_0 : List UInt8 := dkwX1_undo_0 ++ dktX1_undo_1
theorem dksX1_undo_0 : cX1_undo.data.toList.drop 0 = dktX1_undo_0 := by decide +kernel
theorem dksX1_undo_1 : cX1_undo.data.toList.drop 23 = dktX1_undo_1 := dk_seg dksX1_undo_0 23 rfl rfl
theorem dX1_undo_0 : decode cX1_undo 0 = .ok (.aload_n 0, 1) := dk_42 (dk_at dksX1_undo_0 0 rfl rfl)
theorem dX1_undo_1 : decode cX1_undo 1 = .ok (.getfield 35, 3) := dk_180 0 35 (dk_at dksX1_undo_0 1 rfl rfl)
theorem dX1_undo_4 : decode cX1_undo 4 = .ok (.invokevirtual 249, 3) := dk_182 0 249 (dk_at dksX1_undo_0 4 rfl rfl)
theorem dX1_undo_7 : decode cX1_undo 7 = .ok (.ifCond .eq 5, 3) := dk_153 0 5 (dk_at dksX1_undo_0 7 rfl rfl)
theorem dX1_undo_10 : decode cX1_undo 10 = .ok (.iconst (-1), 1) := dk_2 (dk_at dksX1_undo_0 10 rfl rfl)
theorem dX1_undo_11 : decode cX1_undo 11 = .ok (.ireturn, 1) := dk_172 (dk_at dksX1_undo_0 11 rfl rfl)
theorem dX1_undo_12 : decode cX1_undo 12 = .ok (.aload_n 0, 1) := dk_42 (dk_at dksX1_undo_0 12 rfl rfl)
theorem dX1_undo_13 : decode cX1_undo 13 = .ok (.aload_n 0, 1) := dk_42 (dk_at dksX1_undo_0 13 rfl rfl)
theorem dX1_undo_14 : decode cX1_undo 14 = .ok (.getfield 35, 3) := dk_180 0 35 (dk_at dksX1_undo_0 14 rfl rfl)
theorem dX1_undo_17 : decode cX1_undo 17 = .ok (.invokevirtual 252, 3) := dk_182 0 252 (dk_at dksX1_undo_0 17 rfl rfl)
theorem dX1_undo_20 : decode cX1_undo 20 = .ok (.checkcast 9, 3) := dk_192 0 9 (dk_at dksX1_undo_0 20 rfl rfl)
theorem dX1_undo_23 : decode cX1_undo 23 = .ok (.putfield 19, 3) := dk_181 0 19 (dk_at dksX1_undo_1 0 rfl rfl)
theorem dX1_undo_26 : decode cX1_undo 26 = .ok (.aload_n 0, 1) := dk_42 (dk_at dksX1_undo_1 3 rfl rfl)
theorem dX1_undo_27 : decode cX1_undo 27 = .ok (.getfield 35, 3) := dk_180 0 35 (dk_at dksX1_undo_1 4 rfl rfl)
theorem dX1_undo_30 : decode cX1_undo 30 = .ok (.invokevirtual 64, 3) := dk_182 0 64 (dk_at dksX1_undo_1 7 rfl rfl)
theorem dX1_undo_33 : decode cX1_undo 33 = .ok (.ireturn, 1) := dk_172 (dk_at dksX1_undo_1 10 rfl rfl)
abbrev cX1_undoCount : ByteArray := prog_1_method_26_code
def yX1_undoCount : MethodName := ⟨RX1, "undoCount", "()I"⟩
def dkwX1_undoCount_0 : List UInt8 := [42, 180, 0, 35, 182, 0, 64, 172]
abbrev dktX1_undoCount_0 : List UInt8 := dkwX1_undoCount_0 ++ []
theorem dksX1_undoCount_0 : cX1_undoCount.data.toList.drop 0 = dktX1_undoCount_0 := by decide +kernel
theorem dX1_undoCount_0 : decode cX1_undoCount 0 = .ok (.aload_n 0, 1) := dk_42 (dk_at dksX1_undoCount_0 0 rfl rfl)
theorem dX1_undoCount_1 : decode cX1_undoCount 1 = .ok (.getfield 35, 3) := dk_180 0 35 (dk_at dksX1_undoCount_0 1 rfl rfl)
theorem dX1_undoCount_4 : decode cX1_undoCount 4 = .ok (.invokevirtual 64, 3) := dk_182 0 64 (dk_at dksX1_undoCount_0 4 rfl rfl)
theorem dX1_undoCount_7 : decode cX1_undoCount 7 = .ok (.ireturn, 1) := dk_172 (dk_at dksX1_undoCount_0 7 rfl rfl)
abbrev cX1_busiest : ByteArray := prog_1_method_41_code
def yX1_busiest : MethodName := ⟨RX1, "busiest", "()I"⟩
def dkwX1_busiest_2 : List UInt8 := [21, 4, 184, 0, 234, 61, 132, 3, 1, 167, 255, 208, 27, 172]
abbrev dktX1_busiest_2 : List UInt8 := dkwX1_busiest_2 ++ []
def dkwX1_busiest_1 : List UInt8 := [162, 0, 35, 42, 29, 182, 1, 50, 54, 4, 21, 4, 28, 164, 0, 7, 29, 167, 0, 4, 27, 60, 28]
abbrev dktX1_busiest_1 : List UInt8 := dkwX1_busiest_1 ++ dktX1_busiest_2
def dkwX1_busiest_0 : List UInt8 := [2, 60, 2, 61, 3, 62, 29, 42, 180, 0, 19, 180, 0, 99, 180, 0, 103, 185, 0, 107, 1, 0]
abbrev dktX1_busiest_0 : List UInt8 := dkwX1_busiest_0 ++ dktX1_busiest_1
theorem dksX1_busiest_0 : cX1_busiest.data.toList.drop 0 = dktX1_busiest_0 := by decide +kernel
theorem dksX1_busiest_1 : cX1_busiest.data.toList.drop 22 = dktX1_busiest_1 := dk_seg dksX1_busiest_0 22 rfl rfl
theorem dksX1_busiest_2 : cX1_busiest.data.toList.drop 45 = dktX1_busiest_2 := dk_seg dksX1_busiest_1 23 rfl rfl
theorem dX1_busiest_0 : decode cX1_busiest 0 = .ok (.iconst (-1), 1) := dk_2 (dk_at dksX1_busiest_0 0 rfl rfl)
theorem dX1_busiest_1 : decode cX1_busiest 1 = .ok (.istore_n 1, 1) := dk_60 (dk_at dksX1_busiest_0 1 rfl rfl)
theorem dX1_busiest_2 : decode cX1_busiest 2 = .ok (.iconst (-1), 1) := dk_2 (dk_at dksX1_busiest_0 2 rfl rfl)
theorem dX1_busiest_3 : decode cX1_busiest 3 = .ok (.istore_n 2, 1) := dk_61 (dk_at dksX1_busiest_0 3 rfl rfl)
theorem dX1_busiest_4 : decode cX1_busiest 4 = .ok (.iconst 0, 1) := dk_3 (dk_at dksX1_busiest_0 4 rfl rfl)
theorem dX1_busiest_5 : decode cX1_busiest 5 = .ok (.istore_n 3, 1) := dk_62 (dk_at dksX1_busiest_0 5 rfl rfl)
theorem dX1_busiest_6 : decode cX1_busiest 6 = .ok (.iload_n 3, 1) := dk_29 (dk_at dksX1_busiest_0 6 rfl rfl)
theorem dX1_busiest_7 : decode cX1_busiest 7 = .ok (.aload_n 0, 1) := dk_42 (dk_at dksX1_busiest_0 7 rfl rfl)
theorem dX1_busiest_8 : decode cX1_busiest 8 = .ok (.getfield 19, 3) := dk_180 0 19 (dk_at dksX1_busiest_0 8 rfl rfl)
theorem dX1_busiest_11 : decode cX1_busiest 11 = .ok (.getfield 99, 3) := dk_180 0 99 (dk_at dksX1_busiest_0 11 rfl rfl)
theorem dX1_busiest_14 : decode cX1_busiest 14 = .ok (.getfield 103, 3) := dk_180 0 103 (dk_at dksX1_busiest_0 14 rfl rfl)
theorem dX1_busiest_17 : decode cX1_busiest 17 = .ok (.invokeinterface 107 1, 5) := by decide +kernel
theorem dX1_busiest_22 : decode cX1_busiest 22 = .ok (.if_icmp .ge 35, 3) := dk_162 0 35 (dk_at dksX1_busiest_1 0 rfl rfl)
theorem dX1_busiest_25 : decode cX1_busiest 25 = .ok (.aload_n 0, 1) := dk_42 (dk_at dksX1_busiest_1 3 rfl rfl)
theorem dX1_busiest_26 : decode cX1_busiest 26 = .ok (.iload_n 3, 1) := dk_29 (dk_at dksX1_busiest_1 4 rfl rfl)
theorem dX1_busiest_27 : decode cX1_busiest 27 = .ok (.invokevirtual 306, 3) := dk_182 1 50 (dk_at dksX1_busiest_1 5 rfl rfl)
theorem dX1_busiest_30 : decode cX1_busiest 30 = .ok (.istore 4, 2) := dk_54 4 (dk_at dksX1_busiest_1 8 rfl rfl)
theorem dX1_busiest_32 : decode cX1_busiest 32 = .ok (.iload 4, 2) := dk_21 4 (dk_at dksX1_busiest_1 10 rfl rfl)
theorem dX1_busiest_34 : decode cX1_busiest 34 = .ok (.iload_n 2, 1) := dk_28 (dk_at dksX1_busiest_1 12 rfl rfl)
theorem dX1_busiest_35 : decode cX1_busiest 35 = .ok (.if_icmp .le 7, 3) := dk_164 0 7 (dk_at dksX1_busiest_1 13 rfl rfl)
theorem dX1_busiest_38 : decode cX1_busiest 38 = .ok (.iload_n 3, 1) := dk_29 (dk_at dksX1_busiest_1 16 rfl rfl)
theorem dX1_busiest_39 : decode cX1_busiest 39 = .ok (.goto 4, 3) := dk_167 0 4 (dk_at dksX1_busiest_1 17 rfl rfl)
theorem dX1_busiest_42 : decode cX1_busiest 42 = .ok (.iload_n 1, 1) := dk_27 (dk_at dksX1_busiest_1 20 rfl rfl)
theorem dX1_busiest_43 : decode cX1_busiest 43 = .ok (.istore_n 1, 1) := dk_60 (dk_at dksX1_busiest_1 21 rfl rfl)
theorem dX1_busiest_44 : decode cX1_busiest 44 = .ok (.iload_n 2, 1) := dk_28 (dk_at dksX1_busiest_1 22 rfl rfl)
theorem dX1_busiest_45 : decode cX1_busiest 45 = .ok (.iload 4, 2) := dk_21 4 (dk_at dksX1_busiest_2 0 rfl rfl)
theorem dX1_busiest_47 : decode cX1_busiest 47 = .ok (.invokestatic 234, 3) := dk_184 0 234 (dk_at dksX1_busiest_2 2 rfl rfl)
theorem dX1_busiest_50 : decode cX1_busiest 50 = .ok (.istore_n 2, 1) := dk_61 (dk_at dksX1_busiest_2 5 rfl rfl)
theorem dX1_busiest_51 : decode cX1_busiest 51 = .ok (.iinc 3 1, 3) := dk_132 3 1 (dk_at dksX1_busiest_2 6 rfl rfl)
theorem dX1_busiest_54 : decode cX1_busiest 54 = .ok (.goto (-48), 3) := dk_167 255 208 (dk_at dksX1_busiest_2 9 rfl rfl)
theorem dX1_busiest_57 : decode cX1_busiest 57 = .ok (.iload_n 1, 1) := dk_27 (dk_at dksX1_busiest_2 12 rfl rfl)
theorem dX1_busiest_58 : decode cX1_busiest 58 = .ok (.ireturn, 1) := dk_172 (dk_at dksX1_busiest_2 13 rfl rfl)
abbrev cX1_flowOf : ByteArray := prog_1_method_39_code
def yX1_flowOf : MethodName := ⟨RX1, "flowOf", "(I)I"⟩
def dkwX1_flowOf_2 : List UInt8 := [180, 0, 205, 21, 4, 46, 167, 0, 4, 3, 96, 62, 132, 4, 1, 167, 255, 206, 29, 172]
abbrev dktX1_flowOf_2 : List UInt8 := dkwX1_flowOf_2 ++ []
def dkwX1_flowOf_1 : List UInt8 := [185, 0, 107, 1, 0, 162, 0, 36, 29, 28, 21, 4, 122, 4, 126, 4, 160, 0, 16, 42, 180, 0, 19]
abbrev dktX1_flowOf_1 : List UInt8 := dkwX1_flowOf_1 ++ dktX1_flowOf_2
def dkwX1_flowOf_0 : List UInt8 := [42, 27, 182, 1, 46, 61, 3, 62, 3, 54, 4, 21, 4, 42, 180, 0, 19, 180, 0, 99, 180, 0, 125]
abbrev dktX1_flowOf_0 : List UInt8 := dkwX1_flowOf_0 ++ dktX1_flowOf_1
theorem dksX1_flowOf_0 : cX1_flowOf.data.toList.drop 0 = dktX1_flowOf_0 := by decide +kernel
theorem dksX1_flowOf_1 : cX1_flowOf.data.toList.drop 23 = dktX1_flowOf_1 := dk_seg dksX1_flowOf_0 23 rfl rfl
theorem dksX1_flowOf_2 : cX1_flowOf.data.toList.drop 46 = dktX1_flowOf_2 := dk_seg dksX1_flowOf_1 23 rfl rfl
theorem dX1_flowOf_0 : decode cX1_flowOf 0 = .ok (.aload_n 0, 1) := dk_42 (dk_at dksX1_flowOf_0 0 rfl rfl)
theorem dX1_flowOf_1 : decode cX1_flowOf 1 = .ok (.iload_n 1, 1) := dk_27 (dk_at dksX1_flowOf_0 1 rfl rfl)
theorem dX1_flowOf_2 : decode cX1_flowOf 2 = .ok (.invokevirtual 302, 3) := dk_182 1 46 (dk_at dksX1_flowOf_0 2 rfl rfl)
theorem dX1_flowOf_5 : decode cX1_flowOf 5 = .ok (.istore_n 2, 1) := dk_61 (dk_at dksX1_flowOf_0 5 rfl rfl)
theorem dX1_flowOf_6 : decode cX1_flowOf 6 = .ok (.iconst 0, 1) := dk_3 (dk_at dksX1_flowOf_0 6 rfl rfl)
theorem dX1_flowOf_7 : decode cX1_flowOf 7 = .ok (.istore_n 3, 1) := dk_62 (dk_at dksX1_flowOf_0 7 rfl rfl)
theorem dX1_flowOf_8 : decode cX1_flowOf 8 = .ok (.iconst 0, 1) := dk_3 (dk_at dksX1_flowOf_0 8 rfl rfl)
theorem dX1_flowOf_9 : decode cX1_flowOf 9 = .ok (.istore 4, 2) := dk_54 4 (dk_at dksX1_flowOf_0 9 rfl rfl)
theorem dX1_flowOf_11 : decode cX1_flowOf 11 = .ok (.iload 4, 2) := dk_21 4 (dk_at dksX1_flowOf_0 11 rfl rfl)
theorem dX1_flowOf_13 : decode cX1_flowOf 13 = .ok (.aload_n 0, 1) := dk_42 (dk_at dksX1_flowOf_0 13 rfl rfl)
theorem dX1_flowOf_14 : decode cX1_flowOf 14 = .ok (.getfield 19, 3) := dk_180 0 19 (dk_at dksX1_flowOf_0 14 rfl rfl)
theorem dX1_flowOf_17 : decode cX1_flowOf 17 = .ok (.getfield 99, 3) := dk_180 0 99 (dk_at dksX1_flowOf_0 17 rfl rfl)
theorem dX1_flowOf_20 : decode cX1_flowOf 20 = .ok (.getfield 125, 3) := dk_180 0 125 (dk_at dksX1_flowOf_0 20 rfl rfl)
theorem dX1_flowOf_23 : decode cX1_flowOf 23 = .ok (.invokeinterface 107 1, 5) := by decide +kernel
theorem dX1_flowOf_28 : decode cX1_flowOf 28 = .ok (.if_icmp .ge 36, 3) := dk_162 0 36 (dk_at dksX1_flowOf_1 5 rfl rfl)
theorem dX1_flowOf_31 : decode cX1_flowOf 31 = .ok (.iload_n 3, 1) := dk_29 (dk_at dksX1_flowOf_1 8 rfl rfl)
theorem dX1_flowOf_32 : decode cX1_flowOf 32 = .ok (.iload_n 2, 1) := dk_28 (dk_at dksX1_flowOf_1 9 rfl rfl)
theorem dX1_flowOf_33 : decode cX1_flowOf 33 = .ok (.iload 4, 2) := dk_21 4 (dk_at dksX1_flowOf_1 10 rfl rfl)
theorem dX1_flowOf_35 : decode cX1_flowOf 35 = .ok (.ishr, 1) := dk_122 (dk_at dksX1_flowOf_1 12 rfl rfl)
theorem dX1_flowOf_36 : decode cX1_flowOf 36 = .ok (.iconst 1, 1) := dk_4 (dk_at dksX1_flowOf_1 13 rfl rfl)
theorem dX1_flowOf_37 : decode cX1_flowOf 37 = .ok (.iand, 1) := dk_126 (dk_at dksX1_flowOf_1 14 rfl rfl)
theorem dX1_flowOf_38 : decode cX1_flowOf 38 = .ok (.iconst 1, 1) := dk_4 (dk_at dksX1_flowOf_1 15 rfl rfl)
theorem dX1_flowOf_39 : decode cX1_flowOf 39 = .ok (.if_icmp .ne 16, 3) := dk_160 0 16 (dk_at dksX1_flowOf_1 16 rfl rfl)
theorem dX1_flowOf_42 : decode cX1_flowOf 42 = .ok (.aload_n 0, 1) := dk_42 (dk_at dksX1_flowOf_1 19 rfl rfl)
theorem dX1_flowOf_43 : decode cX1_flowOf 43 = .ok (.getfield 19, 3) := dk_180 0 19 (dk_at dksX1_flowOf_1 20 rfl rfl)
theorem dX1_flowOf_46 : decode cX1_flowOf 46 = .ok (.getfield 205, 3) := dk_180 0 205 (dk_at dksX1_flowOf_2 0 rfl rfl)
theorem dX1_flowOf_49 : decode cX1_flowOf 49 = .ok (.iload 4, 2) := dk_21 4 (dk_at dksX1_flowOf_2 3 rfl rfl)
theorem dX1_flowOf_51 : decode cX1_flowOf 51 = .ok (.iaload, 1) := dk_46 (dk_at dksX1_flowOf_2 5 rfl rfl)
theorem dX1_flowOf_52 : decode cX1_flowOf 52 = .ok (.goto 4, 3) := dk_167 0 4 (dk_at dksX1_flowOf_2 6 rfl rfl)
theorem dX1_flowOf_55 : decode cX1_flowOf 55 = .ok (.iconst 0, 1) := dk_3 (dk_at dksX1_flowOf_2 9 rfl rfl)
theorem dX1_flowOf_56 : decode cX1_flowOf 56 = .ok (.iadd, 1) := dk_96 (dk_at dksX1_flowOf_2 10 rfl rfl)
theorem dX1_flowOf_57 : decode cX1_flowOf 57 = .ok (.istore_n 3, 1) := dk_62 (dk_at dksX1_flowOf_2 11 rfl rfl)
theorem dX1_flowOf_58 : decode cX1_flowOf 58 = .ok (.iinc 4 1, 3) := dk_132 4 1 (dk_at dksX1_flowOf_2 12 rfl rfl)
theorem dX1_flowOf_61 : decode cX1_flowOf 61 = .ok (.goto (-50), 3) := dk_167 255 206 (dk_at dksX1_flowOf_2 15 rfl rfl)
theorem dX1_flowOf_64 : decode cX1_flowOf 64 = .ok (.iload_n 3, 1) := dk_29 (dk_at dksX1_flowOf_2 18 rfl rfl)
theorem dX1_flowOf_65 : decode cX1_flowOf 65 = .ok (.ireturn, 1) := dk_172 (dk_at dksX1_flowOf_2 19 rfl rfl)
abbrev cX1_usersOf : ByteArray := prog_1_method_37_code
def yX1_usersOf : MethodName := ⟨RX1, "usersOf", "(I)I"⟩
def dkwX1_usersOf_2 : List UInt8 := [28, 172]
abbrev dktX1_usersOf_2 : List UInt8 := dkwX1_usersOf_2 ++ []
def dkwX1_usersOf_1 : List UInt8 := [42, 29, 27, 182, 1, 42, 153, 0, 9, 4, 29, 120, 167, 0, 4, 3, 128, 61, 132, 3, 1, 167, 255, 215]
abbrev dktX1_usersOf_1 : List UInt8 := dkwX1_usersOf_1 ++ dktX1_usersOf_2
def dkwX1_usersOf_0 : List UInt8 := [3, 61, 3, 62, 29, 42, 180, 0, 19, 180, 0, 99, 180, 0, 125, 185, 0, 107, 1, 0, 162, 0, 28, 28]
abbrev dktX1_usersOf_0 : List UInt8 := dkwX1_usersOf_0 ++ dktX1_usersOf_1
theorem dksX1_usersOf_0 : cX1_usersOf.data.toList.drop 0 = dktX1_usersOf_0 := by decide +kernel
theorem dksX1_usersOf_1 : cX1_usersOf.data.toList.drop 24 = dktX1_usersOf_1 := dk_seg dksX1_usersOf_0 24 rfl rfl
theorem dksX1_usersOf_2 : cX1_usersOf.data.toList.drop 48 = dktX1_usersOf_2 := dk_seg dksX1_usersOf_1 24 rfl rfl
theorem dX1_usersOf_0 : decode cX1_usersOf 0 = .ok (.iconst 0, 1) := dk_3 (dk_at dksX1_usersOf_0 0 rfl rfl)
theorem dX1_usersOf_1 : decode cX1_usersOf 1 = .ok (.istore_n 2, 1) := dk_61 (dk_at dksX1_usersOf_0 1 rfl rfl)
theorem dX1_usersOf_2 : decode cX1_usersOf 2 = .ok (.iconst 0, 1) := dk_3 (dk_at dksX1_usersOf_0 2 rfl rfl)
theorem dX1_usersOf_3 : decode cX1_usersOf 3 = .ok (.istore_n 3, 1) := dk_62 (dk_at dksX1_usersOf_0 3 rfl rfl)
theorem dX1_usersOf_4 : decode cX1_usersOf 4 = .ok (.iload_n 3, 1) := dk_29 (dk_at dksX1_usersOf_0 4 rfl rfl)
theorem dX1_usersOf_5 : decode cX1_usersOf 5 = .ok (.aload_n 0, 1) := dk_42 (dk_at dksX1_usersOf_0 5 rfl rfl)
theorem dX1_usersOf_6 : decode cX1_usersOf 6 = .ok (.getfield 19, 3) := dk_180 0 19 (dk_at dksX1_usersOf_0 6 rfl rfl)
theorem dX1_usersOf_9 : decode cX1_usersOf 9 = .ok (.getfield 99, 3) := dk_180 0 99 (dk_at dksX1_usersOf_0 9 rfl rfl)
theorem dX1_usersOf_12 : decode cX1_usersOf 12 = .ok (.getfield 125, 3) := dk_180 0 125 (dk_at dksX1_usersOf_0 12 rfl rfl)
theorem dX1_usersOf_15 : decode cX1_usersOf 15 = .ok (.invokeinterface 107 1, 5) := by decide +kernel
theorem dX1_usersOf_20 : decode cX1_usersOf 20 = .ok (.if_icmp .ge 28, 3) := dk_162 0 28 (dk_at dksX1_usersOf_0 20 rfl rfl)
theorem dX1_usersOf_23 : decode cX1_usersOf 23 = .ok (.iload_n 2, 1) := dk_28 (dk_at dksX1_usersOf_0 23 rfl rfl)
theorem dX1_usersOf_24 : decode cX1_usersOf 24 = .ok (.aload_n 0, 1) := dk_42 (dk_at dksX1_usersOf_1 0 rfl rfl)
theorem dX1_usersOf_25 : decode cX1_usersOf 25 = .ok (.iload_n 3, 1) := dk_29 (dk_at dksX1_usersOf_1 1 rfl rfl)
theorem dX1_usersOf_26 : decode cX1_usersOf 26 = .ok (.iload_n 1, 1) := dk_27 (dk_at dksX1_usersOf_1 2 rfl rfl)
theorem dX1_usersOf_27 : decode cX1_usersOf 27 = .ok (.invokevirtual 298, 3) := dk_182 1 42 (dk_at dksX1_usersOf_1 3 rfl rfl)
theorem dX1_usersOf_30 : decode cX1_usersOf 30 = .ok (.ifCond .eq 9, 3) := dk_153 0 9 (dk_at dksX1_usersOf_1 6 rfl rfl)
theorem dX1_usersOf_33 : decode cX1_usersOf 33 = .ok (.iconst 1, 1) := dk_4 (dk_at dksX1_usersOf_1 9 rfl rfl)
theorem dX1_usersOf_34 : decode cX1_usersOf 34 = .ok (.iload_n 3, 1) := dk_29 (dk_at dksX1_usersOf_1 10 rfl rfl)
theorem dX1_usersOf_35 : decode cX1_usersOf 35 = .ok (.ishl, 1) := dk_120 (dk_at dksX1_usersOf_1 11 rfl rfl)
theorem dX1_usersOf_36 : decode cX1_usersOf 36 = .ok (.goto 4, 3) := dk_167 0 4 (dk_at dksX1_usersOf_1 12 rfl rfl)
theorem dX1_usersOf_39 : decode cX1_usersOf 39 = .ok (.iconst 0, 1) := dk_3 (dk_at dksX1_usersOf_1 15 rfl rfl)
theorem dX1_usersOf_40 : decode cX1_usersOf 40 = .ok (.ior, 1) := dk_128 (dk_at dksX1_usersOf_1 16 rfl rfl)
theorem dX1_usersOf_41 : decode cX1_usersOf 41 = .ok (.istore_n 2, 1) := dk_61 (dk_at dksX1_usersOf_1 17 rfl rfl)
theorem dX1_usersOf_42 : decode cX1_usersOf 42 = .ok (.iinc 3 1, 3) := dk_132 3 1 (dk_at dksX1_usersOf_1 18 rfl rfl)
theorem dX1_usersOf_45 : decode cX1_usersOf 45 = .ok (.goto (-41), 3) := dk_167 255 215 (dk_at dksX1_usersOf_1 21 rfl rfl)
theorem dX1_usersOf_48 : decode cX1_usersOf 48 = .ok (.iload_n 2, 1) := dk_28 (dk_at dksX1_usersOf_2 0 rfl rfl)
theorem dX1_usersOf_49 : decode cX1_usersOf 49 = .ok (.ireturn, 1) := dk_172 (dk_at dksX1_usersOf_2 1 rfl rfl)
abbrev cX1_usesIt : ByteArray := prog_1_method_35_code
def yX1_usesIt : MethodName := ⟨RX1, "usesIt", "(II)Z"⟩
def dkwX1_usesIt_2 : List UInt8 := [3, 172]
abbrev dktX1_usesIt_2 : List UInt8 := dkwX1_usesIt_2 ++ []
def dkwX1_usesIt_1 : List UInt8 := [192, 0, 145, 182, 0, 255, 153, 0, 18, 42, 180, 0, 28, 28, 182, 1, 39, 153, 0, 7, 4, 167, 0, 4]
abbrev dktX1_usesIt_1 : List UInt8 := dkwX1_usesIt_1 ++ dktX1_usesIt_2
def dkwX1_usesIt_0 : List UInt8 := [42, 180, 0, 28, 42, 180, 0, 19, 42, 180, 0, 19, 180, 0, 99, 180, 0, 125, 27, 185, 0, 136, 2, 0]
abbrev dktX1_usesIt_0 : List UInt8 := dkwX1_usesIt_0 ++ dktX1_usesIt_1
theorem dksX1_usesIt_0 : cX1_usesIt.data.toList.drop 0 = dktX1_usesIt_0 := by decide +kernel
theorem dksX1_usesIt_1 : cX1_usesIt.data.toList.drop 24 = dktX1_usesIt_1 := dk_seg dksX1_usesIt_0 24 rfl rfl
theorem dksX1_usesIt_2 : cX1_usesIt.data.toList.drop 48 = dktX1_usesIt_2 := dk_seg dksX1_usesIt_1 24 rfl rfl
theorem dX1_usesIt_0 : decode cX1_usesIt 0 = .ok (.aload_n 0, 1) := dk_42 (dk_at dksX1_usesIt_0 0 rfl rfl)
theorem dX1_usesIt_1 : decode cX1_usesIt 1 = .ok (.getfield 28, 3) := dk_180 0 28 (dk_at dksX1_usesIt_0 1 rfl rfl)
theorem dX1_usesIt_4 : decode cX1_usesIt 4 = .ok (.aload_n 0, 1) := dk_42 (dk_at dksX1_usesIt_0 4 rfl rfl)
theorem dX1_usesIt_5 : decode cX1_usesIt 5 = .ok (.getfield 19, 3) := dk_180 0 19 (dk_at dksX1_usesIt_0 5 rfl rfl)
theorem dX1_usesIt_8 : decode cX1_usesIt 8 = .ok (.aload_n 0, 1) := dk_42 (dk_at dksX1_usesIt_0 8 rfl rfl)
theorem dX1_usesIt_9 : decode cX1_usesIt 9 = .ok (.getfield 19, 3) := dk_180 0 19 (dk_at dksX1_usesIt_0 9 rfl rfl)
theorem dX1_usesIt_12 : decode cX1_usesIt 12 = .ok (.getfield 99, 3) := dk_180 0 99 (dk_at dksX1_usesIt_0 12 rfl rfl)
theorem dX1_usesIt_15 : decode cX1_usesIt 15 = .ok (.getfield 125, 3) := dk_180 0 125 (dk_at dksX1_usesIt_0 15 rfl rfl)
theorem dX1_usesIt_18 : decode cX1_usesIt 18 = .ok (.iload_n 1, 1) := dk_27 (dk_at dksX1_usesIt_0 18 rfl rfl)
theorem dX1_usesIt_19 : decode cX1_usesIt 19 = .ok (.invokeinterface 136 2, 5) := by decide +kernel
theorem dX1_usesIt_24 : decode cX1_usesIt 24 = .ok (.checkcast 145, 3) := dk_192 0 145 (dk_at dksX1_usesIt_1 0 rfl rfl)
theorem dX1_usesIt_27 : decode cX1_usesIt 27 = .ok (.invokevirtual 255, 3) := dk_182 0 255 (dk_at dksX1_usesIt_1 3 rfl rfl)
theorem dX1_usesIt_30 : decode cX1_usesIt 30 = .ok (.ifCond .eq 18, 3) := dk_153 0 18 (dk_at dksX1_usesIt_1 6 rfl rfl)
theorem dX1_usesIt_33 : decode cX1_usesIt 33 = .ok (.aload_n 0, 1) := dk_42 (dk_at dksX1_usesIt_1 9 rfl rfl)
theorem dX1_usesIt_34 : decode cX1_usesIt 34 = .ok (.getfield 28, 3) := dk_180 0 28 (dk_at dksX1_usesIt_1 10 rfl rfl)
theorem dX1_usesIt_37 : decode cX1_usesIt 37 = .ok (.iload_n 2, 1) := dk_28 (dk_at dksX1_usesIt_1 13 rfl rfl)
theorem dX1_usesIt_38 : decode cX1_usesIt 38 = .ok (.invokevirtual 295, 3) := dk_182 1 39 (dk_at dksX1_usesIt_1 14 rfl rfl)
theorem dX1_usesIt_41 : decode cX1_usesIt 41 = .ok (.ifCond .eq 7, 3) := dk_153 0 7 (dk_at dksX1_usesIt_1 17 rfl rfl)
theorem dX1_usesIt_44 : decode cX1_usesIt 44 = .ok (.iconst 1, 1) := dk_4 (dk_at dksX1_usesIt_1 20 rfl rfl)
theorem dX1_usesIt_45 : decode cX1_usesIt 45 = .ok (.goto 4, 3) := dk_167 0 4 (dk_at dksX1_usesIt_1 21 rfl rfl)
theorem dX1_usesIt_48 : decode cX1_usesIt 48 = .ok (.iconst 0, 1) := dk_3 (dk_at dksX1_usesIt_2 0 rfl rfl)
theorem dX1_usesIt_49 : decode cX1_usesIt 49 = .ok (.ireturn, 1) := dk_172 (dk_at dksX1_usesIt_2 1 rfl rfl)
abbrev cX1_unused : ByteArray := prog_1_method_42_code
def yX1_unused : MethodName := ⟨RX1, "unused", "()I"⟩
def dkwX1_unused_6 : List UInt8 := [43, 29, 4, 96, 182, 1, 59, 62, 167, 255, 238, 28, 172]
abbrev dktX1_unused_6 : List UInt8 := dkwX1_unused_6 ++ []
def dkwX1_unused_5 : List UInt8 := [167, 255, 227, 167, 255, 184, 3, 61, 43, 3, 182, 1, 59, 62, 29, 155, 0, 20, 28, 4, 29, 120, 128, 61]
abbrev dktX1_unused_5 : List UInt8 := dkwX1_unused_5 ++ dktX1_unused_6
def dkwX1_unused_4 : List UInt8 := [180, 1, 6, 162, 0, 23, 43, 42, 180, 0, 28, 180, 1, 7, 21, 4, 46, 182, 1, 57, 132, 4, 1]
abbrev dktX1_unused_4 : List UInt8 := dkwX1_unused_4 ++ dktX1_unused_5
def dkwX1_unused_3 : List UInt8 := [180, 0, 19, 45, 182, 0, 255, 154, 0, 6, 167, 255, 222, 3, 54, 4, 21, 4, 42, 180, 0, 28]
abbrev dktX1_unused_3 : List UInt8 := dkwX1_unused_3 ++ dktX1_unused_4
def dkwX1_unused_2 : List UInt8 := [44, 185, 0, 151, 1, 0, 153, 0, 69, 44, 185, 0, 157, 1, 0, 192, 0, 145, 78, 42, 180, 0, 28, 42]
abbrev dktX1_unused_2 : List UInt8 := dkwX1_unused_2 ++ dktX1_unused_3
def dkwX1_unused_1 : List UInt8 := [185, 0, 107, 1, 0, 182, 1, 54, 42, 180, 0, 19, 180, 0, 99, 180, 0, 125, 185, 0, 147, 1, 0, 77]
abbrev dktX1_unused_1 : List UInt8 := dkwX1_unused_1 ++ dktX1_unused_2
def dkwX1_unused_0 : List UInt8 := [187, 0, 174, 89, 16, 24, 183, 1, 53, 76, 43, 3, 42, 180, 0, 19, 180, 0, 99, 180, 0, 103]
abbrev dktX1_unused_0 : List UInt8 := dkwX1_unused_0 ++ dktX1_unused_1
theorem dksX1_unused_0 : cX1_unused.data.toList.drop 0 = dktX1_unused_0 := by decide +kernel
theorem dksX1_unused_1 : cX1_unused.data.toList.drop 22 = dktX1_unused_1 := dk_seg dksX1_unused_0 22 rfl rfl
theorem dksX1_unused_2 : cX1_unused.data.toList.drop 46 = dktX1_unused_2 := dk_seg dksX1_unused_1 24 rfl rfl
theorem dksX1_unused_3 : cX1_unused.data.toList.drop 70 = dktX1_unused_3 := dk_seg dksX1_unused_2 24 rfl rfl
theorem dksX1_unused_4 : cX1_unused.data.toList.drop 92 = dktX1_unused_4 := dk_seg dksX1_unused_3 22 rfl rfl
theorem dksX1_unused_5 : cX1_unused.data.toList.drop 115 = dktX1_unused_5 := dk_seg dksX1_unused_4 23 rfl rfl
theorem dksX1_unused_6 : cX1_unused.data.toList.drop 139 = dktX1_unused_6 := dk_seg dksX1_unused_5 24 rfl rfl
theorem dX1_unused_0 : decode cX1_unused 0 = .ok (.new 174, 3) := dk_187 0 174 (dk_at dksX1_unused_0 0 rfl rfl)
theorem dX1_unused_3 : decode cX1_unused 3 = .ok (.dup, 1) := dk_89 (dk_at dksX1_unused_0 3 rfl rfl)
theorem dX1_unused_4 : decode cX1_unused 4 = .ok (.bipush 24, 2) := dk_16 24 (dk_at dksX1_unused_0 4 rfl rfl)
theorem dX1_unused_6 : decode cX1_unused 6 = .ok (.invokespecial 309, 3) := dk_183 1 53 (dk_at dksX1_unused_0 6 rfl rfl)
theorem dX1_unused_9 : decode cX1_unused 9 = .ok (.astore_n 1, 1) := dk_76 (dk_at dksX1_unused_0 9 rfl rfl)
theorem dX1_unused_10 : decode cX1_unused 10 = .ok (.aload_n 1, 1) := dk_43 (dk_at dksX1_unused_0 10 rfl rfl)
theorem dX1_unused_11 : decode cX1_unused 11 = .ok (.iconst 0, 1) := dk_3 (dk_at dksX1_unused_0 11 rfl rfl)
theorem dX1_unused_12 : decode cX1_unused 12 = .ok (.aload_n 0, 1) := dk_42 (dk_at dksX1_unused_0 12 rfl rfl)
theorem dX1_unused_13 : decode cX1_unused 13 = .ok (.getfield 19, 3) := dk_180 0 19 (dk_at dksX1_unused_0 13 rfl rfl)
theorem dX1_unused_16 : decode cX1_unused 16 = .ok (.getfield 99, 3) := dk_180 0 99 (dk_at dksX1_unused_0 16 rfl rfl)
theorem dX1_unused_19 : decode cX1_unused 19 = .ok (.getfield 103, 3) := dk_180 0 103 (dk_at dksX1_unused_0 19 rfl rfl)
theorem dX1_unused_22 : decode cX1_unused 22 = .ok (.invokeinterface 107 1, 5) := by decide +kernel
theorem dX1_unused_27 : decode cX1_unused 27 = .ok (.invokevirtual 310, 3) := dk_182 1 54 (dk_at dksX1_unused_1 5 rfl rfl)
theorem dX1_unused_30 : decode cX1_unused 30 = .ok (.aload_n 0, 1) := dk_42 (dk_at dksX1_unused_1 8 rfl rfl)
theorem dX1_unused_31 : decode cX1_unused 31 = .ok (.getfield 19, 3) := dk_180 0 19 (dk_at dksX1_unused_1 9 rfl rfl)
theorem dX1_unused_34 : decode cX1_unused 34 = .ok (.getfield 99, 3) := dk_180 0 99 (dk_at dksX1_unused_1 12 rfl rfl)
theorem dX1_unused_37 : decode cX1_unused 37 = .ok (.getfield 125, 3) := dk_180 0 125 (dk_at dksX1_unused_1 15 rfl rfl)
theorem dX1_unused_40 : decode cX1_unused 40 = .ok (.invokeinterface 147 1, 5) := by decide +kernel
theorem dX1_unused_45 : decode cX1_unused 45 = .ok (.astore_n 2, 1) := dk_77 (dk_at dksX1_unused_1 23 rfl rfl)
theorem dX1_unused_46 : decode cX1_unused 46 = .ok (.aload_n 2, 1) := dk_44 (dk_at dksX1_unused_2 0 rfl rfl)
theorem dX1_unused_47 : decode cX1_unused 47 = .ok (.invokeinterface 151 1, 5) := by decide +kernel
theorem dX1_unused_52 : decode cX1_unused 52 = .ok (.ifCond .eq 69, 3) := dk_153 0 69 (dk_at dksX1_unused_2 6 rfl rfl)
theorem dX1_unused_55 : decode cX1_unused 55 = .ok (.aload_n 2, 1) := dk_44 (dk_at dksX1_unused_2 9 rfl rfl)
theorem dX1_unused_56 : decode cX1_unused 56 = .ok (.invokeinterface 157 1, 5) := by decide +kernel
theorem dX1_unused_61 : decode cX1_unused 61 = .ok (.checkcast 145, 3) := dk_192 0 145 (dk_at dksX1_unused_2 15 rfl rfl)
theorem dX1_unused_64 : decode cX1_unused 64 = .ok (.astore_n 3, 1) := dk_78 (dk_at dksX1_unused_2 18 rfl rfl)
theorem dX1_unused_65 : decode cX1_unused 65 = .ok (.aload_n 0, 1) := dk_42 (dk_at dksX1_unused_2 19 rfl rfl)
theorem dX1_unused_66 : decode cX1_unused 66 = .ok (.getfield 28, 3) := dk_180 0 28 (dk_at dksX1_unused_2 20 rfl rfl)
theorem dX1_unused_69 : decode cX1_unused 69 = .ok (.aload_n 0, 1) := dk_42 (dk_at dksX1_unused_2 23 rfl rfl)
theorem dX1_unused_70 : decode cX1_unused 70 = .ok (.getfield 19, 3) := dk_180 0 19 (dk_at dksX1_unused_3 0 rfl rfl)
theorem dX1_unused_73 : decode cX1_unused 73 = .ok (.aload_n 3, 1) := dk_45 (dk_at dksX1_unused_3 3 rfl rfl)
theorem dX1_unused_74 : decode cX1_unused 74 = .ok (.invokevirtual 255, 3) := dk_182 0 255 (dk_at dksX1_unused_3 4 rfl rfl)
theorem dX1_unused_77 : decode cX1_unused 77 = .ok (.ifCond .ne 6, 3) := dk_154 0 6 (dk_at dksX1_unused_3 7 rfl rfl)
theorem dX1_unused_80 : decode cX1_unused 80 = .ok (.goto (-34), 3) := dk_167 255 222 (dk_at dksX1_unused_3 10 rfl rfl)
theorem dX1_unused_83 : decode cX1_unused 83 = .ok (.iconst 0, 1) := dk_3 (dk_at dksX1_unused_3 13 rfl rfl)
theorem dX1_unused_84 : decode cX1_unused 84 = .ok (.istore 4, 2) := dk_54 4 (dk_at dksX1_unused_3 14 rfl rfl)
theorem dX1_unused_86 : decode cX1_unused 86 = .ok (.iload 4, 2) := dk_21 4 (dk_at dksX1_unused_3 16 rfl rfl)
theorem dX1_unused_88 : decode cX1_unused 88 = .ok (.aload_n 0, 1) := dk_42 (dk_at dksX1_unused_3 18 rfl rfl)
theorem dX1_unused_89 : decode cX1_unused 89 = .ok (.getfield 28, 3) := dk_180 0 28 (dk_at dksX1_unused_3 19 rfl rfl)
theorem dX1_unused_92 : decode cX1_unused 92 = .ok (.getfield 262, 3) := dk_180 1 6 (dk_at dksX1_unused_4 0 rfl rfl)
theorem dX1_unused_95 : decode cX1_unused 95 = .ok (.if_icmp .ge 23, 3) := dk_162 0 23 (dk_at dksX1_unused_4 3 rfl rfl)
theorem dX1_unused_98 : decode cX1_unused 98 = .ok (.aload_n 1, 1) := dk_43 (dk_at dksX1_unused_4 6 rfl rfl)
theorem dX1_unused_99 : decode cX1_unused 99 = .ok (.aload_n 0, 1) := dk_42 (dk_at dksX1_unused_4 7 rfl rfl)
theorem dX1_unused_100 : decode cX1_unused 100 = .ok (.getfield 28, 3) := dk_180 0 28 (dk_at dksX1_unused_4 8 rfl rfl)
theorem dX1_unused_103 : decode cX1_unused 103 = .ok (.getfield 263, 3) := dk_180 1 7 (dk_at dksX1_unused_4 11 rfl rfl)
theorem dX1_unused_106 : decode cX1_unused 106 = .ok (.iload 4, 2) := dk_21 4 (dk_at dksX1_unused_4 14 rfl rfl)
theorem dX1_unused_108 : decode cX1_unused 108 = .ok (.iaload, 1) := dk_46 (dk_at dksX1_unused_4 16 rfl rfl)
theorem dX1_unused_109 : decode cX1_unused 109 = .ok (.invokevirtual 313, 3) := dk_182 1 57 (dk_at dksX1_unused_4 17 rfl rfl)
theorem dX1_unused_112 : decode cX1_unused 112 = .ok (.iinc 4 1, 3) := dk_132 4 1 (dk_at dksX1_unused_4 20 rfl rfl)
theorem dX1_unused_115 : decode cX1_unused 115 = .ok (.goto (-29), 3) := dk_167 255 227 (dk_at dksX1_unused_5 0 rfl rfl)
theorem dX1_unused_118 : decode cX1_unused 118 = .ok (.goto (-72), 3) := dk_167 255 184 (dk_at dksX1_unused_5 3 rfl rfl)
theorem dX1_unused_121 : decode cX1_unused 121 = .ok (.iconst 0, 1) := dk_3 (dk_at dksX1_unused_5 6 rfl rfl)
theorem dX1_unused_122 : decode cX1_unused 122 = .ok (.istore_n 2, 1) := dk_61 (dk_at dksX1_unused_5 7 rfl rfl)
theorem dX1_unused_123 : decode cX1_unused 123 = .ok (.aload_n 1, 1) := dk_43 (dk_at dksX1_unused_5 8 rfl rfl)
theorem dX1_unused_124 : decode cX1_unused 124 = .ok (.iconst 0, 1) := dk_3 (dk_at dksX1_unused_5 9 rfl rfl)
theorem dX1_unused_125 : decode cX1_unused 125 = .ok (.invokevirtual 315, 3) := dk_182 1 59 (dk_at dksX1_unused_5 10 rfl rfl)
theorem dX1_unused_128 : decode cX1_unused 128 = .ok (.istore_n 3, 1) := dk_62 (dk_at dksX1_unused_5 13 rfl rfl)
theorem dX1_unused_129 : decode cX1_unused 129 = .ok (.iload_n 3, 1) := dk_29 (dk_at dksX1_unused_5 14 rfl rfl)
theorem dX1_unused_130 : decode cX1_unused 130 = .ok (.ifCond .lt 20, 3) := dk_155 0 20 (dk_at dksX1_unused_5 15 rfl rfl)
theorem dX1_unused_133 : decode cX1_unused 133 = .ok (.iload_n 2, 1) := dk_28 (dk_at dksX1_unused_5 18 rfl rfl)
theorem dX1_unused_134 : decode cX1_unused 134 = .ok (.iconst 1, 1) := dk_4 (dk_at dksX1_unused_5 19 rfl rfl)
theorem dX1_unused_135 : decode cX1_unused 135 = .ok (.iload_n 3, 1) := dk_29 (dk_at dksX1_unused_5 20 rfl rfl)
theorem dX1_unused_136 : decode cX1_unused 136 = .ok (.ishl, 1) := dk_120 (dk_at dksX1_unused_5 21 rfl rfl)
theorem dX1_unused_137 : decode cX1_unused 137 = .ok (.ior, 1) := dk_128 (dk_at dksX1_unused_5 22 rfl rfl)
theorem dX1_unused_138 : decode cX1_unused 138 = .ok (.istore_n 2, 1) := dk_61 (dk_at dksX1_unused_5 23 rfl rfl)
theorem dX1_unused_139 : decode cX1_unused 139 = .ok (.aload_n 1, 1) := dk_43 (dk_at dksX1_unused_6 0 rfl rfl)
theorem dX1_unused_140 : decode cX1_unused 140 = .ok (.iload_n 3, 1) := dk_29 (dk_at dksX1_unused_6 1 rfl rfl)
theorem dX1_unused_141 : decode cX1_unused 141 = .ok (.iconst 1, 1) := dk_4 (dk_at dksX1_unused_6 2 rfl rfl)
theorem dX1_unused_142 : decode cX1_unused 142 = .ok (.iadd, 1) := dk_96 (dk_at dksX1_unused_6 3 rfl rfl)
theorem dX1_unused_143 : decode cX1_unused 143 = .ok (.invokevirtual 315, 3) := dk_182 1 59 (dk_at dksX1_unused_6 4 rfl rfl)
theorem dX1_unused_146 : decode cX1_unused 146 = .ok (.istore_n 3, 1) := dk_62 (dk_at dksX1_unused_6 7 rfl rfl)
theorem dX1_unused_147 : decode cX1_unused 147 = .ok (.goto (-18), 3) := dk_167 255 238 (dk_at dksX1_unused_6 8 rfl rfl)
theorem dX1_unused_150 : decode cX1_unused 150 = .ok (.iload_n 2, 1) := dk_28 (dk_at dksX1_unused_6 11 rfl rfl)
theorem dX1_unused_151 : decode cX1_unused 151 = .ok (.ireturn, 1) := dk_172 (dk_at dksX1_unused_6 12 rfl rfl)
abbrev cX1_revenue : ByteArray := prog_1_method_47_code
def yX1_revenue : MethodName := ⟨RX1, "revenue", "()J"⟩
theorem dX1_revenue_0 : decode cX1_revenue 0 = .ok (.aload_n 0, 1) := by decide +kernel
theorem dX1_revenue_1 : decode cX1_revenue 1 = .ok (.invokevirtual 329, 3) := by decide +kernel
theorem dX1_revenue_4 : decode cX1_revenue 4 = .ok (.lreturn, 1) := by decide +kernel
abbrev cX1_brought : ByteArray := prog_1_method_46_code
def yX1_brought : MethodName := ⟨RX1, "brought", "()J"⟩
def dkwX1_brought_1 : List UInt8 := [42, 29, 182, 1, 69, 97, 64, 132, 3, 1, 167, 255, 226, 31, 173]
abbrev dktX1_brought_1 : List UInt8 := dkwX1_brought_1 ++ []
def dkwX1_brought_0 : List UInt8 := [9, 64, 3, 62, 29, 42, 180, 0, 19, 180, 0, 99, 180, 0, 125, 185, 0, 107, 1, 0, 162, 0, 17, 31]
abbrev dktX1_brought_0 : List UInt8 := dkwX1_brought_0 ++ dktX1_brought_1
theorem dksX1_brought_0 : cX1_brought.data.toList.drop 0 = dktX1_brought_0 := by decide +kernel
theorem dksX1_brought_1 : cX1_brought.data.toList.drop 24 = dktX1_brought_1 := dk_seg dksX1_brought_0 24 rfl rfl
theorem dX1_brought_0 : decode cX1_brought 0 = .ok (.lconst 0, 1) := dk_9 (dk_at dksX1_brought_0 0 rfl rfl)
theorem dX1_brought_1 : decode cX1_brought 1 = .ok (.lstore_n 1, 1) := dk_64 (dk_at dksX1_brought_0 1 rfl rfl)
theorem dX1_brought_2 : decode cX1_brought 2 = .ok (.iconst 0, 1) := dk_3 (dk_at dksX1_brought_0 2 rfl rfl)
theorem dX1_brought_3 : decode cX1_brought 3 = .ok (.istore_n 3, 1) := dk_62 (dk_at dksX1_brought_0 3 rfl rfl)
theorem dX1_brought_4 : decode cX1_brought 4 = .ok (.iload_n 3, 1) := dk_29 (dk_at dksX1_brought_0 4 rfl rfl)
theorem dX1_brought_5 : decode cX1_brought 5 = .ok (.aload_n 0, 1) := dk_42 (dk_at dksX1_brought_0 5 rfl rfl)
theorem dX1_brought_6 : decode cX1_brought 6 = .ok (.getfield 19, 3) := dk_180 0 19 (dk_at dksX1_brought_0 6 rfl rfl)
theorem dX1_brought_9 : decode cX1_brought 9 = .ok (.getfield 99, 3) := dk_180 0 99 (dk_at dksX1_brought_0 9 rfl rfl)
theorem dX1_brought_12 : decode cX1_brought 12 = .ok (.getfield 125, 3) := dk_180 0 125 (dk_at dksX1_brought_0 12 rfl rfl)
theorem dX1_brought_15 : decode cX1_brought 15 = .ok (.invokeinterface 107 1, 5) := by decide +kernel
theorem dX1_brought_20 : decode cX1_brought 20 = .ok (.if_icmp .ge 17, 3) := dk_162 0 17 (dk_at dksX1_brought_0 20 rfl rfl)
theorem dX1_brought_23 : decode cX1_brought 23 = .ok (.lload_n 1, 1) := dk_31 (dk_at dksX1_brought_0 23 rfl rfl)
theorem dX1_brought_24 : decode cX1_brought 24 = .ok (.aload_n 0, 1) := dk_42 (dk_at dksX1_brought_1 0 rfl rfl)
theorem dX1_brought_25 : decode cX1_brought 25 = .ok (.iload_n 3, 1) := dk_29 (dk_at dksX1_brought_1 1 rfl rfl)
theorem dX1_brought_26 : decode cX1_brought 26 = .ok (.invokevirtual 325, 3) := dk_182 1 69 (dk_at dksX1_brought_1 2 rfl rfl)
theorem dX1_brought_29 : decode cX1_brought 29 = .ok (.ladd, 1) := dk_97 (dk_at dksX1_brought_1 5 rfl rfl)
theorem dX1_brought_30 : decode cX1_brought 30 = .ok (.lstore_n 1, 1) := dk_64 (dk_at dksX1_brought_1 6 rfl rfl)
theorem dX1_brought_31 : decode cX1_brought 31 = .ok (.iinc 3 1, 3) := dk_132 3 1 (dk_at dksX1_brought_1 7 rfl rfl)
theorem dX1_brought_34 : decode cX1_brought 34 = .ok (.goto (-30), 3) := dk_167 255 226 (dk_at dksX1_brought_1 10 rfl rfl)
theorem dX1_brought_37 : decode cX1_brought 37 = .ok (.lload_n 1, 1) := dk_31 (dk_at dksX1_brought_1 13 rfl rfl)
theorem dX1_brought_38 : decode cX1_brought 38 = .ok (.lreturn, 1) := dk_173 (dk_at dksX1_brought_1 14 rfl rfl)
abbrev cX1_brings : ByteArray := prog_1_method_45_code
def yX1_brings : MethodName := ⟨RX1, "brings", "(I)J"⟩
def dkwX1_brings_2 : List UInt8 := [180, 0, 19, 182, 1, 23, 133, 105, 167, 0, 4, 9, 173]
abbrev dktX1_brings_2 : List UInt8 := dkwX1_brings_2 ++ []
def dkwX1_brings_1 : List UInt8 := [192, 0, 145, 182, 0, 255, 153, 0, 29, 42, 180, 0, 19, 180, 0, 205, 27, 46, 133, 42, 180, 0, 28, 42]
abbrev dktX1_brings_1 : List UInt8 := dkwX1_brings_1 ++ dktX1_brings_2
def dkwX1_brings_0 : List UInt8 := [42, 180, 0, 28, 42, 180, 0, 19, 42, 180, 0, 19, 180, 0, 99, 180, 0, 125, 27, 185, 0, 136, 2, 0]
abbrev dktX1_brings_0 : List UInt8 := dkwX1_brings_0 ++ dktX1_brings_1
theorem dksX1_brings_0 : cX1_brings.data.toList.drop 0 = dktX1_brings_0 := by decide +kernel
theorem dksX1_brings_1 : cX1_brings.data.toList.drop 24 = dktX1_brings_1 := dk_seg dksX1_brings_0 24 rfl rfl
theorem dksX1_brings_2 : cX1_brings.data.toList.drop 48 = dktX1_brings_2 := dk_seg dksX1_brings_1 24 rfl rfl
theorem dX1_brings_0 : decode cX1_brings 0 = .ok (.aload_n 0, 1) := dk_42 (dk_at dksX1_brings_0 0 rfl rfl)
theorem dX1_brings_1 : decode cX1_brings 1 = .ok (.getfield 28, 3) := dk_180 0 28 (dk_at dksX1_brings_0 1 rfl rfl)
theorem dX1_brings_4 : decode cX1_brings 4 = .ok (.aload_n 0, 1) := dk_42 (dk_at dksX1_brings_0 4 rfl rfl)
theorem dX1_brings_5 : decode cX1_brings 5 = .ok (.getfield 19, 3) := dk_180 0 19 (dk_at dksX1_brings_0 5 rfl rfl)
theorem dX1_brings_8 : decode cX1_brings 8 = .ok (.aload_n 0, 1) := dk_42 (dk_at dksX1_brings_0 8 rfl rfl)
theorem dX1_brings_9 : decode cX1_brings 9 = .ok (.getfield 19, 3) := dk_180 0 19 (dk_at dksX1_brings_0 9 rfl rfl)
theorem dX1_brings_12 : decode cX1_brings 12 = .ok (.getfield 99, 3) := dk_180 0 99 (dk_at dksX1_brings_0 12 rfl rfl)
theorem dX1_brings_15 : decode cX1_brings 15 = .ok (.getfield 125, 3) := dk_180 0 125 (dk_at dksX1_brings_0 15 rfl rfl)
theorem dX1_brings_18 : decode cX1_brings 18 = .ok (.iload_n 1, 1) := dk_27 (dk_at dksX1_brings_0 18 rfl rfl)
theorem dX1_brings_19 : decode cX1_brings 19 = .ok (.invokeinterface 136 2, 5) := by decide +kernel
theorem dX1_brings_24 : decode cX1_brings 24 = .ok (.checkcast 145, 3) := dk_192 0 145 (dk_at dksX1_brings_1 0 rfl rfl)
theorem dX1_brings_27 : decode cX1_brings 27 = .ok (.invokevirtual 255, 3) := dk_182 0 255 (dk_at dksX1_brings_1 3 rfl rfl)
theorem dX1_brings_30 : decode cX1_brings 30 = .ok (.ifCond .eq 29, 3) := dk_153 0 29 (dk_at dksX1_brings_1 6 rfl rfl)
theorem dX1_brings_33 : decode cX1_brings 33 = .ok (.aload_n 0, 1) := dk_42 (dk_at dksX1_brings_1 9 rfl rfl)
theorem dX1_brings_34 : decode cX1_brings 34 = .ok (.getfield 19, 3) := dk_180 0 19 (dk_at dksX1_brings_1 10 rfl rfl)
theorem dX1_brings_37 : decode cX1_brings 37 = .ok (.getfield 205, 3) := dk_180 0 205 (dk_at dksX1_brings_1 13 rfl rfl)
theorem dX1_brings_40 : decode cX1_brings 40 = .ok (.iload_n 1, 1) := dk_27 (dk_at dksX1_brings_1 16 rfl rfl)
theorem dX1_brings_41 : decode cX1_brings 41 = .ok (.iaload, 1) := dk_46 (dk_at dksX1_brings_1 17 rfl rfl)
theorem dX1_brings_42 : decode cX1_brings 42 = .ok (.i2l, 1) := dk_133 (dk_at dksX1_brings_1 18 rfl rfl)
theorem dX1_brings_43 : decode cX1_brings 43 = .ok (.aload_n 0, 1) := dk_42 (dk_at dksX1_brings_1 19 rfl rfl)
theorem dX1_brings_44 : decode cX1_brings 44 = .ok (.getfield 28, 3) := dk_180 0 28 (dk_at dksX1_brings_1 20 rfl rfl)
theorem dX1_brings_47 : decode cX1_brings 47 = .ok (.aload_n 0, 1) := dk_42 (dk_at dksX1_brings_1 23 rfl rfl)
theorem dX1_brings_48 : decode cX1_brings 48 = .ok (.getfield 19, 3) := dk_180 0 19 (dk_at dksX1_brings_2 0 rfl rfl)
theorem dX1_brings_51 : decode cX1_brings 51 = .ok (.invokevirtual 279, 3) := dk_182 1 23 (dk_at dksX1_brings_2 3 rfl rfl)
theorem dX1_brings_54 : decode cX1_brings 54 = .ok (.i2l, 1) := dk_133 (dk_at dksX1_brings_2 6 rfl rfl)
theorem dX1_brings_55 : decode cX1_brings 55 = .ok (.lmul, 1) := dk_105 (dk_at dksX1_brings_2 7 rfl rfl)
theorem dX1_brings_56 : decode cX1_brings 56 = .ok (.goto 4, 3) := dk_167 0 4 (dk_at dksX1_brings_2 8 rfl rfl)
theorem dX1_brings_59 : decode cX1_brings 59 = .ok (.lconst 0, 1) := dk_9 (dk_at dksX1_brings_2 11 rfl rfl)
theorem dX1_brings_60 : decode cX1_brings 60 = .ok (.lreturn, 1) := dk_173 (dk_at dksX1_brings_2 12 rfl rfl)
abbrev cX1_bound : ByteArray := prog_1_method_52_code
def yX1_bound : MethodName := ⟨RX1, "bound", "()J"⟩
def dkwX1_bound_3 : List UInt8 := [154, 0, 7, 20, 1, 80, 173, 31, 22, 4, 97, 64, 132, 3, 1, 167, 255, 176, 31, 173]
abbrev dktX1_bound_3 : List UInt8 := dkwX1_bound_3 ++ []
def dkwX1_bound_2 : List UInt8 := [20, 1, 37, 148, 154, 0, 6, 167, 0, 28, 42, 29, 182, 1, 85, 55, 4, 22, 4, 20, 1, 80, 148]
abbrev dktX1_bound_2 : List UInt8 := dkwX1_bound_2 ++ dktX1_bound_3
def dkwX1_bound_1 : List UInt8 := [42, 180, 0, 19, 180, 0, 99, 180, 0, 125, 29, 185, 0, 136, 2, 0, 192, 0, 145, 182, 1, 33]
abbrev dktX1_bound_1 : List UInt8 := dkwX1_bound_1 ++ dktX1_bound_2
def dkwX1_bound_0 : List UInt8 := [9, 64, 3, 62, 29, 42, 180, 0, 19, 180, 0, 99, 180, 0, 125, 185, 0, 107, 1, 0, 162, 0, 67, 42]
abbrev dktX1_bound_0 : List UInt8 := dkwX1_bound_0 ++ dktX1_bound_1
theorem dksX1_bound_0 : cX1_bound.data.toList.drop 0 = dktX1_bound_0 := by decide +kernel
theorem dksX1_bound_1 : cX1_bound.data.toList.drop 24 = dktX1_bound_1 := dk_seg dksX1_bound_0 24 rfl rfl
theorem dksX1_bound_2 : cX1_bound.data.toList.drop 46 = dktX1_bound_2 := dk_seg dksX1_bound_1 22 rfl rfl
theorem dksX1_bound_3 : cX1_bound.data.toList.drop 69 = dktX1_bound_3 := dk_seg dksX1_bound_2 23 rfl rfl
theorem dX1_bound_0 : decode cX1_bound 0 = .ok (.lconst 0, 1) := dk_9 (dk_at dksX1_bound_0 0 rfl rfl)
theorem dX1_bound_1 : decode cX1_bound 1 = .ok (.lstore_n 1, 1) := dk_64 (dk_at dksX1_bound_0 1 rfl rfl)
theorem dX1_bound_2 : decode cX1_bound 2 = .ok (.iconst 0, 1) := dk_3 (dk_at dksX1_bound_0 2 rfl rfl)
theorem dX1_bound_3 : decode cX1_bound 3 = .ok (.istore_n 3, 1) := dk_62 (dk_at dksX1_bound_0 3 rfl rfl)
theorem dX1_bound_4 : decode cX1_bound 4 = .ok (.iload_n 3, 1) := dk_29 (dk_at dksX1_bound_0 4 rfl rfl)
theorem dX1_bound_5 : decode cX1_bound 5 = .ok (.aload_n 0, 1) := dk_42 (dk_at dksX1_bound_0 5 rfl rfl)
theorem dX1_bound_6 : decode cX1_bound 6 = .ok (.getfield 19, 3) := dk_180 0 19 (dk_at dksX1_bound_0 6 rfl rfl)
theorem dX1_bound_9 : decode cX1_bound 9 = .ok (.getfield 99, 3) := dk_180 0 99 (dk_at dksX1_bound_0 9 rfl rfl)
theorem dX1_bound_12 : decode cX1_bound 12 = .ok (.getfield 125, 3) := dk_180 0 125 (dk_at dksX1_bound_0 12 rfl rfl)
theorem dX1_bound_15 : decode cX1_bound 15 = .ok (.invokeinterface 107 1, 5) := by decide +kernel
theorem dX1_bound_20 : decode cX1_bound 20 = .ok (.if_icmp .ge 67, 3) := dk_162 0 67 (dk_at dksX1_bound_0 20 rfl rfl)
theorem dX1_bound_23 : decode cX1_bound 23 = .ok (.aload_n 0, 1) := dk_42 (dk_at dksX1_bound_0 23 rfl rfl)
theorem dX1_bound_24 : decode cX1_bound 24 = .ok (.aload_n 0, 1) := dk_42 (dk_at dksX1_bound_1 0 rfl rfl)
theorem dX1_bound_25 : decode cX1_bound 25 = .ok (.getfield 19, 3) := dk_180 0 19 (dk_at dksX1_bound_1 1 rfl rfl)
theorem dX1_bound_28 : decode cX1_bound 28 = .ok (.getfield 99, 3) := dk_180 0 99 (dk_at dksX1_bound_1 4 rfl rfl)
theorem dX1_bound_31 : decode cX1_bound 31 = .ok (.getfield 125, 3) := dk_180 0 125 (dk_at dksX1_bound_1 7 rfl rfl)
theorem dX1_bound_34 : decode cX1_bound 34 = .ok (.iload_n 3, 1) := dk_29 (dk_at dksX1_bound_1 10 rfl rfl)
theorem dX1_bound_35 : decode cX1_bound 35 = .ok (.invokeinterface 136 2, 5) := by decide +kernel
theorem dX1_bound_40 : decode cX1_bound 40 = .ok (.checkcast 145, 3) := dk_192 0 145 (dk_at dksX1_bound_1 16 rfl rfl)
theorem dX1_bound_43 : decode cX1_bound 43 = .ok (.invokevirtual 289, 3) := dk_182 1 33 (dk_at dksX1_bound_1 19 rfl rfl)
theorem dX1_bound_46 : decode cX1_bound 46 = .ok (.ldc2_w 293, 3) := dk_20 1 37 (dk_at dksX1_bound_2 0 rfl rfl)
theorem dX1_bound_49 : decode cX1_bound 49 = .ok (.lcmp, 1) := dk_148 (dk_at dksX1_bound_2 3 rfl rfl)
theorem dX1_bound_50 : decode cX1_bound 50 = .ok (.ifCond .ne 6, 3) := dk_154 0 6 (dk_at dksX1_bound_2 4 rfl rfl)
theorem dX1_bound_53 : decode cX1_bound 53 = .ok (.goto 28, 3) := dk_167 0 28 (dk_at dksX1_bound_2 7 rfl rfl)
theorem dX1_bound_56 : decode cX1_bound 56 = .ok (.aload_n 0, 1) := dk_42 (dk_at dksX1_bound_2 10 rfl rfl)
theorem dX1_bound_57 : decode cX1_bound 57 = .ok (.iload_n 3, 1) := dk_29 (dk_at dksX1_bound_2 11 rfl rfl)
theorem dX1_bound_58 : decode cX1_bound 58 = .ok (.invokevirtual 341, 3) := dk_182 1 85 (dk_at dksX1_bound_2 12 rfl rfl)
theorem dX1_bound_61 : decode cX1_bound 61 = .ok (.lstore 4, 2) := dk_55 4 (dk_at dksX1_bound_2 15 rfl rfl)
theorem dX1_bound_63 : decode cX1_bound 63 = .ok (.lload 4, 2) := dk_22 4 (dk_at dksX1_bound_2 17 rfl rfl)
theorem dX1_bound_65 : decode cX1_bound 65 = .ok (.ldc2_w 336, 3) := dk_20 1 80 (dk_at dksX1_bound_2 19 rfl rfl)
theorem dX1_bound_68 : decode cX1_bound 68 = .ok (.lcmp, 1) := dk_148 (dk_at dksX1_bound_2 22 rfl rfl)
theorem dX1_bound_69 : decode cX1_bound 69 = .ok (.ifCond .ne 7, 3) := dk_154 0 7 (dk_at dksX1_bound_3 0 rfl rfl)
theorem dX1_bound_72 : decode cX1_bound 72 = .ok (.ldc2_w 336, 3) := dk_20 1 80 (dk_at dksX1_bound_3 3 rfl rfl)
theorem dX1_bound_75 : decode cX1_bound 75 = .ok (.lreturn, 1) := dk_173 (dk_at dksX1_bound_3 6 rfl rfl)
theorem dX1_bound_76 : decode cX1_bound 76 = .ok (.lload_n 1, 1) := dk_31 (dk_at dksX1_bound_3 7 rfl rfl)
theorem dX1_bound_77 : decode cX1_bound 77 = .ok (.lload 4, 2) := dk_22 4 (dk_at dksX1_bound_3 8 rfl rfl)
theorem dX1_bound_79 : decode cX1_bound 79 = .ok (.ladd, 1) := dk_97 (dk_at dksX1_bound_3 10 rfl rfl)
theorem dX1_bound_80 : decode cX1_bound 80 = .ok (.lstore_n 1, 1) := dk_64 (dk_at dksX1_bound_3 11 rfl rfl)
theorem dX1_bound_81 : decode cX1_bound 81 = .ok (.iinc 3 1, 3) := dk_132 3 1 (dk_at dksX1_bound_3 12 rfl rfl)
theorem dX1_bound_84 : decode cX1_bound 84 = .ok (.goto (-80), 3) := dk_167 255 176 (dk_at dksX1_bound_3 15 rfl rfl)
theorem dX1_bound_87 : decode cX1_bound 87 = .ok (.lload_n 1, 1) := dk_31 (dk_at dksX1_bound_3 18 rfl rfl)
theorem dX1_bound_88 : decode cX1_bound 88 = .ok (.lreturn, 1) := dk_173 (dk_at dksX1_bound_3 19 rfl rfl)
abbrev cX1_feltBy : ByteArray := prog_1_method_33_code
def yX1_feltBy : MethodName := ⟨RX1, "feltBy", "(LTollLeader$Trip;)J"⟩
def dkwX1_feltBy_0 : List UInt8 := [42, 180, 0, 28, 42, 180, 0, 19, 43, 178, 1, 25, 182, 1, 29, 173]
abbrev dktX1_feltBy_0 : List UInt8 := dkwX1_feltBy_0 ++ []
theorem dksX1_feltBy_0 : cX1_feltBy.data.toList.drop 0 = dktX1_feltBy_0 := by decide +kernel
theorem dX1_feltBy_0 : decode cX1_feltBy 0 = .ok (.aload_n 0, 1) := dk_42 (dk_at dksX1_feltBy_0 0 rfl rfl)
theorem dX1_feltBy_1 : decode cX1_feltBy 1 = .ok (.getfield 28, 3) := dk_180 0 28 (dk_at dksX1_feltBy_0 1 rfl rfl)
theorem dX1_feltBy_4 : decode cX1_feltBy 4 = .ok (.aload_n 0, 1) := dk_42 (dk_at dksX1_feltBy_0 4 rfl rfl)
theorem dX1_feltBy_5 : decode cX1_feltBy 5 = .ok (.getfield 19, 3) := dk_180 0 19 (dk_at dksX1_feltBy_0 5 rfl rfl)
theorem dX1_feltBy_8 : decode cX1_feltBy 8 = .ok (.aload_n 1, 1) := dk_43 (dk_at dksX1_feltBy_0 8 rfl rfl)
theorem dX1_feltBy_9 : decode cX1_feltBy 9 = .ok (.getstatic 281, 3) := dk_178 1 25 (dk_at dksX1_feltBy_0 9 rfl rfl)
theorem dX1_feltBy_12 : decode cX1_feltBy 12 = .ok (.invokevirtual 285, 3) := dk_182 1 29 (dk_at dksX1_feltBy_0 12 rfl rfl)
theorem dX1_feltBy_15 : decode cX1_feltBy 15 = .ok (.lreturn, 1) := dk_173 (dk_at dksX1_feltBy_0 15 rfl rfl)
abbrev cX1_pledged : ByteArray := prog_1_method_50_code
def yX1_pledged : MethodName := ⟨RX1, "pledged", "(I)J"⟩
def dkwX1_pledged_3 : List UInt8 := [182, 1, 29, 101, 105, 173]
abbrev dktX1_pledged_3 : List UInt8 := dkwX1_pledged_3 ++ []
def dkwX1_pledged_2 : List UInt8 := [42, 180, 0, 19, 180, 0, 205, 27, 46, 133, 33, 42, 180, 0, 28, 42, 180, 0, 19, 44, 178, 1, 82]
abbrev dktX1_pledged_2 : List UInt8 := dkwX1_pledged_2 ++ dktX1_pledged_3
def dkwX1_pledged_1 : List UInt8 := [42, 180, 0, 19, 44, 178, 1, 77, 182, 1, 29, 66, 33, 20, 1, 37, 148, 154, 0, 7, 20, 1, 80, 173]
abbrev dktX1_pledged_1 : List UInt8 := dkwX1_pledged_1 ++ dktX1_pledged_2
def dkwX1_pledged_0 : List UInt8 := [42, 180, 0, 19, 180, 0, 99, 180, 0, 125, 27, 185, 0, 136, 2, 0, 192, 0, 145, 77, 42, 180, 0, 28]
abbrev dktX1_pledged_0 : List UInt8 := dkwX1_pledged_0 ++ dktX1_pledged_1
theorem dksX1_pledged_0 : cX1_pledged.data.toList.drop 0 = dktX1_pledged_0 := by decide +kernel
theorem dksX1_pledged_1 : cX1_pledged.data.toList.drop 24 = dktX1_pledged_1 := dk_seg dksX1_pledged_0 24 rfl rfl
theorem dksX1_pledged_2 : cX1_pledged.data.toList.drop 48 = dktX1_pledged_2 := dk_seg dksX1_pledged_1 24 rfl rfl
theorem dksX1_pledged_3 : cX1_pledged.data.toList.drop 71 = dktX1_pledged_3 := dk_seg dksX1_pledged_2 23 rfl rfl
theorem dX1_pledged_0 : decode cX1_pledged 0 = .ok (.aload_n 0, 1) := dk_42 (dk_at dksX1_pledged_0 0 rfl rfl)
theorem dX1_pledged_1 : decode cX1_pledged 1 = .ok (.getfield 19, 3) := dk_180 0 19 (dk_at dksX1_pledged_0 1 rfl rfl)
theorem dX1_pledged_4 : decode cX1_pledged 4 = .ok (.getfield 99, 3) := dk_180 0 99 (dk_at dksX1_pledged_0 4 rfl rfl)
theorem dX1_pledged_7 : decode cX1_pledged 7 = .ok (.getfield 125, 3) := dk_180 0 125 (dk_at dksX1_pledged_0 7 rfl rfl)
theorem dX1_pledged_10 : decode cX1_pledged 10 = .ok (.iload_n 1, 1) := dk_27 (dk_at dksX1_pledged_0 10 rfl rfl)
theorem dX1_pledged_11 : decode cX1_pledged 11 = .ok (.invokeinterface 136 2, 5) := by decide +kernel
theorem dX1_pledged_16 : decode cX1_pledged 16 = .ok (.checkcast 145, 3) := dk_192 0 145 (dk_at dksX1_pledged_0 16 rfl rfl)
theorem dX1_pledged_19 : decode cX1_pledged 19 = .ok (.astore_n 2, 1) := dk_77 (dk_at dksX1_pledged_0 19 rfl rfl)
theorem dX1_pledged_20 : decode cX1_pledged 20 = .ok (.aload_n 0, 1) := dk_42 (dk_at dksX1_pledged_0 20 rfl rfl)
theorem dX1_pledged_21 : decode cX1_pledged 21 = .ok (.getfield 28, 3) := dk_180 0 28 (dk_at dksX1_pledged_0 21 rfl rfl)
theorem dX1_pledged_24 : decode cX1_pledged 24 = .ok (.aload_n 0, 1) := dk_42 (dk_at dksX1_pledged_1 0 rfl rfl)
theorem dX1_pledged_25 : decode cX1_pledged 25 = .ok (.getfield 19, 3) := dk_180 0 19 (dk_at dksX1_pledged_1 1 rfl rfl)
theorem dX1_pledged_28 : decode cX1_pledged 28 = .ok (.aload_n 2, 1) := dk_44 (dk_at dksX1_pledged_1 4 rfl rfl)
theorem dX1_pledged_29 : decode cX1_pledged 29 = .ok (.getstatic 333, 3) := dk_178 1 77 (dk_at dksX1_pledged_1 5 rfl rfl)
theorem dX1_pledged_32 : decode cX1_pledged 32 = .ok (.invokevirtual 285, 3) := dk_182 1 29 (dk_at dksX1_pledged_1 8 rfl rfl)
theorem dX1_pledged_35 : decode cX1_pledged 35 = .ok (.lstore_n 3, 1) := dk_66 (dk_at dksX1_pledged_1 11 rfl rfl)
theorem dX1_pledged_36 : decode cX1_pledged 36 = .ok (.lload_n 3, 1) := dk_33 (dk_at dksX1_pledged_1 12 rfl rfl)
theorem dX1_pledged_37 : decode cX1_pledged 37 = .ok (.ldc2_w 293, 3) := dk_20 1 37 (dk_at dksX1_pledged_1 13 rfl rfl)
theorem dX1_pledged_40 : decode cX1_pledged 40 = .ok (.lcmp, 1) := dk_148 (dk_at dksX1_pledged_1 16 rfl rfl)
theorem dX1_pledged_41 : decode cX1_pledged 41 = .ok (.ifCond .ne 7, 3) := dk_154 0 7 (dk_at dksX1_pledged_1 17 rfl rfl)
theorem dX1_pledged_44 : decode cX1_pledged 44 = .ok (.ldc2_w 336, 3) := dk_20 1 80 (dk_at dksX1_pledged_1 20 rfl rfl)
theorem dX1_pledged_47 : decode cX1_pledged 47 = .ok (.lreturn, 1) := dk_173 (dk_at dksX1_pledged_1 23 rfl rfl)
theorem dX1_pledged_48 : decode cX1_pledged 48 = .ok (.aload_n 0, 1) := dk_42 (dk_at dksX1_pledged_2 0 rfl rfl)
theorem dX1_pledged_49 : decode cX1_pledged 49 = .ok (.getfield 19, 3) := dk_180 0 19 (dk_at dksX1_pledged_2 1 rfl rfl)
theorem dX1_pledged_52 : decode cX1_pledged 52 = .ok (.getfield 205, 3) := dk_180 0 205 (dk_at dksX1_pledged_2 4 rfl rfl)
theorem dX1_pledged_55 : decode cX1_pledged 55 = .ok (.iload_n 1, 1) := dk_27 (dk_at dksX1_pledged_2 7 rfl rfl)
theorem dX1_pledged_56 : decode cX1_pledged 56 = .ok (.iaload, 1) := dk_46 (dk_at dksX1_pledged_2 8 rfl rfl)
theorem dX1_pledged_57 : decode cX1_pledged 57 = .ok (.i2l, 1) := dk_133 (dk_at dksX1_pledged_2 9 rfl rfl)
theorem dX1_pledged_58 : decode cX1_pledged 58 = .ok (.lload_n 3, 1) := dk_33 (dk_at dksX1_pledged_2 10 rfl rfl)
theorem dX1_pledged_59 : decode cX1_pledged 59 = .ok (.aload_n 0, 1) := dk_42 (dk_at dksX1_pledged_2 11 rfl rfl)
theorem dX1_pledged_60 : decode cX1_pledged 60 = .ok (.getfield 28, 3) := dk_180 0 28 (dk_at dksX1_pledged_2 12 rfl rfl)
theorem dX1_pledged_63 : decode cX1_pledged 63 = .ok (.aload_n 0, 1) := dk_42 (dk_at dksX1_pledged_2 15 rfl rfl)
theorem dX1_pledged_64 : decode cX1_pledged 64 = .ok (.getfield 19, 3) := dk_180 0 19 (dk_at dksX1_pledged_2 16 rfl rfl)
theorem dX1_pledged_67 : decode cX1_pledged 67 = .ok (.aload_n 2, 1) := dk_44 (dk_at dksX1_pledged_2 19 rfl rfl)
theorem dX1_pledged_68 : decode cX1_pledged 68 = .ok (.getstatic 338, 3) := dk_178 1 82 (dk_at dksX1_pledged_2 20 rfl rfl)
theorem dX1_pledged_71 : decode cX1_pledged 71 = .ok (.invokevirtual 285, 3) := dk_182 1 29 (dk_at dksX1_pledged_3 0 rfl rfl)
theorem dX1_pledged_74 : decode cX1_pledged 74 = .ok (.lsub, 1) := dk_101 (dk_at dksX1_pledged_3 3 rfl rfl)
theorem dX1_pledged_75 : decode cX1_pledged 75 = .ok (.lmul, 1) := dk_105 (dk_at dksX1_pledged_3 4 rfl rfl)
theorem dX1_pledged_76 : decode cX1_pledged 76 = .ok (.lreturn, 1) := dk_173 (dk_at dksX1_pledged_3 5 rfl rfl)
abbrev cX1_improve : ByteArray := prog_1_method_58_code
def yX1_improve : MethodName := ⟨RX1, "improve", "()I"⟩
def dkwX1_improve_0 : List UInt8 := [42, 182, 0, 215, 42, 182, 1, 107, 172]
abbrev dktX1_improve_0 : List UInt8 := dkwX1_improve_0 ++ []
theorem dksX1_improve_0 : cX1_improve.data.toList.drop 0 = dktX1_improve_0 := by decide +kernel
theorem dX1_improve_0 : decode cX1_improve 0 = .ok (.aload_n 0, 1) := dk_42 (dk_at dksX1_improve_0 0 rfl rfl)
theorem dX1_improve_1 : decode cX1_improve 1 = .ok (.invokevirtual 215, 3) := dk_182 0 215 (dk_at dksX1_improve_0 1 rfl rfl)
theorem dX1_improve_4 : decode cX1_improve 4 = .ok (.aload_n 0, 1) := dk_42 (dk_at dksX1_improve_0 4 rfl rfl)
theorem dX1_improve_5 : decode cX1_improve 5 = .ok (.invokevirtual 363, 3) := dk_182 1 107 (dk_at dksX1_improve_0 5 rfl rfl)
theorem dX1_improve_8 : decode cX1_improve 8 = .ok (.ireturn, 1) := dk_172 (dk_at dksX1_improve_0 8 rfl rfl)
abbrev cX1_improved : ByteArray := prog_1_method_57_code
def yX1_improved : MethodName := ⟨RX1, "improved", "()I"⟩
def dkwX1_improved_4 : List UInt8 := [167, 255, 180, 27, 172]
abbrev dktX1_improved_4 : List UInt8 := dkwX1_improved_4 ++ []
def dkwX1_improved_3 : List UInt8 := [167, 255, 203, 42, 180, 0, 19, 180, 0, 218, 45, 182, 0, 225, 25, 4, 180, 1, 101, 79, 132, 1, 1]
abbrev dktX1_improved_3 : List UInt8 := dkwX1_improved_3 ++ dktX1_improved_4
def dkwX1_improved_2 : List UInt8 := [187, 1, 96, 89, 42, 45, 183, 1, 98, 58, 4, 25, 4, 180, 1, 104, 42, 182, 1, 73, 148, 157, 0, 6]
abbrev dktX1_improved_2 : List UInt8 := dkwX1_improved_2 ++ dktX1_improved_3
def dkwX1_improved_1 : List UInt8 := [153, 0, 73, 44, 185, 0, 157, 1, 0, 192, 0, 140, 78, 45, 182, 0, 160, 154, 0, 6, 167, 255, 230]
abbrev dktX1_improved_1 : List UInt8 := dkwX1_improved_1 ++ dktX1_improved_2
def dkwX1_improved_0 : List UInt8 := [3, 60, 42, 180, 0, 19, 180, 0, 99, 180, 0, 103, 185, 0, 147, 1, 0, 77, 44, 185, 0, 151, 1, 0]
abbrev dktX1_improved_0 : List UInt8 := dkwX1_improved_0 ++ dktX1_improved_1
theorem dksX1_improved_0 : cX1_improved.data.toList.drop 0 = dktX1_improved_0 := by decide +kernel
theorem dksX1_improved_1 : cX1_improved.data.toList.drop 24 = dktX1_improved_1 := dk_seg dksX1_improved_0 24 rfl rfl
theorem dksX1_improved_2 : cX1_improved.data.toList.drop 47 = dktX1_improved_2 := dk_seg dksX1_improved_1 23 rfl rfl
theorem dksX1_improved_3 : cX1_improved.data.toList.drop 71 = dktX1_improved_3 := dk_seg dksX1_improved_2 24 rfl rfl
theorem dksX1_improved_4 : cX1_improved.data.toList.drop 94 = dktX1_improved_4 := dk_seg dksX1_improved_3 23 rfl rfl
theorem dX1_improved_0 : decode cX1_improved 0 = .ok (.iconst 0, 1) := dk_3 (dk_at dksX1_improved_0 0 rfl rfl)
theorem dX1_improved_1 : decode cX1_improved 1 = .ok (.istore_n 1, 1) := dk_60 (dk_at dksX1_improved_0 1 rfl rfl)
theorem dX1_improved_2 : decode cX1_improved 2 = .ok (.aload_n 0, 1) := dk_42 (dk_at dksX1_improved_0 2 rfl rfl)
theorem dX1_improved_3 : decode cX1_improved 3 = .ok (.getfield 19, 3) := dk_180 0 19 (dk_at dksX1_improved_0 3 rfl rfl)
theorem dX1_improved_6 : decode cX1_improved 6 = .ok (.getfield 99, 3) := dk_180 0 99 (dk_at dksX1_improved_0 6 rfl rfl)
theorem dX1_improved_9 : decode cX1_improved 9 = .ok (.getfield 103, 3) := dk_180 0 103 (dk_at dksX1_improved_0 9 rfl rfl)
theorem dX1_improved_12 : decode cX1_improved 12 = .ok (.invokeinterface 147 1, 5) := by decide +kernel
theorem dX1_improved_17 : decode cX1_improved 17 = .ok (.astore_n 2, 1) := dk_77 (dk_at dksX1_improved_0 17 rfl rfl)
theorem dX1_improved_18 : decode cX1_improved 18 = .ok (.aload_n 2, 1) := dk_44 (dk_at dksX1_improved_0 18 rfl rfl)
theorem dX1_improved_19 : decode cX1_improved 19 = .ok (.invokeinterface 151 1, 5) := by decide +kernel
theorem dX1_improved_24 : decode cX1_improved 24 = .ok (.ifCond .eq 73, 3) := dk_153 0 73 (dk_at dksX1_improved_1 0 rfl rfl)
theorem dX1_improved_27 : decode cX1_improved 27 = .ok (.aload_n 2, 1) := dk_44 (dk_at dksX1_improved_1 3 rfl rfl)
theorem dX1_improved_28 : decode cX1_improved 28 = .ok (.invokeinterface 157 1, 5) := by decide +kernel
theorem dX1_improved_33 : decode cX1_improved 33 = .ok (.checkcast 140, 3) := dk_192 0 140 (dk_at dksX1_improved_1 9 rfl rfl)
theorem dX1_improved_36 : decode cX1_improved 36 = .ok (.astore_n 3, 1) := dk_78 (dk_at dksX1_improved_1 12 rfl rfl)
theorem dX1_improved_37 : decode cX1_improved 37 = .ok (.aload_n 3, 1) := dk_45 (dk_at dksX1_improved_1 13 rfl rfl)
theorem dX1_improved_38 : decode cX1_improved 38 = .ok (.invokevirtual 160, 3) := dk_182 0 160 (dk_at dksX1_improved_1 14 rfl rfl)
theorem dX1_improved_41 : decode cX1_improved 41 = .ok (.ifCond .ne 6, 3) := dk_154 0 6 (dk_at dksX1_improved_1 17 rfl rfl)
theorem dX1_improved_44 : decode cX1_improved 44 = .ok (.goto (-26), 3) := dk_167 255 230 (dk_at dksX1_improved_1 20 rfl rfl)
theorem dX1_improved_47 : decode cX1_improved 47 = .ok (.new 352, 3) := dk_187 1 96 (dk_at dksX1_improved_2 0 rfl rfl)
theorem dX1_improved_50 : decode cX1_improved 50 = .ok (.dup, 1) := dk_89 (dk_at dksX1_improved_2 3 rfl rfl)
theorem dX1_improved_51 : decode cX1_improved 51 = .ok (.aload_n 0, 1) := dk_42 (dk_at dksX1_improved_2 4 rfl rfl)
theorem dX1_improved_52 : decode cX1_improved 52 = .ok (.aload_n 3, 1) := dk_45 (dk_at dksX1_improved_2 5 rfl rfl)
theorem dX1_improved_53 : decode cX1_improved 53 = .ok (.invokespecial 354, 3) := dk_183 1 98 (dk_at dksX1_improved_2 6 rfl rfl)
theorem dX1_improved_56 : decode cX1_improved 56 = .ok (.astore 4, 2) := dk_58 4 (dk_at dksX1_improved_2 9 rfl rfl)
theorem dX1_improved_58 : decode cX1_improved 58 = .ok (.aload 4, 2) := dk_25 4 (dk_at dksX1_improved_2 11 rfl rfl)
theorem dX1_improved_60 : decode cX1_improved 60 = .ok (.getfield 360, 3) := dk_180 1 104 (dk_at dksX1_improved_2 13 rfl rfl)
theorem dX1_improved_63 : decode cX1_improved 63 = .ok (.aload_n 0, 1) := dk_42 (dk_at dksX1_improved_2 16 rfl rfl)
theorem dX1_improved_64 : decode cX1_improved 64 = .ok (.invokevirtual 329, 3) := dk_182 1 73 (dk_at dksX1_improved_2 17 rfl rfl)
theorem dX1_improved_67 : decode cX1_improved 67 = .ok (.lcmp, 1) := dk_148 (dk_at dksX1_improved_2 20 rfl rfl)
theorem dX1_improved_68 : decode cX1_improved 68 = .ok (.ifCond .gt 6, 3) := dk_157 0 6 (dk_at dksX1_improved_2 21 rfl rfl)
theorem dX1_improved_71 : decode cX1_improved 71 = .ok (.goto (-53), 3) := dk_167 255 203 (dk_at dksX1_improved_3 0 rfl rfl)
theorem dX1_improved_74 : decode cX1_improved 74 = .ok (.aload_n 0, 1) := dk_42 (dk_at dksX1_improved_3 3 rfl rfl)
theorem dX1_improved_75 : decode cX1_improved 75 = .ok (.getfield 19, 3) := dk_180 0 19 (dk_at dksX1_improved_3 4 rfl rfl)
theorem dX1_improved_78 : decode cX1_improved 78 = .ok (.getfield 218, 3) := dk_180 0 218 (dk_at dksX1_improved_3 7 rfl rfl)
theorem dX1_improved_81 : decode cX1_improved 81 = .ok (.aload_n 3, 1) := dk_45 (dk_at dksX1_improved_3 10 rfl rfl)
theorem dX1_improved_82 : decode cX1_improved 82 = .ok (.invokevirtual 225, 3) := dk_182 0 225 (dk_at dksX1_improved_3 11 rfl rfl)
theorem dX1_improved_85 : decode cX1_improved 85 = .ok (.aload 4, 2) := dk_25 4 (dk_at dksX1_improved_3 14 rfl rfl)
theorem dX1_improved_87 : decode cX1_improved 87 = .ok (.getfield 357, 3) := dk_180 1 101 (dk_at dksX1_improved_3 16 rfl rfl)
theorem dX1_improved_90 : decode cX1_improved 90 = .ok (.iastore, 1) := dk_79 (dk_at dksX1_improved_3 19 rfl rfl)
theorem dX1_improved_91 : decode cX1_improved 91 = .ok (.iinc 1 1, 3) := dk_132 1 1 (dk_at dksX1_improved_3 20 rfl rfl)
theorem dX1_improved_94 : decode cX1_improved 94 = .ok (.goto (-76), 3) := dk_167 255 180 (dk_at dksX1_improved_4 0 rfl rfl)
theorem dX1_improved_97 : decode cX1_improved 97 = .ok (.iload_n 1, 1) := dk_27 (dk_at dksX1_improved_4 3 rfl rfl)
theorem dX1_improved_98 : decode cX1_improved 98 = .ok (.ireturn, 1) := dk_172 (dk_at dksX1_improved_4 4 rfl rfl)
abbrev cX1_kept : ByteArray := prog_1_method_54_code
def yX1_kept : MethodName := ⟨RX1, "kept", "(ILTollLeader$Arc;)I"⟩
def dkwX1_kept_2 : List UInt8 := [182, 1, 88, 153, 0, 9, 21, 5, 62, 167, 0, 9, 21, 5, 4, 100, 54, 4, 167, 255, 214, 29, 172]
abbrev dktX1_kept_2 : List UInt8 := dkwX1_kept_2 ++ []
def dkwX1_kept_1 : List UInt8 := [21, 4, 162, 0, 42, 29, 21, 4, 96, 4, 96, 5, 108, 54, 5, 42, 27, 44, 182, 0, 225, 21, 5]
abbrev dktX1_kept_1 : List UInt8 := dkwX1_kept_1 ++ dktX1_kept_2
def dkwX1_kept_0 : List UInt8 := [42, 27, 44, 182, 0, 225, 3, 182, 1, 88, 154, 0, 5, 2, 172, 3, 62, 44, 182, 0, 160, 54, 4, 29]
abbrev dktX1_kept_0 : List UInt8 := dkwX1_kept_0 ++ dktX1_kept_1
theorem dksX1_kept_0 : cX1_kept.data.toList.drop 0 = dktX1_kept_0 := by decide +kernel
theorem dksX1_kept_1 : cX1_kept.data.toList.drop 24 = dktX1_kept_1 := dk_seg dksX1_kept_0 24 rfl rfl
theorem dksX1_kept_2 : cX1_kept.data.toList.drop 47 = dktX1_kept_2 := dk_seg dksX1_kept_1 23 rfl rfl
theorem dX1_kept_0 : decode cX1_kept 0 = .ok (.aload_n 0, 1) := dk_42 (dk_at dksX1_kept_0 0 rfl rfl)
theorem dX1_kept_1 : decode cX1_kept 1 = .ok (.iload_n 1, 1) := dk_27 (dk_at dksX1_kept_0 1 rfl rfl)
theorem dX1_kept_2 : decode cX1_kept 2 = .ok (.aload_n 2, 1) := dk_44 (dk_at dksX1_kept_0 2 rfl rfl)
theorem dX1_kept_3 : decode cX1_kept 3 = .ok (.invokevirtual 225, 3) := dk_182 0 225 (dk_at dksX1_kept_0 3 rfl rfl)
theorem dX1_kept_6 : decode cX1_kept 6 = .ok (.iconst 0, 1) := dk_3 (dk_at dksX1_kept_0 6 rfl rfl)
theorem dX1_kept_7 : decode cX1_kept 7 = .ok (.invokevirtual 344, 3) := dk_182 1 88 (dk_at dksX1_kept_0 7 rfl rfl)
theorem dX1_kept_10 : decode cX1_kept 10 = .ok (.ifCond .ne 5, 3) := dk_154 0 5 (dk_at dksX1_kept_0 10 rfl rfl)
theorem dX1_kept_13 : decode cX1_kept 13 = .ok (.iconst (-1), 1) := dk_2 (dk_at dksX1_kept_0 13 rfl rfl)
theorem dX1_kept_14 : decode cX1_kept 14 = .ok (.ireturn, 1) := dk_172 (dk_at dksX1_kept_0 14 rfl rfl)
theorem dX1_kept_15 : decode cX1_kept 15 = .ok (.iconst 0, 1) := dk_3 (dk_at dksX1_kept_0 15 rfl rfl)
theorem dX1_kept_16 : decode cX1_kept 16 = .ok (.istore_n 3, 1) := dk_62 (dk_at dksX1_kept_0 16 rfl rfl)
theorem dX1_kept_17 : decode cX1_kept 17 = .ok (.aload_n 2, 1) := dk_44 (dk_at dksX1_kept_0 17 rfl rfl)
theorem dX1_kept_18 : decode cX1_kept 18 = .ok (.invokevirtual 160, 3) := dk_182 0 160 (dk_at dksX1_kept_0 18 rfl rfl)
theorem dX1_kept_21 : decode cX1_kept 21 = .ok (.istore 4, 2) := dk_54 4 (dk_at dksX1_kept_0 21 rfl rfl)
theorem dX1_kept_23 : decode cX1_kept 23 = .ok (.iload_n 3, 1) := dk_29 (dk_at dksX1_kept_0 23 rfl rfl)
theorem dX1_kept_24 : decode cX1_kept 24 = .ok (.iload 4, 2) := dk_21 4 (dk_at dksX1_kept_1 0 rfl rfl)
theorem dX1_kept_26 : decode cX1_kept 26 = .ok (.if_icmp .ge 42, 3) := dk_162 0 42 (dk_at dksX1_kept_1 2 rfl rfl)
theorem dX1_kept_29 : decode cX1_kept 29 = .ok (.iload_n 3, 1) := dk_29 (dk_at dksX1_kept_1 5 rfl rfl)
theorem dX1_kept_30 : decode cX1_kept 30 = .ok (.iload 4, 2) := dk_21 4 (dk_at dksX1_kept_1 6 rfl rfl)
theorem dX1_kept_32 : decode cX1_kept 32 = .ok (.iadd, 1) := dk_96 (dk_at dksX1_kept_1 8 rfl rfl)
theorem dX1_kept_33 : decode cX1_kept 33 = .ok (.iconst 1, 1) := dk_4 (dk_at dksX1_kept_1 9 rfl rfl)
theorem dX1_kept_34 : decode cX1_kept 34 = .ok (.iadd, 1) := dk_96 (dk_at dksX1_kept_1 10 rfl rfl)
theorem dX1_kept_35 : decode cX1_kept 35 = .ok (.iconst 2, 1) := dk_5 (dk_at dksX1_kept_1 11 rfl rfl)
theorem dX1_kept_36 : decode cX1_kept 36 = .ok (.idiv, 1) := dk_108 (dk_at dksX1_kept_1 12 rfl rfl)
theorem dX1_kept_37 : decode cX1_kept 37 = .ok (.istore 5, 2) := dk_54 5 (dk_at dksX1_kept_1 13 rfl rfl)
theorem dX1_kept_39 : decode cX1_kept 39 = .ok (.aload_n 0, 1) := dk_42 (dk_at dksX1_kept_1 15 rfl rfl)
theorem dX1_kept_40 : decode cX1_kept 40 = .ok (.iload_n 1, 1) := dk_27 (dk_at dksX1_kept_1 16 rfl rfl)
theorem dX1_kept_41 : decode cX1_kept 41 = .ok (.aload_n 2, 1) := dk_44 (dk_at dksX1_kept_1 17 rfl rfl)
theorem dX1_kept_42 : decode cX1_kept 42 = .ok (.invokevirtual 225, 3) := dk_182 0 225 (dk_at dksX1_kept_1 18 rfl rfl)
theorem dX1_kept_45 : decode cX1_kept 45 = .ok (.iload 5, 2) := dk_21 5 (dk_at dksX1_kept_1 21 rfl rfl)
theorem dX1_kept_47 : decode cX1_kept 47 = .ok (.invokevirtual 344, 3) := dk_182 1 88 (dk_at dksX1_kept_2 0 rfl rfl)
theorem dX1_kept_50 : decode cX1_kept 50 = .ok (.ifCond .eq 9, 3) := dk_153 0 9 (dk_at dksX1_kept_2 3 rfl rfl)
theorem dX1_kept_53 : decode cX1_kept 53 = .ok (.iload 5, 2) := dk_21 5 (dk_at dksX1_kept_2 6 rfl rfl)
theorem dX1_kept_55 : decode cX1_kept 55 = .ok (.istore_n 3, 1) := dk_62 (dk_at dksX1_kept_2 8 rfl rfl)
theorem dX1_kept_56 : decode cX1_kept 56 = .ok (.goto 9, 3) := dk_167 0 9 (dk_at dksX1_kept_2 9 rfl rfl)
theorem dX1_kept_59 : decode cX1_kept 59 = .ok (.iload 5, 2) := dk_21 5 (dk_at dksX1_kept_2 12 rfl rfl)
theorem dX1_kept_61 : decode cX1_kept 61 = .ok (.iconst 1, 1) := dk_4 (dk_at dksX1_kept_2 14 rfl rfl)
theorem dX1_kept_62 : decode cX1_kept 62 = .ok (.isub, 1) := dk_100 (dk_at dksX1_kept_2 15 rfl rfl)
theorem dX1_kept_63 : decode cX1_kept 63 = .ok (.istore 4, 2) := dk_54 4 (dk_at dksX1_kept_2 16 rfl rfl)
theorem dX1_kept_65 : decode cX1_kept 65 = .ok (.goto (-42), 3) := dk_167 255 214 (dk_at dksX1_kept_2 18 rfl rfl)
theorem dX1_kept_68 : decode cX1_kept 68 = .ok (.iload_n 3, 1) := dk_29 (dk_at dksX1_kept_2 21 rfl rfl)
theorem dX1_kept_69 : decode cX1_kept 69 = .ok (.ireturn, 1) := dk_172 (dk_at dksX1_kept_2 22 rfl rfl)
abbrev cX1_usesWith : ByteArray := prog_1_method_53_code
def yX1_usesWith : MethodName := ⟨RX1, "usesWith", "(III)Z"⟩
def dkwX1_usesWith_1 : List UInt8 := [182, 1, 42, 54, 5, 42, 180, 0, 19, 180, 0, 218, 28, 21, 4, 79, 21, 5, 172]
abbrev dktX1_usesWith_1 : List UInt8 := dkwX1_usesWith_1 ++ []
def dkwX1_usesWith_0 : List UInt8 := [42, 180, 0, 19, 180, 0, 218, 28, 46, 54, 4, 42, 180, 0, 19, 180, 0, 218, 28, 29, 79, 42, 27, 28]
abbrev dktX1_usesWith_0 : List UInt8 := dkwX1_usesWith_0 ++ dktX1_usesWith_1
theorem dksX1_usesWith_0 : cX1_usesWith.data.toList.drop 0 = dktX1_usesWith_0 := by decide +kernel
theorem dksX1_usesWith_1 : cX1_usesWith.data.toList.drop 24 = dktX1_usesWith_1 := dk_seg dksX1_usesWith_0 24 rfl rfl
theorem dX1_usesWith_0 : decode cX1_usesWith 0 = .ok (.aload_n 0, 1) := dk_42 (dk_at dksX1_usesWith_0 0 rfl rfl)
theorem dX1_usesWith_1 : decode cX1_usesWith 1 = .ok (.getfield 19, 3) := dk_180 0 19 (dk_at dksX1_usesWith_0 1 rfl rfl)
theorem dX1_usesWith_4 : decode cX1_usesWith 4 = .ok (.getfield 218, 3) := dk_180 0 218 (dk_at dksX1_usesWith_0 4 rfl rfl)
theorem dX1_usesWith_7 : decode cX1_usesWith 7 = .ok (.iload_n 2, 1) := dk_28 (dk_at dksX1_usesWith_0 7 rfl rfl)
theorem dX1_usesWith_8 : decode cX1_usesWith 8 = .ok (.iaload, 1) := dk_46 (dk_at dksX1_usesWith_0 8 rfl rfl)
theorem dX1_usesWith_9 : decode cX1_usesWith 9 = .ok (.istore 4, 2) := dk_54 4 (dk_at dksX1_usesWith_0 9 rfl rfl)
theorem dX1_usesWith_11 : decode cX1_usesWith 11 = .ok (.aload_n 0, 1) := dk_42 (dk_at dksX1_usesWith_0 11 rfl rfl)
theorem dX1_usesWith_12 : decode cX1_usesWith 12 = .ok (.getfield 19, 3) := dk_180 0 19 (dk_at dksX1_usesWith_0 12 rfl rfl)
theorem dX1_usesWith_15 : decode cX1_usesWith 15 = .ok (.getfield 218, 3) := dk_180 0 218 (dk_at dksX1_usesWith_0 15 rfl rfl)
theorem dX1_usesWith_18 : decode cX1_usesWith 18 = .ok (.iload_n 2, 1) := dk_28 (dk_at dksX1_usesWith_0 18 rfl rfl)
theorem dX1_usesWith_19 : decode cX1_usesWith 19 = .ok (.iload_n 3, 1) := dk_29 (dk_at dksX1_usesWith_0 19 rfl rfl)
theorem dX1_usesWith_20 : decode cX1_usesWith 20 = .ok (.iastore, 1) := dk_79 (dk_at dksX1_usesWith_0 20 rfl rfl)
theorem dX1_usesWith_21 : decode cX1_usesWith 21 = .ok (.aload_n 0, 1) := dk_42 (dk_at dksX1_usesWith_0 21 rfl rfl)
theorem dX1_usesWith_22 : decode cX1_usesWith 22 = .ok (.iload_n 1, 1) := dk_27 (dk_at dksX1_usesWith_0 22 rfl rfl)
theorem dX1_usesWith_23 : decode cX1_usesWith 23 = .ok (.iload_n 2, 1) := dk_28 (dk_at dksX1_usesWith_0 23 rfl rfl)
theorem dX1_usesWith_24 : decode cX1_usesWith 24 = .ok (.invokevirtual 298, 3) := dk_182 1 42 (dk_at dksX1_usesWith_1 0 rfl rfl)
theorem dX1_usesWith_27 : decode cX1_usesWith 27 = .ok (.istore 5, 2) := dk_54 5 (dk_at dksX1_usesWith_1 3 rfl rfl)
theorem dX1_usesWith_29 : decode cX1_usesWith 29 = .ok (.aload_n 0, 1) := dk_42 (dk_at dksX1_usesWith_1 5 rfl rfl)
theorem dX1_usesWith_30 : decode cX1_usesWith 30 = .ok (.getfield 19, 3) := dk_180 0 19 (dk_at dksX1_usesWith_1 6 rfl rfl)
theorem dX1_usesWith_33 : decode cX1_usesWith 33 = .ok (.getfield 218, 3) := dk_180 0 218 (dk_at dksX1_usesWith_1 9 rfl rfl)
theorem dX1_usesWith_36 : decode cX1_usesWith 36 = .ok (.iload_n 2, 1) := dk_28 (dk_at dksX1_usesWith_1 12 rfl rfl)
theorem dX1_usesWith_37 : decode cX1_usesWith 37 = .ok (.iload 4, 2) := dk_21 4 (dk_at dksX1_usesWith_1 13 rfl rfl)
theorem dX1_usesWith_39 : decode cX1_usesWith 39 = .ok (.iastore, 1) := dk_79 (dk_at dksX1_usesWith_1 15 rfl rfl)
theorem dX1_usesWith_40 : decode cX1_usesWith 40 = .ok (.iload 5, 2) := dk_21 5 (dk_at dksX1_usesWith_1 16 rfl rfl)
theorem dX1_usesWith_42 : decode cX1_usesWith 42 = .ok (.ireturn, 1) := dk_172 (dk_at dksX1_usesWith_1 18 rfl rfl)
abbrev cX1_burden : ByteArray := prog_1_method_72_code
def yX1_burden : MethodName := ⟨RX1, "burden", "()J"⟩
def dkwX1_burden_3 : List UInt8 := [22, 4, 105, 97, 64, 132, 3, 1, 167, 255, 180, 31, 173]
abbrev dktX1_burden_3 : List UInt8 := dkwX1_burden_3 ++ []
def dkwX1_burden_2 : List UInt8 := [31, 22, 4, 20, 1, 37, 148, 154, 0, 7, 9, 167, 0, 16, 42, 180, 0, 19, 180, 0, 205, 29, 46, 133]
abbrev dktX1_burden_2 : List UInt8 := dkwX1_burden_2 ++ dktX1_burden_3
def dkwX1_burden_1 : List UInt8 := [42, 180, 0, 19, 180, 0, 99, 180, 0, 125, 29, 185, 0, 136, 2, 0, 192, 0, 145, 182, 1, 33, 55, 4]
abbrev dktX1_burden_1 : List UInt8 := dkwX1_burden_1 ++ dktX1_burden_2
def dkwX1_burden_0 : List UInt8 := [9, 64, 3, 62, 29, 42, 180, 0, 19, 180, 0, 99, 180, 0, 125, 185, 0, 107, 1, 0, 162, 0, 63, 42]
abbrev dktX1_burden_0 : List UInt8 := dkwX1_burden_0 ++ dktX1_burden_1
theorem dksX1_burden_0 : cX1_burden.data.toList.drop 0 = dktX1_burden_0 := by decide +kernel
theorem dksX1_burden_1 : cX1_burden.data.toList.drop 24 = dktX1_burden_1 := dk_seg dksX1_burden_0 24 rfl rfl
theorem dksX1_burden_2 : cX1_burden.data.toList.drop 48 = dktX1_burden_2 := dk_seg dksX1_burden_1 24 rfl rfl
theorem dksX1_burden_3 : cX1_burden.data.toList.drop 72 = dktX1_burden_3 := dk_seg dksX1_burden_2 24 rfl rfl
theorem dX1_burden_0 : decode cX1_burden 0 = .ok (.lconst 0, 1) := dk_9 (dk_at dksX1_burden_0 0 rfl rfl)
theorem dX1_burden_1 : decode cX1_burden 1 = .ok (.lstore_n 1, 1) := dk_64 (dk_at dksX1_burden_0 1 rfl rfl)
theorem dX1_burden_2 : decode cX1_burden 2 = .ok (.iconst 0, 1) := dk_3 (dk_at dksX1_burden_0 2 rfl rfl)
theorem dX1_burden_3 : decode cX1_burden 3 = .ok (.istore_n 3, 1) := dk_62 (dk_at dksX1_burden_0 3 rfl rfl)
theorem dX1_burden_4 : decode cX1_burden 4 = .ok (.iload_n 3, 1) := dk_29 (dk_at dksX1_burden_0 4 rfl rfl)
theorem dX1_burden_5 : decode cX1_burden 5 = .ok (.aload_n 0, 1) := dk_42 (dk_at dksX1_burden_0 5 rfl rfl)
theorem dX1_burden_6 : decode cX1_burden 6 = .ok (.getfield 19, 3) := dk_180 0 19 (dk_at dksX1_burden_0 6 rfl rfl)
theorem dX1_burden_9 : decode cX1_burden 9 = .ok (.getfield 99, 3) := dk_180 0 99 (dk_at dksX1_burden_0 9 rfl rfl)
theorem dX1_burden_12 : decode cX1_burden 12 = .ok (.getfield 125, 3) := dk_180 0 125 (dk_at dksX1_burden_0 12 rfl rfl)
theorem dX1_burden_15 : decode cX1_burden 15 = .ok (.invokeinterface 107 1, 5) := by decide +kernel
theorem dX1_burden_20 : decode cX1_burden 20 = .ok (.if_icmp .ge 63, 3) := dk_162 0 63 (dk_at dksX1_burden_0 20 rfl rfl)
theorem dX1_burden_23 : decode cX1_burden 23 = .ok (.aload_n 0, 1) := dk_42 (dk_at dksX1_burden_0 23 rfl rfl)
theorem dX1_burden_24 : decode cX1_burden 24 = .ok (.aload_n 0, 1) := dk_42 (dk_at dksX1_burden_1 0 rfl rfl)
theorem dX1_burden_25 : decode cX1_burden 25 = .ok (.getfield 19, 3) := dk_180 0 19 (dk_at dksX1_burden_1 1 rfl rfl)
theorem dX1_burden_28 : decode cX1_burden 28 = .ok (.getfield 99, 3) := dk_180 0 99 (dk_at dksX1_burden_1 4 rfl rfl)
theorem dX1_burden_31 : decode cX1_burden 31 = .ok (.getfield 125, 3) := dk_180 0 125 (dk_at dksX1_burden_1 7 rfl rfl)
theorem dX1_burden_34 : decode cX1_burden 34 = .ok (.iload_n 3, 1) := dk_29 (dk_at dksX1_burden_1 10 rfl rfl)
theorem dX1_burden_35 : decode cX1_burden 35 = .ok (.invokeinterface 136 2, 5) := by decide +kernel
theorem dX1_burden_40 : decode cX1_burden 40 = .ok (.checkcast 145, 3) := dk_192 0 145 (dk_at dksX1_burden_1 16 rfl rfl)
theorem dX1_burden_43 : decode cX1_burden 43 = .ok (.invokevirtual 289, 3) := dk_182 1 33 (dk_at dksX1_burden_1 19 rfl rfl)
theorem dX1_burden_46 : decode cX1_burden 46 = .ok (.lstore 4, 2) := dk_55 4 (dk_at dksX1_burden_1 22 rfl rfl)
theorem dX1_burden_48 : decode cX1_burden 48 = .ok (.lload_n 1, 1) := dk_31 (dk_at dksX1_burden_2 0 rfl rfl)
theorem dX1_burden_49 : decode cX1_burden 49 = .ok (.lload 4, 2) := dk_22 4 (dk_at dksX1_burden_2 1 rfl rfl)
theorem dX1_burden_51 : decode cX1_burden 51 = .ok (.ldc2_w 293, 3) := dk_20 1 37 (dk_at dksX1_burden_2 3 rfl rfl)
theorem dX1_burden_54 : decode cX1_burden 54 = .ok (.lcmp, 1) := dk_148 (dk_at dksX1_burden_2 6 rfl rfl)
theorem dX1_burden_55 : decode cX1_burden 55 = .ok (.ifCond .ne 7, 3) := dk_154 0 7 (dk_at dksX1_burden_2 7 rfl rfl)
theorem dX1_burden_58 : decode cX1_burden 58 = .ok (.lconst 0, 1) := dk_9 (dk_at dksX1_burden_2 10 rfl rfl)
theorem dX1_burden_59 : decode cX1_burden 59 = .ok (.goto 16, 3) := dk_167 0 16 (dk_at dksX1_burden_2 11 rfl rfl)
theorem dX1_burden_62 : decode cX1_burden 62 = .ok (.aload_n 0, 1) := dk_42 (dk_at dksX1_burden_2 14 rfl rfl)
theorem dX1_burden_63 : decode cX1_burden 63 = .ok (.getfield 19, 3) := dk_180 0 19 (dk_at dksX1_burden_2 15 rfl rfl)
theorem dX1_burden_66 : decode cX1_burden 66 = .ok (.getfield 205, 3) := dk_180 0 205 (dk_at dksX1_burden_2 18 rfl rfl)
theorem dX1_burden_69 : decode cX1_burden 69 = .ok (.iload_n 3, 1) := dk_29 (dk_at dksX1_burden_2 21 rfl rfl)
theorem dX1_burden_70 : decode cX1_burden 70 = .ok (.iaload, 1) := dk_46 (dk_at dksX1_burden_2 22 rfl rfl)
theorem dX1_burden_71 : decode cX1_burden 71 = .ok (.i2l, 1) := dk_133 (dk_at dksX1_burden_2 23 rfl rfl)
theorem dX1_burden_72 : decode cX1_burden 72 = .ok (.lload 4, 2) := dk_22 4 (dk_at dksX1_burden_3 0 rfl rfl)
theorem dX1_burden_74 : decode cX1_burden 74 = .ok (.lmul, 1) := dk_105 (dk_at dksX1_burden_3 2 rfl rfl)
theorem dX1_burden_75 : decode cX1_burden 75 = .ok (.ladd, 1) := dk_97 (dk_at dksX1_burden_3 3 rfl rfl)
theorem dX1_burden_76 : decode cX1_burden 76 = .ok (.lstore_n 1, 1) := dk_64 (dk_at dksX1_burden_3 4 rfl rfl)
theorem dX1_burden_77 : decode cX1_burden 77 = .ok (.iinc 3 1, 3) := dk_132 3 1 (dk_at dksX1_burden_3 5 rfl rfl)
theorem dX1_burden_80 : decode cX1_burden 80 = .ok (.goto (-76), 3) := dk_167 255 180 (dk_at dksX1_burden_3 8 rfl rfl)
theorem dX1_burden_83 : decode cX1_burden 83 = .ok (.lload_n 1, 1) := dk_31 (dk_at dksX1_burden_3 11 rfl rfl)
theorem dX1_burden_84 : decode cX1_burden 84 = .ok (.lreturn, 1) := dk_173 (dk_at dksX1_burden_3 12 rfl rfl)
abbrev cX1_dearest : ByteArray := prog_1_method_73_code
def yX1_dearest : MethodName := ⟨RX1, "dearest", "()I"⟩
def dkwX1_dearest_6 : List UInt8 := [132, 6, 1, 167, 255, 125, 27, 172]
abbrev dktX1_dearest_6 : List UInt8 := dkwX1_dearest_6 ++ []
def dkwX1_dearest_5 : List UInt8 := [105, 32, 22, 9, 105, 148, 157, 0, 6, 167, 0, 13, 21, 6, 60, 22, 7, 65, 22, 9, 55, 4]
abbrev dktX1_dearest_5 : List UInt8 := dkwX1_dearest_5 ++ dktX1_dearest_6
def dkwX1_dearest_4 : List UInt8 := [21, 6, 185, 0, 136, 2, 0, 192, 0, 145, 182, 1, 33, 55, 9, 27, 2, 159, 0, 19, 22, 7, 22, 4]
abbrev dktX1_dearest_4 : List UInt8 := dkwX1_dearest_4 ++ dktX1_dearest_5
def dkwX1_dearest_3 : List UInt8 := [180, 0, 28, 42, 180, 0, 19, 182, 1, 23, 133, 55, 7, 42, 42, 180, 0, 19, 180, 0, 99, 180, 0, 125]
abbrev dktX1_dearest_3 : List UInt8 := dkwX1_dearest_3 ++ dktX1_dearest_4
def dkwX1_dearest_2 : List UInt8 := [180, 0, 125, 21, 6, 185, 0, 136, 2, 0, 192, 0, 145, 182, 0, 255, 154, 0, 6, 167, 0, 74, 42]
abbrev dktX1_dearest_2 : List UInt8 := dkwX1_dearest_2 ++ dktX1_dearest_3
def dkwX1_dearest_1 : List UInt8 := [185, 0, 107, 1, 0, 162, 0, 117, 42, 180, 0, 28, 42, 180, 0, 19, 42, 180, 0, 19, 180, 0, 99]
abbrev dktX1_dearest_1 : List UInt8 := dkwX1_dearest_1 ++ dktX1_dearest_2
def dkwX1_dearest_0 : List UInt8 := [2, 60, 9, 65, 10, 55, 4, 3, 54, 6, 21, 6, 42, 180, 0, 19, 180, 0, 99, 180, 0, 125]
abbrev dktX1_dearest_0 : List UInt8 := dkwX1_dearest_0 ++ dktX1_dearest_1
theorem dksX1_dearest_0 : cX1_dearest.data.toList.drop 0 = dktX1_dearest_0 := by decide +kernel
theorem dksX1_dearest_1 : cX1_dearest.data.toList.drop 22 = dktX1_dearest_1 := dk_seg dksX1_dearest_0 22 rfl rfl
theorem dksX1_dearest_2 : cX1_dearest.data.toList.drop 45 = dktX1_dearest_2 := dk_seg dksX1_dearest_1 23 rfl rfl
theorem dksX1_dearest_3 : cX1_dearest.data.toList.drop 68 = dktX1_dearest_3 := dk_seg dksX1_dearest_2 23 rfl rfl
theorem dksX1_dearest_4 : cX1_dearest.data.toList.drop 92 = dktX1_dearest_4 := dk_seg dksX1_dearest_3 24 rfl rfl
theorem dksX1_dearest_5 : cX1_dearest.data.toList.drop 116 = dktX1_dearest_5 := dk_seg dksX1_dearest_4 24 rfl rfl
theorem dksX1_dearest_6 : cX1_dearest.data.toList.drop 138 = dktX1_dearest_6 := dk_seg dksX1_dearest_5 22 rfl rfl
theorem dX1_dearest_0 : decode cX1_dearest 0 = .ok (.iconst (-1), 1) := dk_2 (dk_at dksX1_dearest_0 0 rfl rfl)
theorem dX1_dearest_1 : decode cX1_dearest 1 = .ok (.istore_n 1, 1) := dk_60 (dk_at dksX1_dearest_0 1 rfl rfl)
theorem dX1_dearest_2 : decode cX1_dearest 2 = .ok (.lconst 0, 1) := dk_9 (dk_at dksX1_dearest_0 2 rfl rfl)
theorem dX1_dearest_3 : decode cX1_dearest 3 = .ok (.lstore_n 2, 1) := dk_65 (dk_at dksX1_dearest_0 3 rfl rfl)
theorem dX1_dearest_4 : decode cX1_dearest 4 = .ok (.lconst 1, 1) := dk_10 (dk_at dksX1_dearest_0 4 rfl rfl)
theorem dX1_dearest_5 : decode cX1_dearest 5 = .ok (.lstore 4, 2) := dk_55 4 (dk_at dksX1_dearest_0 5 rfl rfl)
theorem dX1_dearest_7 : decode cX1_dearest 7 = .ok (.iconst 0, 1) := dk_3 (dk_at dksX1_dearest_0 7 rfl rfl)
theorem dX1_dearest_8 : decode cX1_dearest 8 = .ok (.istore 6, 2) := dk_54 6 (dk_at dksX1_dearest_0 8 rfl rfl)
theorem dX1_dearest_10 : decode cX1_dearest 10 = .ok (.iload 6, 2) := dk_21 6 (dk_at dksX1_dearest_0 10 rfl rfl)
theorem dX1_dearest_12 : decode cX1_dearest 12 = .ok (.aload_n 0, 1) := dk_42 (dk_at dksX1_dearest_0 12 rfl rfl)
theorem dX1_dearest_13 : decode cX1_dearest 13 = .ok (.getfield 19, 3) := dk_180 0 19 (dk_at dksX1_dearest_0 13 rfl rfl)
theorem dX1_dearest_16 : decode cX1_dearest 16 = .ok (.getfield 99, 3) := dk_180 0 99 (dk_at dksX1_dearest_0 16 rfl rfl)
theorem dX1_dearest_19 : decode cX1_dearest 19 = .ok (.getfield 125, 3) := dk_180 0 125 (dk_at dksX1_dearest_0 19 rfl rfl)
theorem dX1_dearest_22 : decode cX1_dearest 22 = .ok (.invokeinterface 107 1, 5) := by decide +kernel
theorem dX1_dearest_27 : decode cX1_dearest 27 = .ok (.if_icmp .ge 117, 3) := dk_162 0 117 (dk_at dksX1_dearest_1 5 rfl rfl)
theorem dX1_dearest_30 : decode cX1_dearest 30 = .ok (.aload_n 0, 1) := dk_42 (dk_at dksX1_dearest_1 8 rfl rfl)
theorem dX1_dearest_31 : decode cX1_dearest 31 = .ok (.getfield 28, 3) := dk_180 0 28 (dk_at dksX1_dearest_1 9 rfl rfl)
theorem dX1_dearest_34 : decode cX1_dearest 34 = .ok (.aload_n 0, 1) := dk_42 (dk_at dksX1_dearest_1 12 rfl rfl)
theorem dX1_dearest_35 : decode cX1_dearest 35 = .ok (.getfield 19, 3) := dk_180 0 19 (dk_at dksX1_dearest_1 13 rfl rfl)
theorem dX1_dearest_38 : decode cX1_dearest 38 = .ok (.aload_n 0, 1) := dk_42 (dk_at dksX1_dearest_1 16 rfl rfl)
theorem dX1_dearest_39 : decode cX1_dearest 39 = .ok (.getfield 19, 3) := dk_180 0 19 (dk_at dksX1_dearest_1 17 rfl rfl)
theorem dX1_dearest_42 : decode cX1_dearest 42 = .ok (.getfield 99, 3) := dk_180 0 99 (dk_at dksX1_dearest_1 20 rfl rfl)
theorem dX1_dearest_45 : decode cX1_dearest 45 = .ok (.getfield 125, 3) := dk_180 0 125 (dk_at dksX1_dearest_2 0 rfl rfl)
theorem dX1_dearest_48 : decode cX1_dearest 48 = .ok (.iload 6, 2) := dk_21 6 (dk_at dksX1_dearest_2 3 rfl rfl)
theorem dX1_dearest_50 : decode cX1_dearest 50 = .ok (.invokeinterface 136 2, 5) := by decide +kernel
theorem dX1_dearest_55 : decode cX1_dearest 55 = .ok (.checkcast 145, 3) := dk_192 0 145 (dk_at dksX1_dearest_2 10 rfl rfl)
theorem dX1_dearest_58 : decode cX1_dearest 58 = .ok (.invokevirtual 255, 3) := dk_182 0 255 (dk_at dksX1_dearest_2 13 rfl rfl)
theorem dX1_dearest_61 : decode cX1_dearest 61 = .ok (.ifCond .ne 6, 3) := dk_154 0 6 (dk_at dksX1_dearest_2 16 rfl rfl)
theorem dX1_dearest_64 : decode cX1_dearest 64 = .ok (.goto 74, 3) := dk_167 0 74 (dk_at dksX1_dearest_2 19 rfl rfl)
theorem dX1_dearest_67 : decode cX1_dearest 67 = .ok (.aload_n 0, 1) := dk_42 (dk_at dksX1_dearest_2 22 rfl rfl)
theorem dX1_dearest_68 : decode cX1_dearest 68 = .ok (.getfield 28, 3) := dk_180 0 28 (dk_at dksX1_dearest_3 0 rfl rfl)
theorem dX1_dearest_71 : decode cX1_dearest 71 = .ok (.aload_n 0, 1) := dk_42 (dk_at dksX1_dearest_3 3 rfl rfl)
theorem dX1_dearest_72 : decode cX1_dearest 72 = .ok (.getfield 19, 3) := dk_180 0 19 (dk_at dksX1_dearest_3 4 rfl rfl)
theorem dX1_dearest_75 : decode cX1_dearest 75 = .ok (.invokevirtual 279, 3) := dk_182 1 23 (dk_at dksX1_dearest_3 7 rfl rfl)
theorem dX1_dearest_78 : decode cX1_dearest 78 = .ok (.i2l, 1) := dk_133 (dk_at dksX1_dearest_3 10 rfl rfl)
theorem dX1_dearest_79 : decode cX1_dearest 79 = .ok (.lstore 7, 2) := dk_55 7 (dk_at dksX1_dearest_3 11 rfl rfl)
theorem dX1_dearest_81 : decode cX1_dearest 81 = .ok (.aload_n 0, 1) := dk_42 (dk_at dksX1_dearest_3 13 rfl rfl)
theorem dX1_dearest_82 : decode cX1_dearest 82 = .ok (.aload_n 0, 1) := dk_42 (dk_at dksX1_dearest_3 14 rfl rfl)
theorem dX1_dearest_83 : decode cX1_dearest 83 = .ok (.getfield 19, 3) := dk_180 0 19 (dk_at dksX1_dearest_3 15 rfl rfl)
theorem dX1_dearest_86 : decode cX1_dearest 86 = .ok (.getfield 99, 3) := dk_180 0 99 (dk_at dksX1_dearest_3 18 rfl rfl)
theorem dX1_dearest_89 : decode cX1_dearest 89 = .ok (.getfield 125, 3) := dk_180 0 125 (dk_at dksX1_dearest_3 21 rfl rfl)
theorem dX1_dearest_92 : decode cX1_dearest 92 = .ok (.iload 6, 2) := dk_21 6 (dk_at dksX1_dearest_4 0 rfl rfl)
theorem dX1_dearest_94 : decode cX1_dearest 94 = .ok (.invokeinterface 136 2, 5) := by decide +kernel
theorem dX1_dearest_99 : decode cX1_dearest 99 = .ok (.checkcast 145, 3) := dk_192 0 145 (dk_at dksX1_dearest_4 7 rfl rfl)
theorem dX1_dearest_102 : decode cX1_dearest 102 = .ok (.invokevirtual 289, 3) := dk_182 1 33 (dk_at dksX1_dearest_4 10 rfl rfl)
theorem dX1_dearest_105 : decode cX1_dearest 105 = .ok (.lstore 9, 2) := dk_55 9 (dk_at dksX1_dearest_4 13 rfl rfl)
theorem dX1_dearest_107 : decode cX1_dearest 107 = .ok (.iload_n 1, 1) := dk_27 (dk_at dksX1_dearest_4 15 rfl rfl)
theorem dX1_dearest_108 : decode cX1_dearest 108 = .ok (.iconst (-1), 1) := dk_2 (dk_at dksX1_dearest_4 16 rfl rfl)
theorem dX1_dearest_109 : decode cX1_dearest 109 = .ok (.if_icmp .eq 19, 3) := dk_159 0 19 (dk_at dksX1_dearest_4 17 rfl rfl)
theorem dX1_dearest_112 : decode cX1_dearest 112 = .ok (.lload 7, 2) := dk_22 7 (dk_at dksX1_dearest_4 20 rfl rfl)
theorem dX1_dearest_114 : decode cX1_dearest 114 = .ok (.lload 4, 2) := dk_22 4 (dk_at dksX1_dearest_4 22 rfl rfl)
theorem dX1_dearest_116 : decode cX1_dearest 116 = .ok (.lmul, 1) := dk_105 (dk_at dksX1_dearest_5 0 rfl rfl)
theorem dX1_dearest_117 : decode cX1_dearest 117 = .ok (.lload_n 2, 1) := dk_32 (dk_at dksX1_dearest_5 1 rfl rfl)
theorem dX1_dearest_118 : decode cX1_dearest 118 = .ok (.lload 9, 2) := dk_22 9 (dk_at dksX1_dearest_5 2 rfl rfl)
theorem dX1_dearest_120 : decode cX1_dearest 120 = .ok (.lmul, 1) := dk_105 (dk_at dksX1_dearest_5 4 rfl rfl)
theorem dX1_dearest_121 : decode cX1_dearest 121 = .ok (.lcmp, 1) := dk_148 (dk_at dksX1_dearest_5 5 rfl rfl)
theorem dX1_dearest_122 : decode cX1_dearest 122 = .ok (.ifCond .gt 6, 3) := dk_157 0 6 (dk_at dksX1_dearest_5 6 rfl rfl)
theorem dX1_dearest_125 : decode cX1_dearest 125 = .ok (.goto 13, 3) := dk_167 0 13 (dk_at dksX1_dearest_5 9 rfl rfl)
theorem dX1_dearest_128 : decode cX1_dearest 128 = .ok (.iload 6, 2) := dk_21 6 (dk_at dksX1_dearest_5 12 rfl rfl)
theorem dX1_dearest_130 : decode cX1_dearest 130 = .ok (.istore_n 1, 1) := dk_60 (dk_at dksX1_dearest_5 14 rfl rfl)
theorem dX1_dearest_131 : decode cX1_dearest 131 = .ok (.lload 7, 2) := dk_22 7 (dk_at dksX1_dearest_5 15 rfl rfl)
theorem dX1_dearest_133 : decode cX1_dearest 133 = .ok (.lstore_n 2, 1) := dk_65 (dk_at dksX1_dearest_5 17 rfl rfl)
theorem dX1_dearest_134 : decode cX1_dearest 134 = .ok (.lload 9, 2) := dk_22 9 (dk_at dksX1_dearest_5 18 rfl rfl)
theorem dX1_dearest_136 : decode cX1_dearest 136 = .ok (.lstore 4, 2) := dk_55 4 (dk_at dksX1_dearest_5 20 rfl rfl)
theorem dX1_dearest_138 : decode cX1_dearest 138 = .ok (.iinc 6 1, 3) := dk_132 6 1 (dk_at dksX1_dearest_6 0 rfl rfl)
theorem dX1_dearest_141 : decode cX1_dearest 141 = .ok (.goto (-131), 3) := dk_167 255 125 (dk_at dksX1_dearest_6 3 rfl rfl)
theorem dX1_dearest_144 : decode cX1_dearest 144 = .ok (.iload_n 1, 1) := dk_27 (dk_at dksX1_dearest_6 6 rfl rfl)
theorem dX1_dearest_145 : decode cX1_dearest 145 = .ok (.ireturn, 1) := dk_172 (dk_at dksX1_dearest_6 7 rfl rfl)
abbrev cX1_improvable : ByteArray := prog_1_method_76_code
def yX1_improvable : MethodName := ⟨RX1, "improvable", "()I"⟩
def dkwX1_improvable_3 : List UInt8 := [158, 0, 13, 4, 25, 5, 182, 0, 225, 120, 167, 0, 4, 3, 128, 62, 167, 255, 194, 29, 172]
abbrev dktX1_improvable_3 : List UInt8 := dkwX1_improvable_3 ++ []
def dkwX1_improvable_2 : List UInt8 := [25, 5, 182, 0, 160, 158, 0, 31, 187, 1, 96, 89, 42, 25, 5, 183, 1, 98, 180, 1, 104, 31, 148]
abbrev dktX1_improvable_2 : List UInt8 := dkwX1_improvable_2 ++ dktX1_improvable_3
def dkwX1_improvable_1 : List UInt8 := [25, 4, 185, 0, 151, 1, 0, 153, 0, 58, 25, 4, 185, 0, 157, 1, 0, 192, 0, 140, 58, 5, 29]
abbrev dktX1_improvable_1 : List UInt8 := dkwX1_improvable_1 ++ dktX1_improvable_2
def dkwX1_improvable_0 : List UInt8 := [42, 182, 1, 73, 64, 3, 62, 42, 180, 0, 19, 180, 0, 99, 180, 0, 103, 185, 0, 147, 1, 0, 58, 4]
abbrev dktX1_improvable_0 : List UInt8 := dkwX1_improvable_0 ++ dktX1_improvable_1
theorem dksX1_improvable_0 : cX1_improvable.data.toList.drop 0 = dktX1_improvable_0 := by decide +kernel
theorem dksX1_improvable_1 : cX1_improvable.data.toList.drop 24 = dktX1_improvable_1 := dk_seg dksX1_improvable_0 24 rfl rfl
theorem dksX1_improvable_2 : cX1_improvable.data.toList.drop 47 = dktX1_improvable_2 := dk_seg dksX1_improvable_1 23 rfl rfl
theorem dksX1_improvable_3 : cX1_improvable.data.toList.drop 70 = dktX1_improvable_3 := dk_seg dksX1_improvable_2 23 rfl rfl
theorem dX1_improvable_0 : decode cX1_improvable 0 = .ok (.aload_n 0, 1) := dk_42 (dk_at dksX1_improvable_0 0 rfl rfl)
theorem dX1_improvable_1 : decode cX1_improvable 1 = .ok (.invokevirtual 329, 3) := dk_182 1 73 (dk_at dksX1_improvable_0 1 rfl rfl)
theorem dX1_improvable_4 : decode cX1_improvable 4 = .ok (.lstore_n 1, 1) := dk_64 (dk_at dksX1_improvable_0 4 rfl rfl)
theorem dX1_improvable_5 : decode cX1_improvable 5 = .ok (.iconst 0, 1) := dk_3 (dk_at dksX1_improvable_0 5 rfl rfl)
theorem dX1_improvable_6 : decode cX1_improvable 6 = .ok (.istore_n 3, 1) := dk_62 (dk_at dksX1_improvable_0 6 rfl rfl)
theorem dX1_improvable_7 : decode cX1_improvable 7 = .ok (.aload_n 0, 1) := dk_42 (dk_at dksX1_improvable_0 7 rfl rfl)
theorem dX1_improvable_8 : decode cX1_improvable 8 = .ok (.getfield 19, 3) := dk_180 0 19 (dk_at dksX1_improvable_0 8 rfl rfl)
theorem dX1_improvable_11 : decode cX1_improvable 11 = .ok (.getfield 99, 3) := dk_180 0 99 (dk_at dksX1_improvable_0 11 rfl rfl)
theorem dX1_improvable_14 : decode cX1_improvable 14 = .ok (.getfield 103, 3) := dk_180 0 103 (dk_at dksX1_improvable_0 14 rfl rfl)
theorem dX1_improvable_17 : decode cX1_improvable 17 = .ok (.invokeinterface 147 1, 5) := by decide +kernel
theorem dX1_improvable_22 : decode cX1_improvable 22 = .ok (.astore 4, 2) := dk_58 4 (dk_at dksX1_improvable_0 22 rfl rfl)
theorem dX1_improvable_24 : decode cX1_improvable 24 = .ok (.aload 4, 2) := dk_25 4 (dk_at dksX1_improvable_1 0 rfl rfl)
theorem dX1_improvable_26 : decode cX1_improvable 26 = .ok (.invokeinterface 151 1, 5) := by decide +kernel
theorem dX1_improvable_31 : decode cX1_improvable 31 = .ok (.ifCond .eq 58, 3) := dk_153 0 58 (dk_at dksX1_improvable_1 7 rfl rfl)
theorem dX1_improvable_34 : decode cX1_improvable 34 = .ok (.aload 4, 2) := dk_25 4 (dk_at dksX1_improvable_1 10 rfl rfl)
theorem dX1_improvable_36 : decode cX1_improvable 36 = .ok (.invokeinterface 157 1, 5) := by decide +kernel
theorem dX1_improvable_41 : decode cX1_improvable 41 = .ok (.checkcast 140, 3) := dk_192 0 140 (dk_at dksX1_improvable_1 17 rfl rfl)
theorem dX1_improvable_44 : decode cX1_improvable 44 = .ok (.astore 5, 2) := dk_58 5 (dk_at dksX1_improvable_1 20 rfl rfl)
theorem dX1_improvable_46 : decode cX1_improvable 46 = .ok (.iload_n 3, 1) := dk_29 (dk_at dksX1_improvable_1 22 rfl rfl)
theorem dX1_improvable_47 : decode cX1_improvable 47 = .ok (.aload 5, 2) := dk_25 5 (dk_at dksX1_improvable_2 0 rfl rfl)
theorem dX1_improvable_49 : decode cX1_improvable 49 = .ok (.invokevirtual 160, 3) := dk_182 0 160 (dk_at dksX1_improvable_2 2 rfl rfl)
theorem dX1_improvable_52 : decode cX1_improvable 52 = .ok (.ifCond .le 31, 3) := dk_158 0 31 (dk_at dksX1_improvable_2 5 rfl rfl)
theorem dX1_improvable_55 : decode cX1_improvable 55 = .ok (.new 352, 3) := dk_187 1 96 (dk_at dksX1_improvable_2 8 rfl rfl)
theorem dX1_improvable_58 : decode cX1_improvable 58 = .ok (.dup, 1) := dk_89 (dk_at dksX1_improvable_2 11 rfl rfl)
theorem dX1_improvable_59 : decode cX1_improvable 59 = .ok (.aload_n 0, 1) := dk_42 (dk_at dksX1_improvable_2 12 rfl rfl)
theorem dX1_improvable_60 : decode cX1_improvable 60 = .ok (.aload 5, 2) := dk_25 5 (dk_at dksX1_improvable_2 13 rfl rfl)
theorem dX1_improvable_62 : decode cX1_improvable 62 = .ok (.invokespecial 354, 3) := dk_183 1 98 (dk_at dksX1_improvable_2 15 rfl rfl)
theorem dX1_improvable_65 : decode cX1_improvable 65 = .ok (.getfield 360, 3) := dk_180 1 104 (dk_at dksX1_improvable_2 18 rfl rfl)
theorem dX1_improvable_68 : decode cX1_improvable 68 = .ok (.lload_n 1, 1) := dk_31 (dk_at dksX1_improvable_2 21 rfl rfl)
theorem dX1_improvable_69 : decode cX1_improvable 69 = .ok (.lcmp, 1) := dk_148 (dk_at dksX1_improvable_2 22 rfl rfl)
theorem dX1_improvable_70 : decode cX1_improvable 70 = .ok (.ifCond .le 13, 3) := dk_158 0 13 (dk_at dksX1_improvable_3 0 rfl rfl)
theorem dX1_improvable_73 : decode cX1_improvable 73 = .ok (.iconst 1, 1) := dk_4 (dk_at dksX1_improvable_3 3 rfl rfl)
theorem dX1_improvable_74 : decode cX1_improvable 74 = .ok (.aload 5, 2) := dk_25 5 (dk_at dksX1_improvable_3 4 rfl rfl)
theorem dX1_improvable_76 : decode cX1_improvable 76 = .ok (.invokevirtual 225, 3) := dk_182 0 225 (dk_at dksX1_improvable_3 6 rfl rfl)
theorem dX1_improvable_79 : decode cX1_improvable 79 = .ok (.ishl, 1) := dk_120 (dk_at dksX1_improvable_3 9 rfl rfl)
theorem dX1_improvable_80 : decode cX1_improvable 80 = .ok (.goto 4, 3) := dk_167 0 4 (dk_at dksX1_improvable_3 10 rfl rfl)
theorem dX1_improvable_83 : decode cX1_improvable 83 = .ok (.iconst 0, 1) := dk_3 (dk_at dksX1_improvable_3 13 rfl rfl)
theorem dX1_improvable_84 : decode cX1_improvable 84 = .ok (.ior, 1) := dk_128 (dk_at dksX1_improvable_3 14 rfl rfl)
theorem dX1_improvable_85 : decode cX1_improvable 85 = .ok (.istore_n 3, 1) := dk_62 (dk_at dksX1_improvable_3 15 rfl rfl)
theorem dX1_improvable_86 : decode cX1_improvable 86 = .ok (.goto (-62), 3) := dk_167 255 194 (dk_at dksX1_improvable_3 16 rfl rfl)
theorem dX1_improvable_89 : decode cX1_improvable 89 = .ok (.iload_n 3, 1) := dk_29 (dk_at dksX1_improvable_3 19 rfl rfl)
theorem dX1_improvable_90 : decode cX1_improvable 90 = .ok (.ireturn, 1) := dk_172 (dk_at dksX1_improvable_3 20 rfl rfl)
abbrev cX1_writeTolls : ByteArray := prog_1_method_79_code
def yX1_writeTolls : MethodName := ⟨RX1, "writeTolls", "()I"⟩
def dkwX1_writeTolls_4 : List UInt8 := [180, 0, 19, 44, 182, 0, 191, 182, 1, 159, 87, 167, 255, 175, 42, 180, 0, 54, 182, 1, 154, 172]
abbrev dktX1_writeTolls_4 : List UInt8 := dkwX1_writeTolls_4 ++ []
def dkwX1_writeTolls_3 : List UInt8 := [16, 59, 182, 1, 163, 87, 42, 180, 0, 54, 44, 182, 0, 225, 182, 1, 159, 16, 58, 182, 1, 163, 42]
abbrev dktX1_writeTolls_3 : List UInt8 := dkwX1_writeTolls_3 ++ dktX1_writeTolls_4
def dkwX1_writeTolls_2 : List UInt8 := [182, 0, 191, 154, 0, 6, 167, 255, 226, 42, 180, 0, 54, 182, 1, 154, 158, 0, 13, 42, 180, 0, 54]
abbrev dktX1_writeTolls_2 : List UInt8 := dkwX1_writeTolls_2 ++ dktX1_writeTolls_3
def dkwX1_writeTolls_1 : List UInt8 := [43, 185, 0, 151, 1, 0, 153, 0, 78, 43, 185, 0, 157, 1, 0, 192, 0, 140, 77, 42, 180, 0, 19, 44]
abbrev dktX1_writeTolls_1 : List UInt8 := dkwX1_writeTolls_1 ++ dktX1_writeTolls_2
def dkwX1_writeTolls_0 : List UInt8 := [42, 180, 0, 54, 3, 182, 1, 145, 42, 180, 0, 19, 180, 0, 99, 180, 0, 103, 185, 0, 147, 1, 0, 76]
abbrev dktX1_writeTolls_0 : List UInt8 := dkwX1_writeTolls_0 ++ dktX1_writeTolls_1
theorem dksX1_writeTolls_0 : cX1_writeTolls.data.toList.drop 0 = dktX1_writeTolls_0 := by decide +kernel
theorem dksX1_writeTolls_1 : cX1_writeTolls.data.toList.drop 24 = dktX1_writeTolls_1 := dk_seg dksX1_writeTolls_0 24 rfl rfl
theorem dksX1_writeTolls_2 : cX1_writeTolls.data.toList.drop 48 = dktX1_writeTolls_2 := dk_seg dksX1_writeTolls_1 24 rfl rfl
theorem dksX1_writeTolls_3 : cX1_writeTolls.data.toList.drop 71 = dktX1_writeTolls_3 := dk_seg dksX1_writeTolls_2 23 rfl rfl
theorem dksX1_writeTolls_4 : cX1_writeTolls.data.toList.drop 94 = dktX1_writeTolls_4 := dk_seg dksX1_writeTolls_3 23 rfl rfl
theorem dX1_writeTolls_0 : decode cX1_writeTolls 0 = .ok (.aload_n 0, 1) := dk_42 (dk_at dksX1_writeTolls_0 0 rfl rfl)
theorem dX1_writeTolls_1 : decode cX1_writeTolls 1 = .ok (.getfield 54, 3) := dk_180 0 54 (dk_at dksX1_writeTolls_0 1 rfl rfl)
theorem dX1_writeTolls_4 : decode cX1_writeTolls 4 = .ok (.iconst 0, 1) := dk_3 (dk_at dksX1_writeTolls_0 4 rfl rfl)
theorem dX1_writeTolls_5 : decode cX1_writeTolls 5 = .ok (.invokevirtual 401, 3) := dk_182 1 145 (dk_at dksX1_writeTolls_0 5 rfl rfl)
theorem dX1_writeTolls_8 : decode cX1_writeTolls 8 = .ok (.aload_n 0, 1) := dk_42 (dk_at dksX1_writeTolls_0 8 rfl rfl)
theorem dX1_writeTolls_9 : decode cX1_writeTolls 9 = .ok (.getfield 19, 3) := dk_180 0 19 (dk_at dksX1_writeTolls_0 9 rfl rfl)
theorem dX1_writeTolls_12 : decode cX1_writeTolls 12 = .ok (.getfield 99, 3) := dk_180 0 99 (dk_at dksX1_writeTolls_0 12 rfl rfl)
theorem dX1_writeTolls_15 : decode cX1_writeTolls 15 = .ok (.getfield 103, 3) := dk_180 0 103 (dk_at dksX1_writeTolls_0 15 rfl rfl)
theorem dX1_writeTolls_18 : decode cX1_writeTolls 18 = .ok (.invokeinterface 147 1, 5) := by decide +kernel
theorem dX1_writeTolls_23 : decode cX1_writeTolls 23 = .ok (.astore_n 1, 1) := dk_76 (dk_at dksX1_writeTolls_0 23 rfl rfl)
theorem dX1_writeTolls_24 : decode cX1_writeTolls 24 = .ok (.aload_n 1, 1) := dk_43 (dk_at dksX1_writeTolls_1 0 rfl rfl)
theorem dX1_writeTolls_25 : decode cX1_writeTolls 25 = .ok (.invokeinterface 151 1, 5) := by decide +kernel
theorem dX1_writeTolls_30 : decode cX1_writeTolls 30 = .ok (.ifCond .eq 78, 3) := dk_153 0 78 (dk_at dksX1_writeTolls_1 6 rfl rfl)
theorem dX1_writeTolls_33 : decode cX1_writeTolls 33 = .ok (.aload_n 1, 1) := dk_43 (dk_at dksX1_writeTolls_1 9 rfl rfl)
theorem dX1_writeTolls_34 : decode cX1_writeTolls 34 = .ok (.invokeinterface 157 1, 5) := by decide +kernel
theorem dX1_writeTolls_39 : decode cX1_writeTolls 39 = .ok (.checkcast 140, 3) := dk_192 0 140 (dk_at dksX1_writeTolls_1 15 rfl rfl)
theorem dX1_writeTolls_42 : decode cX1_writeTolls 42 = .ok (.astore_n 2, 1) := dk_77 (dk_at dksX1_writeTolls_1 18 rfl rfl)
theorem dX1_writeTolls_43 : decode cX1_writeTolls 43 = .ok (.aload_n 0, 1) := dk_42 (dk_at dksX1_writeTolls_1 19 rfl rfl)
theorem dX1_writeTolls_44 : decode cX1_writeTolls 44 = .ok (.getfield 19, 3) := dk_180 0 19 (dk_at dksX1_writeTolls_1 20 rfl rfl)
theorem dX1_writeTolls_47 : decode cX1_writeTolls 47 = .ok (.aload_n 2, 1) := dk_44 (dk_at dksX1_writeTolls_1 23 rfl rfl)
theorem dX1_writeTolls_48 : decode cX1_writeTolls 48 = .ok (.invokevirtual 191, 3) := dk_182 0 191 (dk_at dksX1_writeTolls_2 0 rfl rfl)
theorem dX1_writeTolls_51 : decode cX1_writeTolls 51 = .ok (.ifCond .ne 6, 3) := dk_154 0 6 (dk_at dksX1_writeTolls_2 3 rfl rfl)
theorem dX1_writeTolls_54 : decode cX1_writeTolls 54 = .ok (.goto (-30), 3) := dk_167 255 226 (dk_at dksX1_writeTolls_2 6 rfl rfl)
theorem dX1_writeTolls_57 : decode cX1_writeTolls 57 = .ok (.aload_n 0, 1) := dk_42 (dk_at dksX1_writeTolls_2 9 rfl rfl)
theorem dX1_writeTolls_58 : decode cX1_writeTolls 58 = .ok (.getfield 54, 3) := dk_180 0 54 (dk_at dksX1_writeTolls_2 10 rfl rfl)
theorem dX1_writeTolls_61 : decode cX1_writeTolls 61 = .ok (.invokevirtual 410, 3) := dk_182 1 154 (dk_at dksX1_writeTolls_2 13 rfl rfl)
theorem dX1_writeTolls_64 : decode cX1_writeTolls 64 = .ok (.ifCond .le 13, 3) := dk_158 0 13 (dk_at dksX1_writeTolls_2 16 rfl rfl)
theorem dX1_writeTolls_67 : decode cX1_writeTolls 67 = .ok (.aload_n 0, 1) := dk_42 (dk_at dksX1_writeTolls_2 19 rfl rfl)
theorem dX1_writeTolls_68 : decode cX1_writeTolls 68 = .ok (.getfield 54, 3) := dk_180 0 54 (dk_at dksX1_writeTolls_2 20 rfl rfl)
theorem dX1_writeTolls_71 : decode cX1_writeTolls 71 = .ok (.bipush 59, 2) := dk_16 59 (dk_at dksX1_writeTolls_3 0 rfl rfl)
theorem dX1_writeTolls_73 : decode cX1_writeTolls 73 = .ok (.invokevirtual 419, 3) := dk_182 1 163 (dk_at dksX1_writeTolls_3 2 rfl rfl)
theorem dX1_writeTolls_76 : decode cX1_writeTolls 76 = .ok (.pop, 1) := dk_87 (dk_at dksX1_writeTolls_3 5 rfl rfl)
theorem dX1_writeTolls_77 : decode cX1_writeTolls 77 = .ok (.aload_n 0, 1) := dk_42 (dk_at dksX1_writeTolls_3 6 rfl rfl)
theorem dX1_writeTolls_78 : decode cX1_writeTolls 78 = .ok (.getfield 54, 3) := dk_180 0 54 (dk_at dksX1_writeTolls_3 7 rfl rfl)
theorem dX1_writeTolls_81 : decode cX1_writeTolls 81 = .ok (.aload_n 2, 1) := dk_44 (dk_at dksX1_writeTolls_3 10 rfl rfl)
theorem dX1_writeTolls_82 : decode cX1_writeTolls 82 = .ok (.invokevirtual 225, 3) := dk_182 0 225 (dk_at dksX1_writeTolls_3 11 rfl rfl)
theorem dX1_writeTolls_85 : decode cX1_writeTolls 85 = .ok (.invokevirtual 415, 3) := dk_182 1 159 (dk_at dksX1_writeTolls_3 14 rfl rfl)
theorem dX1_writeTolls_88 : decode cX1_writeTolls 88 = .ok (.bipush 58, 2) := dk_16 58 (dk_at dksX1_writeTolls_3 17 rfl rfl)
theorem dX1_writeTolls_90 : decode cX1_writeTolls 90 = .ok (.invokevirtual 419, 3) := dk_182 1 163 (dk_at dksX1_writeTolls_3 19 rfl rfl)
theorem dX1_writeTolls_93 : decode cX1_writeTolls 93 = .ok (.aload_n 0, 1) := dk_42 (dk_at dksX1_writeTolls_3 22 rfl rfl)
theorem dX1_writeTolls_94 : decode cX1_writeTolls 94 = .ok (.getfield 19, 3) := dk_180 0 19 (dk_at dksX1_writeTolls_4 0 rfl rfl)
theorem dX1_writeTolls_97 : decode cX1_writeTolls 97 = .ok (.aload_n 2, 1) := dk_44 (dk_at dksX1_writeTolls_4 3 rfl rfl)
theorem dX1_writeTolls_98 : decode cX1_writeTolls 98 = .ok (.invokevirtual 191, 3) := dk_182 0 191 (dk_at dksX1_writeTolls_4 4 rfl rfl)
theorem dX1_writeTolls_101 : decode cX1_writeTolls 101 = .ok (.invokevirtual 415, 3) := dk_182 1 159 (dk_at dksX1_writeTolls_4 7 rfl rfl)
theorem dX1_writeTolls_104 : decode cX1_writeTolls 104 = .ok (.pop, 1) := dk_87 (dk_at dksX1_writeTolls_4 10 rfl rfl)
theorem dX1_writeTolls_105 : decode cX1_writeTolls 105 = .ok (.goto (-81), 3) := dk_167 255 175 (dk_at dksX1_writeTolls_4 11 rfl rfl)
theorem dX1_writeTolls_108 : decode cX1_writeTolls 108 = .ok (.aload_n 0, 1) := dk_42 (dk_at dksX1_writeTolls_4 14 rfl rfl)
theorem dX1_writeTolls_109 : decode cX1_writeTolls 109 = .ok (.getfield 54, 3) := dk_180 0 54 (dk_at dksX1_writeTolls_4 15 rfl rfl)
theorem dX1_writeTolls_112 : decode cX1_writeTolls 112 = .ok (.invokevirtual 410, 3) := dk_182 1 154 (dk_at dksX1_writeTolls_4 18 rfl rfl)
theorem dX1_writeTolls_115 : decode cX1_writeTolls 115 = .ok (.ireturn, 1) := dk_172 (dk_at dksX1_writeTolls_4 21 rfl rfl)
abbrev cX1_outputByte : ByteArray := prog_1_method_80_code
def yX1_outputByte : MethodName := ⟨RX1, "outputByte", "(I)I"⟩
def dkwX1_outputByte_1 : List UInt8 := [182, 1, 166, 167, 0, 4, 2, 172]
abbrev dktX1_outputByte_1 : List UInt8 := dkwX1_outputByte_1 ++ []
def dkwX1_outputByte_0 : List UInt8 := [27, 133, 9, 42, 180, 0, 54, 182, 1, 154, 4, 100, 133, 184, 0, 121, 153, 0, 14, 42, 180, 0, 54, 27]
abbrev dktX1_outputByte_0 : List UInt8 := dkwX1_outputByte_0 ++ dktX1_outputByte_1
theorem dksX1_outputByte_0 : cX1_outputByte.data.toList.drop 0 = dktX1_outputByte_0 := by decide +kernel
theorem dksX1_outputByte_1 : cX1_outputByte.data.toList.drop 24 = dktX1_outputByte_1 := dk_seg dksX1_outputByte_0 24 rfl rfl
theorem dX1_outputByte_0 : decode cX1_outputByte 0 = .ok (.iload_n 1, 1) := dk_27 (dk_at dksX1_outputByte_0 0 rfl rfl)
theorem dX1_outputByte_1 : decode cX1_outputByte 1 = .ok (.i2l, 1) := dk_133 (dk_at dksX1_outputByte_0 1 rfl rfl)
theorem dX1_outputByte_2 : decode cX1_outputByte 2 = .ok (.lconst 0, 1) := dk_9 (dk_at dksX1_outputByte_0 2 rfl rfl)
theorem dX1_outputByte_3 : decode cX1_outputByte 3 = .ok (.aload_n 0, 1) := dk_42 (dk_at dksX1_outputByte_0 3 rfl rfl)
theorem dX1_outputByte_4 : decode cX1_outputByte 4 = .ok (.getfield 54, 3) := dk_180 0 54 (dk_at dksX1_outputByte_0 4 rfl rfl)
theorem dX1_outputByte_7 : decode cX1_outputByte 7 = .ok (.invokevirtual 410, 3) := dk_182 1 154 (dk_at dksX1_outputByte_0 7 rfl rfl)
theorem dX1_outputByte_10 : decode cX1_outputByte 10 = .ok (.iconst 1, 1) := dk_4 (dk_at dksX1_outputByte_0 10 rfl rfl)
theorem dX1_outputByte_11 : decode cX1_outputByte 11 = .ok (.isub, 1) := dk_100 (dk_at dksX1_outputByte_0 11 rfl rfl)
theorem dX1_outputByte_12 : decode cX1_outputByte 12 = .ok (.i2l, 1) := dk_133 (dk_at dksX1_outputByte_0 12 rfl rfl)
theorem dX1_outputByte_13 : decode cX1_outputByte 13 = .ok (.invokestatic 121, 3) := dk_184 0 121 (dk_at dksX1_outputByte_0 13 rfl rfl)
theorem dX1_outputByte_16 : decode cX1_outputByte 16 = .ok (.ifCond .eq 14, 3) := dk_153 0 14 (dk_at dksX1_outputByte_0 16 rfl rfl)
theorem dX1_outputByte_19 : decode cX1_outputByte 19 = .ok (.aload_n 0, 1) := dk_42 (dk_at dksX1_outputByte_0 19 rfl rfl)
theorem dX1_outputByte_20 : decode cX1_outputByte 20 = .ok (.getfield 54, 3) := dk_180 0 54 (dk_at dksX1_outputByte_0 20 rfl rfl)
theorem dX1_outputByte_23 : decode cX1_outputByte 23 = .ok (.iload_n 1, 1) := dk_27 (dk_at dksX1_outputByte_0 23 rfl rfl)
theorem dX1_outputByte_24 : decode cX1_outputByte 24 = .ok (.invokevirtual 422, 3) := dk_182 1 166 (dk_at dksX1_outputByte_1 0 rfl rfl)
theorem dX1_outputByte_27 : decode cX1_outputByte 27 = .ok (.goto 4, 3) := dk_167 0 4 (dk_at dksX1_outputByte_1 3 rfl rfl)
theorem dX1_outputByte_30 : decode cX1_outputByte 30 = .ok (.iconst (-1), 1) := dk_2 (dk_at dksX1_outputByte_1 6 rfl rfl)
theorem dX1_outputByte_31 : decode cX1_outputByte 31 = .ok (.ireturn, 1) := dk_172 (dk_at dksX1_outputByte_1 7 rfl rfl)
abbrev cX1_count : ByteArray := prog_1_method_15_code
def yX1_count : MethodName := ⟨RX1, "count", "(I)I"⟩
def dkwX1_count_4 : List UInt8 := [182, 0, 166, 172, 42, 180, 0, 19, 180, 0, 169, 182, 0, 173, 172, 187, 0, 61, 89, 183, 0, 63, 191]
abbrev dktX1_count_4 : List UInt8 := dkwX1_count_4 ++ []
def dkwX1_count_3 : List UInt8 := [185, 0, 107, 1, 0, 172, 42, 180, 0, 19, 180, 0, 99, 180, 0, 125, 185, 0, 107, 1, 0, 172, 42]
abbrev dktX1_count_3 : List UInt8 := dkwX1_count_3 ++ dktX1_count_4
def dkwX1_count_2 : List UInt8 := [42, 180, 0, 19, 180, 0, 99, 180, 0, 163, 172, 42, 180, 0, 19, 180, 0, 99, 180, 0, 103]
abbrev dktX1_count_2 : List UInt8 := dkwX1_count_2 ++ dktX1_count_3
def dkwX1_count_1 : List UInt8 := [170, 0, 0, 0, 0, 0, 94, 0, 0, 0, 0, 0, 0, 0, 4, 0, 0, 0, 35, 0, 0, 0, 46, 0, 0, 0, 62, 0, 0, 0, 78, 0, 0, 0, 83]
abbrev dktX1_count_1 : List UInt8 := dkwX1_count_1 ++ dktX1_count_2
def dkwX1_count_0 : List UInt8 := [27]
abbrev dktX1_count_0 : List UInt8 := dkwX1_count_0 ++ dktX1_count_1
theorem dksX1_count_0 : cX1_count.data.toList.drop 0 = dktX1_count_0 := by decide +kernel
theorem dksX1_count_1 : cX1_count.data.toList.drop 1 = dktX1_count_1 := dk_seg dksX1_count_0 1 rfl rfl
theorem dksX1_count_2 : cX1_count.data.toList.drop 36 = dktX1_count_2 := dk_seg dksX1_count_1 35 rfl rfl
theorem dksX1_count_3 : cX1_count.data.toList.drop 57 = dktX1_count_3 := dk_seg dksX1_count_2 21 rfl rfl
theorem dksX1_count_4 : cX1_count.data.toList.drop 80 = dktX1_count_4 := dk_seg dksX1_count_3 23 rfl rfl
theorem dX1_count_0 : decode cX1_count 0 = .ok (.iload_n 1, 1) := dk_27 (dk_at dksX1_count_0 0 rfl rfl)
theorem dX1_count_1 : decode cX1_count 1 = .ok (.tableswitch 94 0 4 #[35, 46, 62, 78, 83], 35) := by decide +kernel
theorem dX1_count_36 : decode cX1_count 36 = .ok (.aload_n 0, 1) := dk_42 (dk_at dksX1_count_2 0 rfl rfl)
theorem dX1_count_37 : decode cX1_count 37 = .ok (.getfield 19, 3) := dk_180 0 19 (dk_at dksX1_count_2 1 rfl rfl)
theorem dX1_count_40 : decode cX1_count 40 = .ok (.getfield 99, 3) := dk_180 0 99 (dk_at dksX1_count_2 4 rfl rfl)
theorem dX1_count_43 : decode cX1_count 43 = .ok (.getfield 163, 3) := dk_180 0 163 (dk_at dksX1_count_2 7 rfl rfl)
theorem dX1_count_46 : decode cX1_count 46 = .ok (.ireturn, 1) := dk_172 (dk_at dksX1_count_2 10 rfl rfl)
theorem dX1_count_47 : decode cX1_count 47 = .ok (.aload_n 0, 1) := dk_42 (dk_at dksX1_count_2 11 rfl rfl)
theorem dX1_count_48 : decode cX1_count 48 = .ok (.getfield 19, 3) := dk_180 0 19 (dk_at dksX1_count_2 12 rfl rfl)
theorem dX1_count_51 : decode cX1_count 51 = .ok (.getfield 99, 3) := dk_180 0 99 (dk_at dksX1_count_2 15 rfl rfl)
theorem dX1_count_54 : decode cX1_count 54 = .ok (.getfield 103, 3) := dk_180 0 103 (dk_at dksX1_count_2 18 rfl rfl)
theorem dX1_count_57 : decode cX1_count 57 = .ok (.invokeinterface 107 1, 5) := by decide +kernel
theorem dX1_count_62 : decode cX1_count 62 = .ok (.ireturn, 1) := dk_172 (dk_at dksX1_count_3 5 rfl rfl)
theorem dX1_count_63 : decode cX1_count 63 = .ok (.aload_n 0, 1) := dk_42 (dk_at dksX1_count_3 6 rfl rfl)
theorem dX1_count_64 : decode cX1_count 64 = .ok (.getfield 19, 3) := dk_180 0 19 (dk_at dksX1_count_3 7 rfl rfl)
theorem dX1_count_67 : decode cX1_count 67 = .ok (.getfield 99, 3) := dk_180 0 99 (dk_at dksX1_count_3 10 rfl rfl)
theorem dX1_count_70 : decode cX1_count 70 = .ok (.getfield 125, 3) := dk_180 0 125 (dk_at dksX1_count_3 13 rfl rfl)
theorem dX1_count_73 : decode cX1_count 73 = .ok (.invokeinterface 107 1, 5) := by decide +kernel
theorem dX1_count_78 : decode cX1_count 78 = .ok (.ireturn, 1) := dk_172 (dk_at dksX1_count_3 21 rfl rfl)
theorem dX1_count_79 : decode cX1_count 79 = .ok (.aload_n 0, 1) := dk_42 (dk_at dksX1_count_3 22 rfl rfl)
theorem dX1_count_80 : decode cX1_count 80 = .ok (.invokevirtual 166, 3) := dk_182 0 166 (dk_at dksX1_count_4 0 rfl rfl)
theorem dX1_count_83 : decode cX1_count 83 = .ok (.ireturn, 1) := dk_172 (dk_at dksX1_count_4 3 rfl rfl)
theorem dX1_count_84 : decode cX1_count 84 = .ok (.aload_n 0, 1) := dk_42 (dk_at dksX1_count_4 4 rfl rfl)
theorem dX1_count_85 : decode cX1_count 85 = .ok (.getfield 19, 3) := dk_180 0 19 (dk_at dksX1_count_4 5 rfl rfl)
theorem dX1_count_88 : decode cX1_count 88 = .ok (.getfield 169, 3) := dk_180 0 169 (dk_at dksX1_count_4 8 rfl rfl)
theorem dX1_count_91 : decode cX1_count 91 = .ok (.invokevirtual 173, 3) := dk_182 0 173 (dk_at dksX1_count_4 11 rfl rfl)
theorem dX1_count_94 : decode cX1_count 94 = .ok (.ireturn, 1) := dk_172 (dk_at dksX1_count_4 14 rfl rfl)
theorem dX1_count_95 : decode cX1_count 95 = .ok (.new 61, 3) := dk_187 0 61 (dk_at dksX1_count_4 15 rfl rfl)
theorem dX1_count_98 : decode cX1_count 98 = .ok (.dup, 1) := dk_89 (dk_at dksX1_count_4 18 rfl rfl)
theorem dX1_count_99 : decode cX1_count 99 = .ok (.invokespecial 63, 3) := dk_183 0 63 (dk_at dksX1_count_4 19 rfl rfl)
theorem dX1_count_102 : decode cX1_count 102 = .ok (.athrow, 1) := dk_191 (dk_at dksX1_count_4 22 rfl rfl)
abbrev cX1_tollable : ByteArray := prog_1_method_14_code
def yX1_tollable : MethodName := ⟨RX1, "tollable", "()I"⟩
def dkwX1_tollable_2 : List UInt8 := [167, 0, 4, 3, 96, 60, 167, 255, 222, 27, 172]
abbrev dktX1_tollable_2 : List UInt8 := dkwX1_tollable_2 ++ []
def dkwX1_tollable_1 : List UInt8 := [153, 0, 31, 44, 185, 0, 157, 1, 0, 192, 0, 140, 78, 27, 45, 182, 0, 160, 158, 0, 7, 4]
abbrev dktX1_tollable_1 : List UInt8 := dkwX1_tollable_1 ++ dktX1_tollable_2
def dkwX1_tollable_0 : List UInt8 := [3, 60, 42, 180, 0, 19, 180, 0, 99, 180, 0, 103, 185, 0, 147, 1, 0, 77, 44, 185, 0, 151, 1, 0]
abbrev dktX1_tollable_0 : List UInt8 := dkwX1_tollable_0 ++ dktX1_tollable_1
theorem dksX1_tollable_0 : cX1_tollable.data.toList.drop 0 = dktX1_tollable_0 := by decide +kernel
theorem dksX1_tollable_1 : cX1_tollable.data.toList.drop 24 = dktX1_tollable_1 := dk_seg dksX1_tollable_0 24 rfl rfl
theorem dksX1_tollable_2 : cX1_tollable.data.toList.drop 46 = dktX1_tollable_2 := dk_seg dksX1_tollable_1 22 rfl rfl
theorem dX1_tollable_0 : decode cX1_tollable 0 = .ok (.iconst 0, 1) := dk_3 (dk_at dksX1_tollable_0 0 rfl rfl)
theorem dX1_tollable_1 : decode cX1_tollable 1 = .ok (.istore_n 1, 1) := dk_60 (dk_at dksX1_tollable_0 1 rfl rfl)
theorem dX1_tollable_2 : decode cX1_tollable 2 = .ok (.aload_n 0, 1) := dk_42 (dk_at dksX1_tollable_0 2 rfl rfl)
theorem dX1_tollable_3 : decode cX1_tollable 3 = .ok (.getfield 19, 3) := dk_180 0 19 (dk_at dksX1_tollable_0 3 rfl rfl)
theorem dX1_tollable_6 : decode cX1_tollable 6 = .ok (.getfield 99, 3) := dk_180 0 99 (dk_at dksX1_tollable_0 6 rfl rfl)
theorem dX1_tollable_9 : decode cX1_tollable 9 = .ok (.getfield 103, 3) := dk_180 0 103 (dk_at dksX1_tollable_0 9 rfl rfl)
theorem dX1_tollable_12 : decode cX1_tollable 12 = .ok (.invokeinterface 147 1, 5) := by decide +kernel
theorem dX1_tollable_17 : decode cX1_tollable 17 = .ok (.astore_n 2, 1) := dk_77 (dk_at dksX1_tollable_0 17 rfl rfl)
theorem dX1_tollable_18 : decode cX1_tollable 18 = .ok (.aload_n 2, 1) := dk_44 (dk_at dksX1_tollable_0 18 rfl rfl)
theorem dX1_tollable_19 : decode cX1_tollable 19 = .ok (.invokeinterface 151 1, 5) := by decide +kernel
theorem dX1_tollable_24 : decode cX1_tollable 24 = .ok (.ifCond .eq 31, 3) := dk_153 0 31 (dk_at dksX1_tollable_1 0 rfl rfl)
theorem dX1_tollable_27 : decode cX1_tollable 27 = .ok (.aload_n 2, 1) := dk_44 (dk_at dksX1_tollable_1 3 rfl rfl)
theorem dX1_tollable_28 : decode cX1_tollable 28 = .ok (.invokeinterface 157 1, 5) := by decide +kernel
theorem dX1_tollable_33 : decode cX1_tollable 33 = .ok (.checkcast 140, 3) := dk_192 0 140 (dk_at dksX1_tollable_1 9 rfl rfl)
theorem dX1_tollable_36 : decode cX1_tollable 36 = .ok (.astore_n 3, 1) := dk_78 (dk_at dksX1_tollable_1 12 rfl rfl)
theorem dX1_tollable_37 : decode cX1_tollable 37 = .ok (.iload_n 1, 1) := dk_27 (dk_at dksX1_tollable_1 13 rfl rfl)
theorem dX1_tollable_38 : decode cX1_tollable 38 = .ok (.aload_n 3, 1) := dk_45 (dk_at dksX1_tollable_1 14 rfl rfl)
theorem dX1_tollable_39 : decode cX1_tollable 39 = .ok (.invokevirtual 160, 3) := dk_182 0 160 (dk_at dksX1_tollable_1 15 rfl rfl)
theorem dX1_tollable_42 : decode cX1_tollable 42 = .ok (.ifCond .le 7, 3) := dk_158 0 7 (dk_at dksX1_tollable_1 18 rfl rfl)
theorem dX1_tollable_45 : decode cX1_tollable 45 = .ok (.iconst 1, 1) := dk_4 (dk_at dksX1_tollable_1 21 rfl rfl)
theorem dX1_tollable_46 : decode cX1_tollable 46 = .ok (.goto 4, 3) := dk_167 0 4 (dk_at dksX1_tollable_2 0 rfl rfl)
theorem dX1_tollable_49 : decode cX1_tollable 49 = .ok (.iconst 0, 1) := dk_3 (dk_at dksX1_tollable_2 3 rfl rfl)
theorem dX1_tollable_50 : decode cX1_tollable 50 = .ok (.iadd, 1) := dk_96 (dk_at dksX1_tollable_2 4 rfl rfl)
theorem dX1_tollable_51 : decode cX1_tollable 51 = .ok (.istore_n 1, 1) := dk_60 (dk_at dksX1_tollable_2 5 rfl rfl)
theorem dX1_tollable_52 : decode cX1_tollable 52 = .ok (.goto (-34), 3) := dk_167 255 222 (dk_at dksX1_tollable_2 6 rfl rfl)
theorem dX1_tollable_55 : decode cX1_tollable 55 = .ok (.iload_n 1, 1) := dk_27 (dk_at dksX1_tollable_2 9 rfl rfl)
theorem dX1_tollable_56 : decode cX1_tollable 56 = .ok (.ireturn, 1) := dk_172 (dk_at dksX1_tollable_2 10 rfl rfl)
abbrev cX1_arcValue : ByteArray := prog_1_method_16_code
def yX1_arcValue : MethodName := ⟨RX1, "arcValue", "(II)I"⟩
def dkwX1_arcValue_4 : List UInt8 := [187, 0, 61, 89, 183, 0, 63, 191]
abbrev dktX1_arcValue_4 : List UInt8 := dkwX1_arcValue_4 ++ []
def dkwX1_arcValue_3 : List UInt8 := [45, 182, 0, 191, 172, 42, 180, 0, 19, 45, 182, 0, 195, 153, 0, 7, 3, 167, 0, 4, 4, 172]
abbrev dktX1_arcValue_3 : List UInt8 := dkwX1_arcValue_3 ++ dktX1_arcValue_4
def dkwX1_arcValue_2 : List UInt8 := [45, 182, 0, 182, 172, 45, 182, 0, 185, 172, 45, 182, 0, 188, 172, 45, 182, 0, 160, 172, 42, 180, 0, 19]
abbrev dktX1_arcValue_2 : List UInt8 := dkwX1_arcValue_2 ++ dktX1_arcValue_3
def dkwX1_arcValue_1 : List UInt8 := [170, 0, 0, 0, 83, 0, 0, 0, 0, 0, 0, 0, 5, 0, 0, 0, 37, 0, 0, 0, 42, 0, 0, 0, 47, 0, 0, 0, 52, 0, 0, 0, 57, 0, 0, 0, 66]
abbrev dktX1_arcValue_1 : List UInt8 := dkwX1_arcValue_1 ++ dktX1_arcValue_2
def dkwX1_arcValue_0 : List UInt8 := [42, 27, 182, 0, 178, 78, 28]
abbrev dktX1_arcValue_0 : List UInt8 := dkwX1_arcValue_0 ++ dktX1_arcValue_1
theorem dksX1_arcValue_0 : cX1_arcValue.data.toList.drop 0 = dktX1_arcValue_0 := by decide +kernel
theorem dksX1_arcValue_1 : cX1_arcValue.data.toList.drop 7 = dktX1_arcValue_1 := dk_seg dksX1_arcValue_0 7 rfl rfl
theorem dksX1_arcValue_2 : cX1_arcValue.data.toList.drop 44 = dktX1_arcValue_2 := dk_seg dksX1_arcValue_1 37 rfl rfl
theorem dksX1_arcValue_3 : cX1_arcValue.data.toList.drop 68 = dktX1_arcValue_3 := dk_seg dksX1_arcValue_2 24 rfl rfl
theorem dksX1_arcValue_4 : cX1_arcValue.data.toList.drop 90 = dktX1_arcValue_4 := dk_seg dksX1_arcValue_3 22 rfl rfl
theorem dX1_arcValue_0 : decode cX1_arcValue 0 = .ok (.aload_n 0, 1) := dk_42 (dk_at dksX1_arcValue_0 0 rfl rfl)
theorem dX1_arcValue_1 : decode cX1_arcValue 1 = .ok (.iload_n 1, 1) := dk_27 (dk_at dksX1_arcValue_0 1 rfl rfl)
theorem dX1_arcValue_2 : decode cX1_arcValue 2 = .ok (.invokevirtual 178, 3) := dk_182 0 178 (dk_at dksX1_arcValue_0 2 rfl rfl)
theorem dX1_arcValue_5 : decode cX1_arcValue 5 = .ok (.astore_n 3, 1) := dk_78 (dk_at dksX1_arcValue_0 5 rfl rfl)
theorem dX1_arcValue_6 : decode cX1_arcValue 6 = .ok (.iload_n 2, 1) := dk_28 (dk_at dksX1_arcValue_0 6 rfl rfl)
theorem dX1_arcValue_7 : decode cX1_arcValue 7 = .ok (.tableswitch 83 0 5 #[37, 42, 47, 52, 57, 66], 37) := by decide +kernel
theorem dX1_arcValue_44 : decode cX1_arcValue 44 = .ok (.aload_n 3, 1) := dk_45 (dk_at dksX1_arcValue_2 0 rfl rfl)
theorem dX1_arcValue_45 : decode cX1_arcValue 45 = .ok (.invokevirtual 182, 3) := dk_182 0 182 (dk_at dksX1_arcValue_2 1 rfl rfl)
theorem dX1_arcValue_48 : decode cX1_arcValue 48 = .ok (.ireturn, 1) := dk_172 (dk_at dksX1_arcValue_2 4 rfl rfl)
theorem dX1_arcValue_49 : decode cX1_arcValue 49 = .ok (.aload_n 3, 1) := dk_45 (dk_at dksX1_arcValue_2 5 rfl rfl)
theorem dX1_arcValue_50 : decode cX1_arcValue 50 = .ok (.invokevirtual 185, 3) := dk_182 0 185 (dk_at dksX1_arcValue_2 6 rfl rfl)
theorem dX1_arcValue_53 : decode cX1_arcValue 53 = .ok (.ireturn, 1) := dk_172 (dk_at dksX1_arcValue_2 9 rfl rfl)
theorem dX1_arcValue_54 : decode cX1_arcValue 54 = .ok (.aload_n 3, 1) := dk_45 (dk_at dksX1_arcValue_2 10 rfl rfl)
theorem dX1_arcValue_55 : decode cX1_arcValue 55 = .ok (.invokevirtual 188, 3) := dk_182 0 188 (dk_at dksX1_arcValue_2 11 rfl rfl)
theorem dX1_arcValue_58 : decode cX1_arcValue 58 = .ok (.ireturn, 1) := dk_172 (dk_at dksX1_arcValue_2 14 rfl rfl)
theorem dX1_arcValue_59 : decode cX1_arcValue 59 = .ok (.aload_n 3, 1) := dk_45 (dk_at dksX1_arcValue_2 15 rfl rfl)
theorem dX1_arcValue_60 : decode cX1_arcValue 60 = .ok (.invokevirtual 160, 3) := dk_182 0 160 (dk_at dksX1_arcValue_2 16 rfl rfl)
theorem dX1_arcValue_63 : decode cX1_arcValue 63 = .ok (.ireturn, 1) := dk_172 (dk_at dksX1_arcValue_2 19 rfl rfl)
theorem dX1_arcValue_64 : decode cX1_arcValue 64 = .ok (.aload_n 0, 1) := dk_42 (dk_at dksX1_arcValue_2 20 rfl rfl)
theorem dX1_arcValue_65 : decode cX1_arcValue 65 = .ok (.getfield 19, 3) := dk_180 0 19 (dk_at dksX1_arcValue_2 21 rfl rfl)
theorem dX1_arcValue_68 : decode cX1_arcValue 68 = .ok (.aload_n 3, 1) := dk_45 (dk_at dksX1_arcValue_3 0 rfl rfl)
theorem dX1_arcValue_69 : decode cX1_arcValue 69 = .ok (.invokevirtual 191, 3) := dk_182 0 191 (dk_at dksX1_arcValue_3 1 rfl rfl)
theorem dX1_arcValue_72 : decode cX1_arcValue 72 = .ok (.ireturn, 1) := dk_172 (dk_at dksX1_arcValue_3 4 rfl rfl)
theorem dX1_arcValue_73 : decode cX1_arcValue 73 = .ok (.aload_n 0, 1) := dk_42 (dk_at dksX1_arcValue_3 5 rfl rfl)
theorem dX1_arcValue_74 : decode cX1_arcValue 74 = .ok (.getfield 19, 3) := dk_180 0 19 (dk_at dksX1_arcValue_3 6 rfl rfl)
theorem dX1_arcValue_77 : decode cX1_arcValue 77 = .ok (.aload_n 3, 1) := dk_45 (dk_at dksX1_arcValue_3 9 rfl rfl)
theorem dX1_arcValue_78 : decode cX1_arcValue 78 = .ok (.invokevirtual 195, 3) := dk_182 0 195 (dk_at dksX1_arcValue_3 10 rfl rfl)
theorem dX1_arcValue_81 : decode cX1_arcValue 81 = .ok (.ifCond .eq 7, 3) := dk_153 0 7 (dk_at dksX1_arcValue_3 13 rfl rfl)
theorem dX1_arcValue_84 : decode cX1_arcValue 84 = .ok (.iconst 0, 1) := dk_3 (dk_at dksX1_arcValue_3 16 rfl rfl)
theorem dX1_arcValue_85 : decode cX1_arcValue 85 = .ok (.goto 4, 3) := dk_167 0 4 (dk_at dksX1_arcValue_3 17 rfl rfl)
theorem dX1_arcValue_88 : decode cX1_arcValue 88 = .ok (.iconst 1, 1) := dk_4 (dk_at dksX1_arcValue_3 20 rfl rfl)
theorem dX1_arcValue_89 : decode cX1_arcValue 89 = .ok (.ireturn, 1) := dk_172 (dk_at dksX1_arcValue_3 21 rfl rfl)
theorem dX1_arcValue_90 : decode cX1_arcValue 90 = .ok (.new 61, 3) := dk_187 0 61 (dk_at dksX1_arcValue_4 0 rfl rfl)
theorem dX1_arcValue_93 : decode cX1_arcValue 93 = .ok (.dup, 1) := dk_89 (dk_at dksX1_arcValue_4 3 rfl rfl)
theorem dX1_arcValue_94 : decode cX1_arcValue 94 = .ok (.invokespecial 63, 3) := dk_183 0 63 (dk_at dksX1_arcValue_4 4 rfl rfl)
theorem dX1_arcValue_97 : decode cX1_arcValue 97 = .ok (.athrow, 1) := dk_191 (dk_at dksX1_arcValue_4 7 rfl rfl)
abbrev cX1_arcAt : ByteArray := prog_1_method_12_code
def yX1_arcAt : MethodName := ⟨RX1, "arcAt", "(I)LTollLeader$Arc;"⟩
def dkwX1_arcAt_1 : List UInt8 := [192, 0, 140, 176]
abbrev dktX1_arcAt_1 : List UInt8 := dkwX1_arcAt_1 ++ []
def dkwX1_arcAt_0 : List UInt8 := [42, 27, 182, 0, 128, 184, 0, 132, 42, 180, 0, 19, 180, 0, 99, 180, 0, 103, 27, 185, 0, 136, 2, 0]
abbrev dktX1_arcAt_0 : List UInt8 := dkwX1_arcAt_0 ++ dktX1_arcAt_1
theorem dksX1_arcAt_0 : cX1_arcAt.data.toList.drop 0 = dktX1_arcAt_0 := by decide +kernel
theorem dksX1_arcAt_1 : cX1_arcAt.data.toList.drop 24 = dktX1_arcAt_1 := dk_seg dksX1_arcAt_0 24 rfl rfl
theorem dX1_arcAt_0 : decode cX1_arcAt 0 = .ok (.aload_n 0, 1) := dk_42 (dk_at dksX1_arcAt_0 0 rfl rfl)
theorem dX1_arcAt_1 : decode cX1_arcAt 1 = .ok (.iload_n 1, 1) := dk_27 (dk_at dksX1_arcAt_0 1 rfl rfl)
theorem dX1_arcAt_2 : decode cX1_arcAt 2 = .ok (.invokevirtual 128, 3) := dk_182 0 128 (dk_at dksX1_arcAt_0 2 rfl rfl)
theorem dX1_arcAt_5 : decode cX1_arcAt 5 = .ok (.invokestatic 132, 3) := dk_184 0 132 (dk_at dksX1_arcAt_0 5 rfl rfl)
theorem dX1_arcAt_8 : decode cX1_arcAt 8 = .ok (.aload_n 0, 1) := dk_42 (dk_at dksX1_arcAt_0 8 rfl rfl)
theorem dX1_arcAt_9 : decode cX1_arcAt 9 = .ok (.getfield 19, 3) := dk_180 0 19 (dk_at dksX1_arcAt_0 9 rfl rfl)
theorem dX1_arcAt_12 : decode cX1_arcAt 12 = .ok (.getfield 99, 3) := dk_180 0 99 (dk_at dksX1_arcAt_0 12 rfl rfl)
theorem dX1_arcAt_15 : decode cX1_arcAt 15 = .ok (.getfield 103, 3) := dk_180 0 103 (dk_at dksX1_arcAt_0 15 rfl rfl)
theorem dX1_arcAt_18 : decode cX1_arcAt 18 = .ok (.iload_n 1, 1) := dk_27 (dk_at dksX1_arcAt_0 18 rfl rfl)
theorem dX1_arcAt_19 : decode cX1_arcAt 19 = .ok (.invokeinterface 136 2, 5) := by decide +kernel
theorem dX1_arcAt_24 : decode cX1_arcAt 24 = .ok (.checkcast 140, 3) := dk_192 0 140 (dk_at dksX1_arcAt_1 0 rfl rfl)
theorem dX1_arcAt_27 : decode cX1_arcAt 27 = .ok (.areturn, 1) := dk_176 (dk_at dksX1_arcAt_1 3 rfl rfl)
abbrev cX1_isArc : ByteArray := prog_1_method_10_code
def yX1_isArc : MethodName := ⟨RX1, "isArc", "(I)Z"⟩
def dkwX1_isArc_1 : List UInt8 := [172]
abbrev dktX1_isArc_1 : List UInt8 := dkwX1_isArc_1 ++ []
def dkwX1_isArc_0 : List UInt8 := [27, 133, 9, 42, 180, 0, 19, 180, 0, 99, 180, 0, 103, 185, 0, 107, 1, 0, 4, 100, 133, 184, 0, 121]
abbrev dktX1_isArc_0 : List UInt8 := dkwX1_isArc_0 ++ dktX1_isArc_1
theorem dksX1_isArc_0 : cX1_isArc.data.toList.drop 0 = dktX1_isArc_0 := by decide +kernel
theorem dksX1_isArc_1 : cX1_isArc.data.toList.drop 24 = dktX1_isArc_1 := dk_seg dksX1_isArc_0 24 rfl rfl
theorem dX1_isArc_0 : decode cX1_isArc 0 = .ok (.iload_n 1, 1) := dk_27 (dk_at dksX1_isArc_0 0 rfl rfl)
theorem dX1_isArc_1 : decode cX1_isArc 1 = .ok (.i2l, 1) := dk_133 (dk_at dksX1_isArc_0 1 rfl rfl)
theorem dX1_isArc_2 : decode cX1_isArc 2 = .ok (.lconst 0, 1) := dk_9 (dk_at dksX1_isArc_0 2 rfl rfl)
theorem dX1_isArc_3 : decode cX1_isArc 3 = .ok (.aload_n 0, 1) := dk_42 (dk_at dksX1_isArc_0 3 rfl rfl)
theorem dX1_isArc_4 : decode cX1_isArc 4 = .ok (.getfield 19, 3) := dk_180 0 19 (dk_at dksX1_isArc_0 4 rfl rfl)
theorem dX1_isArc_7 : decode cX1_isArc 7 = .ok (.getfield 99, 3) := dk_180 0 99 (dk_at dksX1_isArc_0 7 rfl rfl)
theorem dX1_isArc_10 : decode cX1_isArc 10 = .ok (.getfield 103, 3) := dk_180 0 103 (dk_at dksX1_isArc_0 10 rfl rfl)
theorem dX1_isArc_13 : decode cX1_isArc 13 = .ok (.invokeinterface 107 1, 5) := by decide +kernel
theorem dX1_isArc_18 : decode cX1_isArc 18 = .ok (.iconst 1, 1) := dk_4 (dk_at dksX1_isArc_0 18 rfl rfl)
theorem dX1_isArc_19 : decode cX1_isArc 19 = .ok (.isub, 1) := dk_100 (dk_at dksX1_isArc_0 19 rfl rfl)
theorem dX1_isArc_20 : decode cX1_isArc 20 = .ok (.i2l, 1) := dk_133 (dk_at dksX1_isArc_0 20 rfl rfl)
theorem dX1_isArc_21 : decode cX1_isArc 21 = .ok (.invokestatic 121, 3) := dk_184 0 121 (dk_at dksX1_isArc_0 21 rfl rfl)
theorem dX1_isArc_24 : decode cX1_isArc 24 = .ok (.ireturn, 1) := dk_172 (dk_at dksX1_isArc_1 0 rfl rfl)
abbrev cX1_requireIndex : ByteArray := prog_1_method_3_code
def yX1_requireIndex : MethodName := ⟨RX1, "requireIndex", "(Z)V"⟩
def dkwX1_requireIndex_0 : List UInt8 := [26, 154, 0, 11, 187, 0, 58, 89, 183, 0, 60, 191, 177]
abbrev dktX1_requireIndex_0 : List UInt8 := dkwX1_requireIndex_0 ++ []
theorem dksX1_requireIndex_0 : cX1_requireIndex.data.toList.drop 0 = dktX1_requireIndex_0 := by decide +kernel
theorem dX1_requireIndex_0 : decode cX1_requireIndex 0 = .ok (.iload_n 0, 1) := dk_26 (dk_at dksX1_requireIndex_0 0 rfl rfl)
theorem dX1_requireIndex_1 : decode cX1_requireIndex 1 = .ok (.ifCond .ne 11, 3) := dk_154 0 11 (dk_at dksX1_requireIndex_0 1 rfl rfl)
theorem dX1_requireIndex_4 : decode cX1_requireIndex 4 = .ok (.new 58, 3) := dk_187 0 58 (dk_at dksX1_requireIndex_0 4 rfl rfl)
theorem dX1_requireIndex_7 : decode cX1_requireIndex 7 = .ok (.dup, 1) := dk_89 (dk_at dksX1_requireIndex_0 7 rfl rfl)
theorem dX1_requireIndex_8 : decode cX1_requireIndex 8 = .ok (.invokespecial 60, 3) := dk_183 0 60 (dk_at dksX1_requireIndex_0 8 rfl rfl)
theorem dX1_requireIndex_11 : decode cX1_requireIndex 11 = .ok (.athrow, 1) := dk_191 (dk_at dksX1_requireIndex_0 11 rfl rfl)
theorem dX1_requireIndex_12 : decode cX1_requireIndex 12 = .ok (.return_, 1) := dk_177 (dk_at dksX1_requireIndex_0 12 rfl rfl)
abbrev cX1_tripValue : ByteArray := prog_1_method_17_code
def yX1_tripValue : MethodName := ⟨RX1, "tripValue", "(II)I"⟩
def dkwX1_tripValue_3 : List UInt8 := [172, 187, 0, 61, 89, 183, 0, 63, 191]
abbrev dktX1_tripValue_3 : List UInt8 := dkwX1_tripValue_3 ++ []
def dkwX1_tripValue_2 : List UInt8 := [45, 182, 0, 203, 172, 45, 182, 0, 204, 172, 42, 180, 0, 19, 180, 0, 205, 27, 46, 172, 45, 182, 0, 209]
abbrev dktX1_tripValue_2 : List UInt8 := dkwX1_tripValue_2 ++ dktX1_tripValue_3
def dkwX1_tripValue_1 : List UInt8 := [170, 0, 0, 0, 54, 0, 0, 0, 0, 0, 0, 0, 3, 0, 0, 0, 29, 0, 0, 0, 34, 0, 0, 0, 39, 0, 0, 0, 49]
abbrev dktX1_tripValue_1 : List UInt8 := dkwX1_tripValue_1 ++ dktX1_tripValue_2
def dkwX1_tripValue_0 : List UInt8 := [42, 27, 182, 0, 199, 78, 28]
abbrev dktX1_tripValue_0 : List UInt8 := dkwX1_tripValue_0 ++ dktX1_tripValue_1
theorem dksX1_tripValue_0 : cX1_tripValue.data.toList.drop 0 = dktX1_tripValue_0 := by decide +kernel
theorem dksX1_tripValue_1 : cX1_tripValue.data.toList.drop 7 = dktX1_tripValue_1 := dk_seg dksX1_tripValue_0 7 rfl rfl
theorem dksX1_tripValue_2 : cX1_tripValue.data.toList.drop 36 = dktX1_tripValue_2 := dk_seg dksX1_tripValue_1 29 rfl rfl
theorem dksX1_tripValue_3 : cX1_tripValue.data.toList.drop 60 = dktX1_tripValue_3 := dk_seg dksX1_tripValue_2 24 rfl rfl
theorem dX1_tripValue_0 : decode cX1_tripValue 0 = .ok (.aload_n 0, 1) := dk_42 (dk_at dksX1_tripValue_0 0 rfl rfl)
theorem dX1_tripValue_1 : decode cX1_tripValue 1 = .ok (.iload_n 1, 1) := dk_27 (dk_at dksX1_tripValue_0 1 rfl rfl)
theorem dX1_tripValue_2 : decode cX1_tripValue 2 = .ok (.invokevirtual 199, 3) := dk_182 0 199 (dk_at dksX1_tripValue_0 2 rfl rfl)
theorem dX1_tripValue_5 : decode cX1_tripValue 5 = .ok (.astore_n 3, 1) := dk_78 (dk_at dksX1_tripValue_0 5 rfl rfl)
theorem dX1_tripValue_6 : decode cX1_tripValue 6 = .ok (.iload_n 2, 1) := dk_28 (dk_at dksX1_tripValue_0 6 rfl rfl)
theorem dX1_tripValue_7 : decode cX1_tripValue 7 = .ok (.tableswitch 54 0 3 #[29, 34, 39, 49], 29) := by decide +kernel
theorem dX1_tripValue_36 : decode cX1_tripValue 36 = .ok (.aload_n 3, 1) := dk_45 (dk_at dksX1_tripValue_2 0 rfl rfl)
theorem dX1_tripValue_37 : decode cX1_tripValue 37 = .ok (.invokevirtual 203, 3) := dk_182 0 203 (dk_at dksX1_tripValue_2 1 rfl rfl)
theorem dX1_tripValue_40 : decode cX1_tripValue 40 = .ok (.ireturn, 1) := dk_172 (dk_at dksX1_tripValue_2 4 rfl rfl)
theorem dX1_tripValue_41 : decode cX1_tripValue 41 = .ok (.aload_n 3, 1) := dk_45 (dk_at dksX1_tripValue_2 5 rfl rfl)
theorem dX1_tripValue_42 : decode cX1_tripValue 42 = .ok (.invokevirtual 204, 3) := dk_182 0 204 (dk_at dksX1_tripValue_2 6 rfl rfl)
theorem dX1_tripValue_45 : decode cX1_tripValue 45 = .ok (.ireturn, 1) := dk_172 (dk_at dksX1_tripValue_2 9 rfl rfl)
theorem dX1_tripValue_46 : decode cX1_tripValue 46 = .ok (.aload_n 0, 1) := dk_42 (dk_at dksX1_tripValue_2 10 rfl rfl)
theorem dX1_tripValue_47 : decode cX1_tripValue 47 = .ok (.getfield 19, 3) := dk_180 0 19 (dk_at dksX1_tripValue_2 11 rfl rfl)
theorem dX1_tripValue_50 : decode cX1_tripValue 50 = .ok (.getfield 205, 3) := dk_180 0 205 (dk_at dksX1_tripValue_2 14 rfl rfl)
theorem dX1_tripValue_53 : decode cX1_tripValue 53 = .ok (.iload_n 1, 1) := dk_27 (dk_at dksX1_tripValue_2 17 rfl rfl)
theorem dX1_tripValue_54 : decode cX1_tripValue 54 = .ok (.iaload, 1) := dk_46 (dk_at dksX1_tripValue_2 18 rfl rfl)
theorem dX1_tripValue_55 : decode cX1_tripValue 55 = .ok (.ireturn, 1) := dk_172 (dk_at dksX1_tripValue_2 19 rfl rfl)
theorem dX1_tripValue_56 : decode cX1_tripValue 56 = .ok (.aload_n 3, 1) := dk_45 (dk_at dksX1_tripValue_2 20 rfl rfl)
theorem dX1_tripValue_57 : decode cX1_tripValue 57 = .ok (.invokevirtual 209, 3) := dk_182 0 209 (dk_at dksX1_tripValue_2 21 rfl rfl)
theorem dX1_tripValue_60 : decode cX1_tripValue 60 = .ok (.ireturn, 1) := dk_172 (dk_at dksX1_tripValue_3 0 rfl rfl)
theorem dX1_tripValue_61 : decode cX1_tripValue 61 = .ok (.new 61, 3) := dk_187 0 61 (dk_at dksX1_tripValue_3 1 rfl rfl)
theorem dX1_tripValue_64 : decode cX1_tripValue 64 = .ok (.dup, 1) := dk_89 (dk_at dksX1_tripValue_3 4 rfl rfl)
theorem dX1_tripValue_65 : decode cX1_tripValue 65 = .ok (.invokespecial 63, 3) := dk_183 0 63 (dk_at dksX1_tripValue_3 5 rfl rfl)
theorem dX1_tripValue_68 : decode cX1_tripValue 68 = .ok (.athrow, 1) := dk_191 (dk_at dksX1_tripValue_3 8 rfl rfl)
abbrev cX1_tripAt : ByteArray := prog_1_method_13_code
def yX1_tripAt : MethodName := ⟨RX1, "tripAt", "(I)LTollLeader$Trip;"⟩
def dkwX1_tripAt_1 : List UInt8 := [192, 0, 145, 176]
abbrev dktX1_tripAt_1 : List UInt8 := dkwX1_tripAt_1 ++ []
def dkwX1_tripAt_0 : List UInt8 := [42, 27, 182, 0, 142, 184, 0, 132, 42, 180, 0, 19, 180, 0, 99, 180, 0, 125, 27, 185, 0, 136, 2, 0]
abbrev dktX1_tripAt_0 : List UInt8 := dkwX1_tripAt_0 ++ dktX1_tripAt_1
theorem dksX1_tripAt_0 : cX1_tripAt.data.toList.drop 0 = dktX1_tripAt_0 := by decide +kernel
theorem dksX1_tripAt_1 : cX1_tripAt.data.toList.drop 24 = dktX1_tripAt_1 := dk_seg dksX1_tripAt_0 24 rfl rfl
theorem dX1_tripAt_0 : decode cX1_tripAt 0 = .ok (.aload_n 0, 1) := dk_42 (dk_at dksX1_tripAt_0 0 rfl rfl)
theorem dX1_tripAt_1 : decode cX1_tripAt 1 = .ok (.iload_n 1, 1) := dk_27 (dk_at dksX1_tripAt_0 1 rfl rfl)
theorem dX1_tripAt_2 : decode cX1_tripAt 2 = .ok (.invokevirtual 142, 3) := dk_182 0 142 (dk_at dksX1_tripAt_0 2 rfl rfl)
theorem dX1_tripAt_5 : decode cX1_tripAt 5 = .ok (.invokestatic 132, 3) := dk_184 0 132 (dk_at dksX1_tripAt_0 5 rfl rfl)
theorem dX1_tripAt_8 : decode cX1_tripAt 8 = .ok (.aload_n 0, 1) := dk_42 (dk_at dksX1_tripAt_0 8 rfl rfl)
theorem dX1_tripAt_9 : decode cX1_tripAt 9 = .ok (.getfield 19, 3) := dk_180 0 19 (dk_at dksX1_tripAt_0 9 rfl rfl)
theorem dX1_tripAt_12 : decode cX1_tripAt 12 = .ok (.getfield 99, 3) := dk_180 0 99 (dk_at dksX1_tripAt_0 12 rfl rfl)
theorem dX1_tripAt_15 : decode cX1_tripAt 15 = .ok (.getfield 125, 3) := dk_180 0 125 (dk_at dksX1_tripAt_0 15 rfl rfl)
theorem dX1_tripAt_18 : decode cX1_tripAt 18 = .ok (.iload_n 1, 1) := dk_27 (dk_at dksX1_tripAt_0 18 rfl rfl)
theorem dX1_tripAt_19 : decode cX1_tripAt 19 = .ok (.invokeinterface 136 2, 5) := by decide +kernel
theorem dX1_tripAt_24 : decode cX1_tripAt 24 = .ok (.checkcast 145, 3) := dk_192 0 145 (dk_at dksX1_tripAt_1 0 rfl rfl)
theorem dX1_tripAt_27 : decode cX1_tripAt 27 = .ok (.areturn, 1) := dk_176 (dk_at dksX1_tripAt_1 3 rfl rfl)
abbrev cX1_isTrip : ByteArray := prog_1_method_11_code
def yX1_isTrip : MethodName := ⟨RX1, "isTrip", "(I)Z"⟩
def dkwX1_isTrip_1 : List UInt8 := [172]
abbrev dktX1_isTrip_1 : List UInt8 := dkwX1_isTrip_1 ++ []
def dkwX1_isTrip_0 : List UInt8 := [27, 133, 9, 42, 180, 0, 19, 180, 0, 99, 180, 0, 125, 185, 0, 107, 1, 0, 4, 100, 133, 184, 0, 121]
abbrev dktX1_isTrip_0 : List UInt8 := dkwX1_isTrip_0 ++ dktX1_isTrip_1
theorem dksX1_isTrip_0 : cX1_isTrip.data.toList.drop 0 = dktX1_isTrip_0 := by decide +kernel
theorem dksX1_isTrip_1 : cX1_isTrip.data.toList.drop 24 = dktX1_isTrip_1 := dk_seg dksX1_isTrip_0 24 rfl rfl
theorem dX1_isTrip_0 : decode cX1_isTrip 0 = .ok (.iload_n 1, 1) := dk_27 (dk_at dksX1_isTrip_0 0 rfl rfl)
theorem dX1_isTrip_1 : decode cX1_isTrip 1 = .ok (.i2l, 1) := dk_133 (dk_at dksX1_isTrip_0 1 rfl rfl)
theorem dX1_isTrip_2 : decode cX1_isTrip 2 = .ok (.lconst 0, 1) := dk_9 (dk_at dksX1_isTrip_0 2 rfl rfl)
theorem dX1_isTrip_3 : decode cX1_isTrip 3 = .ok (.aload_n 0, 1) := dk_42 (dk_at dksX1_isTrip_0 3 rfl rfl)
theorem dX1_isTrip_4 : decode cX1_isTrip 4 = .ok (.getfield 19, 3) := dk_180 0 19 (dk_at dksX1_isTrip_0 4 rfl rfl)
theorem dX1_isTrip_7 : decode cX1_isTrip 7 = .ok (.getfield 99, 3) := dk_180 0 99 (dk_at dksX1_isTrip_0 7 rfl rfl)
theorem dX1_isTrip_10 : decode cX1_isTrip 10 = .ok (.getfield 125, 3) := dk_180 0 125 (dk_at dksX1_isTrip_0 10 rfl rfl)
theorem dX1_isTrip_13 : decode cX1_isTrip 13 = .ok (.invokeinterface 107 1, 5) := by decide +kernel
theorem dX1_isTrip_18 : decode cX1_isTrip 18 = .ok (.iconst 1, 1) := dk_4 (dk_at dksX1_isTrip_0 18 rfl rfl)
theorem dX1_isTrip_19 : decode cX1_isTrip 19 = .ok (.isub, 1) := dk_100 (dk_at dksX1_isTrip_0 19 rfl rfl)
theorem dX1_isTrip_20 : decode cX1_isTrip 20 = .ok (.i2l, 1) := dk_133 (dk_at dksX1_isTrip_0 20 rfl rfl)
theorem dX1_isTrip_21 : decode cX1_isTrip 21 = .ok (.invokestatic 121, 3) := dk_184 0 121 (dk_at dksX1_isTrip_0 21 rfl rfl)
theorem dX1_isTrip_24 : decode cX1_isTrip 24 = .ok (.ireturn, 1) := dk_172 (dk_at dksX1_isTrip_1 0 rfl rfl)
abbrev cX1_setToll : ByteArray := prog_1_method_18_code
def yX1_setToll : MethodName := ⟨RX1, "setToll", "(II)I"⟩
def dkwX1_setToll_1 : List UInt8 := [180, 0, 19, 180, 0, 218, 27, 46, 62, 42, 180, 0, 19, 180, 0, 218, 27, 28, 79, 29, 172]
abbrev dktX1_setToll_1 : List UInt8 := dkwX1_setToll_1 ++ []
def dkwX1_setToll_0 : List UInt8 := [28, 133, 9, 42, 27, 182, 0, 178, 182, 0, 160, 133, 184, 0, 121, 184, 0, 212, 42, 182, 0, 215, 42]
abbrev dktX1_setToll_0 : List UInt8 := dkwX1_setToll_0 ++ dktX1_setToll_1
theorem dksX1_setToll_0 : cX1_setToll.data.toList.drop 0 = dktX1_setToll_0 := by decide +kernel
theorem dksX1_setToll_1 : cX1_setToll.data.toList.drop 23 = dktX1_setToll_1 := dk_seg dksX1_setToll_0 23 rfl rfl
theorem dX1_setToll_0 : decode cX1_setToll 0 = .ok (.iload_n 2, 1) := dk_28 (dk_at dksX1_setToll_0 0 rfl rfl)
theorem dX1_setToll_1 : decode cX1_setToll 1 = .ok (.i2l, 1) := dk_133 (dk_at dksX1_setToll_0 1 rfl rfl)
theorem dX1_setToll_2 : decode cX1_setToll 2 = .ok (.lconst 0, 1) := dk_9 (dk_at dksX1_setToll_0 2 rfl rfl)
theorem dX1_setToll_3 : decode cX1_setToll 3 = .ok (.aload_n 0, 1) := dk_42 (dk_at dksX1_setToll_0 3 rfl rfl)
theorem dX1_setToll_4 : decode cX1_setToll 4 = .ok (.iload_n 1, 1) := dk_27 (dk_at dksX1_setToll_0 4 rfl rfl)
theorem dX1_setToll_5 : decode cX1_setToll 5 = .ok (.invokevirtual 178, 3) := dk_182 0 178 (dk_at dksX1_setToll_0 5 rfl rfl)
theorem dX1_setToll_8 : decode cX1_setToll 8 = .ok (.invokevirtual 160, 3) := dk_182 0 160 (dk_at dksX1_setToll_0 8 rfl rfl)
theorem dX1_setToll_11 : decode cX1_setToll 11 = .ok (.i2l, 1) := dk_133 (dk_at dksX1_setToll_0 11 rfl rfl)
theorem dX1_setToll_12 : decode cX1_setToll 12 = .ok (.invokestatic 121, 3) := dk_184 0 121 (dk_at dksX1_setToll_0 12 rfl rfl)
theorem dX1_setToll_15 : decode cX1_setToll 15 = .ok (.invokestatic 212, 3) := dk_184 0 212 (dk_at dksX1_setToll_0 15 rfl rfl)
theorem dX1_setToll_18 : decode cX1_setToll 18 = .ok (.aload_n 0, 1) := dk_42 (dk_at dksX1_setToll_0 18 rfl rfl)
theorem dX1_setToll_19 : decode cX1_setToll 19 = .ok (.invokevirtual 215, 3) := dk_182 0 215 (dk_at dksX1_setToll_0 19 rfl rfl)
theorem dX1_setToll_22 : decode cX1_setToll 22 = .ok (.aload_n 0, 1) := dk_42 (dk_at dksX1_setToll_0 22 rfl rfl)
theorem dX1_setToll_23 : decode cX1_setToll 23 = .ok (.getfield 19, 3) := dk_180 0 19 (dk_at dksX1_setToll_1 0 rfl rfl)
theorem dX1_setToll_26 : decode cX1_setToll 26 = .ok (.getfield 218, 3) := dk_180 0 218 (dk_at dksX1_setToll_1 3 rfl rfl)
theorem dX1_setToll_29 : decode cX1_setToll 29 = .ok (.iload_n 1, 1) := dk_27 (dk_at dksX1_setToll_1 6 rfl rfl)
theorem dX1_setToll_30 : decode cX1_setToll 30 = .ok (.iaload, 1) := dk_46 (dk_at dksX1_setToll_1 7 rfl rfl)
theorem dX1_setToll_31 : decode cX1_setToll 31 = .ok (.istore_n 3, 1) := dk_62 (dk_at dksX1_setToll_1 8 rfl rfl)
theorem dX1_setToll_32 : decode cX1_setToll 32 = .ok (.aload_n 0, 1) := dk_42 (dk_at dksX1_setToll_1 9 rfl rfl)
theorem dX1_setToll_33 : decode cX1_setToll 33 = .ok (.getfield 19, 3) := dk_180 0 19 (dk_at dksX1_setToll_1 10 rfl rfl)
theorem dX1_setToll_36 : decode cX1_setToll 36 = .ok (.getfield 218, 3) := dk_180 0 218 (dk_at dksX1_setToll_1 13 rfl rfl)
theorem dX1_setToll_39 : decode cX1_setToll 39 = .ok (.iload_n 1, 1) := dk_27 (dk_at dksX1_setToll_1 16 rfl rfl)
theorem dX1_setToll_40 : decode cX1_setToll 40 = .ok (.iload_n 2, 1) := dk_28 (dk_at dksX1_setToll_1 17 rfl rfl)
theorem dX1_setToll_41 : decode cX1_setToll 41 = .ok (.iastore, 1) := dk_79 (dk_at dksX1_setToll_1 18 rfl rfl)
theorem dX1_setToll_42 : decode cX1_setToll 42 = .ok (.iload_n 3, 1) := dk_29 (dk_at dksX1_setToll_1 19 rfl rfl)
theorem dX1_setToll_43 : decode cX1_setToll 43 = .ok (.ireturn, 1) := dk_172 (dk_at dksX1_setToll_1 20 rfl rfl)
abbrev cX1_requireArgument : ByteArray := prog_1_method_4_code
def yX1_requireArgument : MethodName := ⟨RX1, "requireArgument", "(Z)V"⟩
def dkwX1_requireArgument_0 : List UInt8 := [26, 154, 0, 11, 187, 0, 61, 89, 183, 0, 63, 191, 177]
abbrev dktX1_requireArgument_0 : List UInt8 := dkwX1_requireArgument_0 ++ []
theorem dksX1_requireArgument_0 : cX1_requireArgument.data.toList.drop 0 = dktX1_requireArgument_0 := by decide +kernel
theorem dX1_requireArgument_0 : decode cX1_requireArgument 0 = .ok (.iload_n 0, 1) := dk_26 (dk_at dksX1_requireArgument_0 0 rfl rfl)
theorem dX1_requireArgument_1 : decode cX1_requireArgument 1 = .ok (.ifCond .ne 11, 3) := dk_154 0 11 (dk_at dksX1_requireArgument_0 1 rfl rfl)
theorem dX1_requireArgument_4 : decode cX1_requireArgument 4 = .ok (.new 61, 3) := dk_187 0 61 (dk_at dksX1_requireArgument_0 4 rfl rfl)
theorem dX1_requireArgument_7 : decode cX1_requireArgument 7 = .ok (.dup, 1) := dk_89 (dk_at dksX1_requireArgument_0 7 rfl rfl)
theorem dX1_requireArgument_8 : decode cX1_requireArgument 8 = .ok (.invokespecial 63, 3) := dk_183 0 63 (dk_at dksX1_requireArgument_0 8 rfl rfl)
theorem dX1_requireArgument_11 : decode cX1_requireArgument 11 = .ok (.athrow, 1) := dk_191 (dk_at dksX1_requireArgument_0 11 rfl rfl)
theorem dX1_requireArgument_12 : decode cX1_requireArgument 12 = .ok (.return_, 1) := dk_177 (dk_at dksX1_requireArgument_0 12 rfl rfl)
abbrev cX1_addTolls : ByteArray := prog_1_method_19_code
def yX1_addTolls : MethodName := ⟨RX1, "addTolls", "(I)I"⟩
def dkwX1_addTolls_5 : List UInt8 := [96, 61, 167, 255, 174, 28, 172]
abbrev dktX1_addTolls_5 : List UInt8 := dkwX1_addTolls_5 ++ []
def dkwX1_addTolls_4 : List UInt8 := [184, 0, 234, 79, 28, 42, 180, 0, 19, 25, 4, 182, 0, 191, 21, 5, 159, 0, 7, 4, 167, 0, 4, 3]
abbrev dktX1_addTolls_4 : List UInt8 := dkwX1_addTolls_4 ++ dktX1_addTolls_5
def dkwX1_addTolls_3 : List UInt8 := [180, 0, 19, 180, 0, 218, 25, 4, 182, 0, 225, 3, 25, 4, 182, 0, 160, 21, 5, 27, 96, 184, 0, 228]
abbrev dktX1_addTolls_3 : List UInt8 := dkwX1_addTolls_3 ++ dktX1_addTolls_4
def dkwX1_addTolls_2 : List UInt8 := [185, 0, 157, 1, 0, 192, 0, 140, 58, 4, 42, 180, 0, 19, 25, 4, 182, 0, 191, 54, 5, 42]
abbrev dktX1_addTolls_2 : List UInt8 := dkwX1_addTolls_2 ++ dktX1_addTolls_3
def dkwX1_addTolls_1 : List UInt8 := [180, 0, 99, 180, 0, 103, 185, 0, 147, 1, 0, 78, 45, 185, 0, 151, 1, 0, 153, 0, 79, 45]
abbrev dktX1_addTolls_1 : List UInt8 := dkwX1_addTolls_1 ++ dktX1_addTolls_2
def dkwX1_addTolls_0 : List UInt8 := [27, 133, 20, 0, 221, 20, 0, 223, 184, 0, 121, 184, 0, 212, 42, 182, 0, 215, 3, 61, 42, 180, 0, 19]
abbrev dktX1_addTolls_0 : List UInt8 := dkwX1_addTolls_0 ++ dktX1_addTolls_1
theorem dksX1_addTolls_0 : cX1_addTolls.data.toList.drop 0 = dktX1_addTolls_0 := by decide +kernel
theorem dksX1_addTolls_1 : cX1_addTolls.data.toList.drop 24 = dktX1_addTolls_1 := dk_seg dksX1_addTolls_0 24 rfl rfl
theorem dksX1_addTolls_2 : cX1_addTolls.data.toList.drop 46 = dktX1_addTolls_2 := dk_seg dksX1_addTolls_1 22 rfl rfl
theorem dksX1_addTolls_3 : cX1_addTolls.data.toList.drop 68 = dktX1_addTolls_3 := dk_seg dksX1_addTolls_2 22 rfl rfl
theorem dksX1_addTolls_4 : cX1_addTolls.data.toList.drop 92 = dktX1_addTolls_4 := dk_seg dksX1_addTolls_3 24 rfl rfl
theorem dksX1_addTolls_5 : cX1_addTolls.data.toList.drop 116 = dktX1_addTolls_5 := dk_seg dksX1_addTolls_4 24 rfl rfl
theorem dX1_addTolls_0 : decode cX1_addTolls 0 = .ok (.iload_n 1, 1) := dk_27 (dk_at dksX1_addTolls_0 0 rfl rfl)
theorem dX1_addTolls_1 : decode cX1_addTolls 1 = .ok (.i2l, 1) := dk_133 (dk_at dksX1_addTolls_0 1 rfl rfl)
theorem dX1_addTolls_2 : decode cX1_addTolls 2 = .ok (.ldc2_w 221, 3) := dk_20 0 221 (dk_at dksX1_addTolls_0 2 rfl rfl)
theorem dX1_addTolls_5 : decode cX1_addTolls 5 = .ok (.ldc2_w 223, 3) := dk_20 0 223 (dk_at dksX1_addTolls_0 5 rfl rfl)
theorem dX1_addTolls_8 : decode cX1_addTolls 8 = .ok (.invokestatic 121, 3) := dk_184 0 121 (dk_at dksX1_addTolls_0 8 rfl rfl)
theorem dX1_addTolls_11 : decode cX1_addTolls 11 = .ok (.invokestatic 212, 3) := dk_184 0 212 (dk_at dksX1_addTolls_0 11 rfl rfl)
theorem dX1_addTolls_14 : decode cX1_addTolls 14 = .ok (.aload_n 0, 1) := dk_42 (dk_at dksX1_addTolls_0 14 rfl rfl)
theorem dX1_addTolls_15 : decode cX1_addTolls 15 = .ok (.invokevirtual 215, 3) := dk_182 0 215 (dk_at dksX1_addTolls_0 15 rfl rfl)
theorem dX1_addTolls_18 : decode cX1_addTolls 18 = .ok (.iconst 0, 1) := dk_3 (dk_at dksX1_addTolls_0 18 rfl rfl)
theorem dX1_addTolls_19 : decode cX1_addTolls 19 = .ok (.istore_n 2, 1) := dk_61 (dk_at dksX1_addTolls_0 19 rfl rfl)
theorem dX1_addTolls_20 : decode cX1_addTolls 20 = .ok (.aload_n 0, 1) := dk_42 (dk_at dksX1_addTolls_0 20 rfl rfl)
theorem dX1_addTolls_21 : decode cX1_addTolls 21 = .ok (.getfield 19, 3) := dk_180 0 19 (dk_at dksX1_addTolls_0 21 rfl rfl)
theorem dX1_addTolls_24 : decode cX1_addTolls 24 = .ok (.getfield 99, 3) := dk_180 0 99 (dk_at dksX1_addTolls_1 0 rfl rfl)
theorem dX1_addTolls_27 : decode cX1_addTolls 27 = .ok (.getfield 103, 3) := dk_180 0 103 (dk_at dksX1_addTolls_1 3 rfl rfl)
theorem dX1_addTolls_30 : decode cX1_addTolls 30 = .ok (.invokeinterface 147 1, 5) := by decide +kernel
theorem dX1_addTolls_35 : decode cX1_addTolls 35 = .ok (.astore_n 3, 1) := dk_78 (dk_at dksX1_addTolls_1 11 rfl rfl)
theorem dX1_addTolls_36 : decode cX1_addTolls 36 = .ok (.aload_n 3, 1) := dk_45 (dk_at dksX1_addTolls_1 12 rfl rfl)
theorem dX1_addTolls_37 : decode cX1_addTolls 37 = .ok (.invokeinterface 151 1, 5) := by decide +kernel
theorem dX1_addTolls_42 : decode cX1_addTolls 42 = .ok (.ifCond .eq 79, 3) := dk_153 0 79 (dk_at dksX1_addTolls_1 18 rfl rfl)
theorem dX1_addTolls_45 : decode cX1_addTolls 45 = .ok (.aload_n 3, 1) := dk_45 (dk_at dksX1_addTolls_1 21 rfl rfl)
theorem dX1_addTolls_46 : decode cX1_addTolls 46 = .ok (.invokeinterface 157 1, 5) := by decide +kernel
theorem dX1_addTolls_51 : decode cX1_addTolls 51 = .ok (.checkcast 140, 3) := dk_192 0 140 (dk_at dksX1_addTolls_2 5 rfl rfl)
theorem dX1_addTolls_54 : decode cX1_addTolls 54 = .ok (.astore 4, 2) := dk_58 4 (dk_at dksX1_addTolls_2 8 rfl rfl)
theorem dX1_addTolls_56 : decode cX1_addTolls 56 = .ok (.aload_n 0, 1) := dk_42 (dk_at dksX1_addTolls_2 10 rfl rfl)
theorem dX1_addTolls_57 : decode cX1_addTolls 57 = .ok (.getfield 19, 3) := dk_180 0 19 (dk_at dksX1_addTolls_2 11 rfl rfl)
theorem dX1_addTolls_60 : decode cX1_addTolls 60 = .ok (.aload 4, 2) := dk_25 4 (dk_at dksX1_addTolls_2 14 rfl rfl)
theorem dX1_addTolls_62 : decode cX1_addTolls 62 = .ok (.invokevirtual 191, 3) := dk_182 0 191 (dk_at dksX1_addTolls_2 16 rfl rfl)
theorem dX1_addTolls_65 : decode cX1_addTolls 65 = .ok (.istore 5, 2) := dk_54 5 (dk_at dksX1_addTolls_2 19 rfl rfl)
theorem dX1_addTolls_67 : decode cX1_addTolls 67 = .ok (.aload_n 0, 1) := dk_42 (dk_at dksX1_addTolls_2 21 rfl rfl)
theorem dX1_addTolls_68 : decode cX1_addTolls 68 = .ok (.getfield 19, 3) := dk_180 0 19 (dk_at dksX1_addTolls_3 0 rfl rfl)
theorem dX1_addTolls_71 : decode cX1_addTolls 71 = .ok (.getfield 218, 3) := dk_180 0 218 (dk_at dksX1_addTolls_3 3 rfl rfl)
theorem dX1_addTolls_74 : decode cX1_addTolls 74 = .ok (.aload 4, 2) := dk_25 4 (dk_at dksX1_addTolls_3 6 rfl rfl)
theorem dX1_addTolls_76 : decode cX1_addTolls 76 = .ok (.invokevirtual 225, 3) := dk_182 0 225 (dk_at dksX1_addTolls_3 8 rfl rfl)
theorem dX1_addTolls_79 : decode cX1_addTolls 79 = .ok (.iconst 0, 1) := dk_3 (dk_at dksX1_addTolls_3 11 rfl rfl)
theorem dX1_addTolls_80 : decode cX1_addTolls 80 = .ok (.aload 4, 2) := dk_25 4 (dk_at dksX1_addTolls_3 12 rfl rfl)
theorem dX1_addTolls_82 : decode cX1_addTolls 82 = .ok (.invokevirtual 160, 3) := dk_182 0 160 (dk_at dksX1_addTolls_3 14 rfl rfl)
theorem dX1_addTolls_85 : decode cX1_addTolls 85 = .ok (.iload 5, 2) := dk_21 5 (dk_at dksX1_addTolls_3 17 rfl rfl)
theorem dX1_addTolls_87 : decode cX1_addTolls 87 = .ok (.iload_n 1, 1) := dk_27 (dk_at dksX1_addTolls_3 19 rfl rfl)
theorem dX1_addTolls_88 : decode cX1_addTolls 88 = .ok (.iadd, 1) := dk_96 (dk_at dksX1_addTolls_3 20 rfl rfl)
theorem dX1_addTolls_89 : decode cX1_addTolls 89 = .ok (.invokestatic 228, 3) := dk_184 0 228 (dk_at dksX1_addTolls_3 21 rfl rfl)
theorem dX1_addTolls_92 : decode cX1_addTolls 92 = .ok (.invokestatic 234, 3) := dk_184 0 234 (dk_at dksX1_addTolls_4 0 rfl rfl)
theorem dX1_addTolls_95 : decode cX1_addTolls 95 = .ok (.iastore, 1) := dk_79 (dk_at dksX1_addTolls_4 3 rfl rfl)
theorem dX1_addTolls_96 : decode cX1_addTolls 96 = .ok (.iload_n 2, 1) := dk_28 (dk_at dksX1_addTolls_4 4 rfl rfl)
theorem dX1_addTolls_97 : decode cX1_addTolls 97 = .ok (.aload_n 0, 1) := dk_42 (dk_at dksX1_addTolls_4 5 rfl rfl)
theorem dX1_addTolls_98 : decode cX1_addTolls 98 = .ok (.getfield 19, 3) := dk_180 0 19 (dk_at dksX1_addTolls_4 6 rfl rfl)
theorem dX1_addTolls_101 : decode cX1_addTolls 101 = .ok (.aload 4, 2) := dk_25 4 (dk_at dksX1_addTolls_4 9 rfl rfl)
theorem dX1_addTolls_103 : decode cX1_addTolls 103 = .ok (.invokevirtual 191, 3) := dk_182 0 191 (dk_at dksX1_addTolls_4 11 rfl rfl)
theorem dX1_addTolls_106 : decode cX1_addTolls 106 = .ok (.iload 5, 2) := dk_21 5 (dk_at dksX1_addTolls_4 14 rfl rfl)
theorem dX1_addTolls_108 : decode cX1_addTolls 108 = .ok (.if_icmp .eq 7, 3) := dk_159 0 7 (dk_at dksX1_addTolls_4 16 rfl rfl)
theorem dX1_addTolls_111 : decode cX1_addTolls 111 = .ok (.iconst 1, 1) := dk_4 (dk_at dksX1_addTolls_4 19 rfl rfl)
theorem dX1_addTolls_112 : decode cX1_addTolls 112 = .ok (.goto 4, 3) := dk_167 0 4 (dk_at dksX1_addTolls_4 20 rfl rfl)
theorem dX1_addTolls_115 : decode cX1_addTolls 115 = .ok (.iconst 0, 1) := dk_3 (dk_at dksX1_addTolls_4 23 rfl rfl)
theorem dX1_addTolls_116 : decode cX1_addTolls 116 = .ok (.iadd, 1) := dk_96 (dk_at dksX1_addTolls_5 0 rfl rfl)
theorem dX1_addTolls_117 : decode cX1_addTolls 117 = .ok (.istore_n 2, 1) := dk_61 (dk_at dksX1_addTolls_5 1 rfl rfl)
theorem dX1_addTolls_118 : decode cX1_addTolls 118 = .ok (.goto (-82), 3) := dk_167 255 174 (dk_at dksX1_addTolls_5 2 rfl rfl)
theorem dX1_addTolls_121 : decode cX1_addTolls 121 = .ok (.iload_n 2, 1) := dk_28 (dk_at dksX1_addTolls_5 5 rfl rfl)
theorem dX1_addTolls_122 : decode cX1_addTolls 122 = .ok (.ireturn, 1) := dk_172 (dk_at dksX1_addTolls_5 6 rfl rfl)
abbrev cX1_setDemand : ByteArray := prog_1_method_21_code
def yX1_setDemand : MethodName := ⟨RX1, "setDemand", "(II)I"⟩
def dkwX1_setDemand_1 : List UInt8 := [42, 180, 0, 19, 180, 0, 205, 27, 46, 62, 42, 180, 0, 19, 180, 0, 205, 27, 28, 79, 29, 172]
abbrev dktX1_setDemand_1 : List UInt8 := dkwX1_setDemand_1 ++ []
def dkwX1_setDemand_0 : List UInt8 := [42, 27, 182, 0, 142, 184, 0, 132, 28, 133, 9, 20, 0, 237, 184, 0, 121, 184, 0, 212, 42, 182, 0, 215]
abbrev dktX1_setDemand_0 : List UInt8 := dkwX1_setDemand_0 ++ dktX1_setDemand_1
theorem dksX1_setDemand_0 : cX1_setDemand.data.toList.drop 0 = dktX1_setDemand_0 := by decide +kernel
theorem dksX1_setDemand_1 : cX1_setDemand.data.toList.drop 24 = dktX1_setDemand_1 := dk_seg dksX1_setDemand_0 24 rfl rfl
theorem dX1_setDemand_0 : decode cX1_setDemand 0 = .ok (.aload_n 0, 1) := dk_42 (dk_at dksX1_setDemand_0 0 rfl rfl)
theorem dX1_setDemand_1 : decode cX1_setDemand 1 = .ok (.iload_n 1, 1) := dk_27 (dk_at dksX1_setDemand_0 1 rfl rfl)
theorem dX1_setDemand_2 : decode cX1_setDemand 2 = .ok (.invokevirtual 142, 3) := dk_182 0 142 (dk_at dksX1_setDemand_0 2 rfl rfl)
theorem dX1_setDemand_5 : decode cX1_setDemand 5 = .ok (.invokestatic 132, 3) := dk_184 0 132 (dk_at dksX1_setDemand_0 5 rfl rfl)
theorem dX1_setDemand_8 : decode cX1_setDemand 8 = .ok (.iload_n 2, 1) := dk_28 (dk_at dksX1_setDemand_0 8 rfl rfl)
theorem dX1_setDemand_9 : decode cX1_setDemand 9 = .ok (.i2l, 1) := dk_133 (dk_at dksX1_setDemand_0 9 rfl rfl)
theorem dX1_setDemand_10 : decode cX1_setDemand 10 = .ok (.lconst 0, 1) := dk_9 (dk_at dksX1_setDemand_0 10 rfl rfl)
theorem dX1_setDemand_11 : decode cX1_setDemand 11 = .ok (.ldc2_w 237, 3) := dk_20 0 237 (dk_at dksX1_setDemand_0 11 rfl rfl)
theorem dX1_setDemand_14 : decode cX1_setDemand 14 = .ok (.invokestatic 121, 3) := dk_184 0 121 (dk_at dksX1_setDemand_0 14 rfl rfl)
theorem dX1_setDemand_17 : decode cX1_setDemand 17 = .ok (.invokestatic 212, 3) := dk_184 0 212 (dk_at dksX1_setDemand_0 17 rfl rfl)
theorem dX1_setDemand_20 : decode cX1_setDemand 20 = .ok (.aload_n 0, 1) := dk_42 (dk_at dksX1_setDemand_0 20 rfl rfl)
theorem dX1_setDemand_21 : decode cX1_setDemand 21 = .ok (.invokevirtual 215, 3) := dk_182 0 215 (dk_at dksX1_setDemand_0 21 rfl rfl)
theorem dX1_setDemand_24 : decode cX1_setDemand 24 = .ok (.aload_n 0, 1) := dk_42 (dk_at dksX1_setDemand_1 0 rfl rfl)
theorem dX1_setDemand_25 : decode cX1_setDemand 25 = .ok (.getfield 19, 3) := dk_180 0 19 (dk_at dksX1_setDemand_1 1 rfl rfl)
theorem dX1_setDemand_28 : decode cX1_setDemand 28 = .ok (.getfield 205, 3) := dk_180 0 205 (dk_at dksX1_setDemand_1 4 rfl rfl)
theorem dX1_setDemand_31 : decode cX1_setDemand 31 = .ok (.iload_n 1, 1) := dk_27 (dk_at dksX1_setDemand_1 7 rfl rfl)
theorem dX1_setDemand_32 : decode cX1_setDemand 32 = .ok (.iaload, 1) := dk_46 (dk_at dksX1_setDemand_1 8 rfl rfl)
theorem dX1_setDemand_33 : decode cX1_setDemand 33 = .ok (.istore_n 3, 1) := dk_62 (dk_at dksX1_setDemand_1 9 rfl rfl)
theorem dX1_setDemand_34 : decode cX1_setDemand 34 = .ok (.aload_n 0, 1) := dk_42 (dk_at dksX1_setDemand_1 10 rfl rfl)
theorem dX1_setDemand_35 : decode cX1_setDemand 35 = .ok (.getfield 19, 3) := dk_180 0 19 (dk_at dksX1_setDemand_1 11 rfl rfl)
theorem dX1_setDemand_38 : decode cX1_setDemand 38 = .ok (.getfield 205, 3) := dk_180 0 205 (dk_at dksX1_setDemand_1 14 rfl rfl)
theorem dX1_setDemand_41 : decode cX1_setDemand 41 = .ok (.iload_n 1, 1) := dk_27 (dk_at dksX1_setDemand_1 17 rfl rfl)
theorem dX1_setDemand_42 : decode cX1_setDemand 42 = .ok (.iload_n 2, 1) := dk_28 (dk_at dksX1_setDemand_1 18 rfl rfl)
theorem dX1_setDemand_43 : decode cX1_setDemand 43 = .ok (.iastore, 1) := dk_79 (dk_at dksX1_setDemand_1 19 rfl rfl)
theorem dX1_setDemand_44 : decode cX1_setDemand 44 = .ok (.iload_n 3, 1) := dk_29 (dk_at dksX1_setDemand_1 20 rfl rfl)
theorem dX1_setDemand_45 : decode cX1_setDemand 45 = .ok (.ireturn, 1) := dk_172 (dk_at dksX1_setDemand_1 21 rfl rfl)
abbrev cX1_close : ByteArray := prog_1_method_22_code
def yX1_close : MethodName := ⟨RX1, "close", "(IZ)Z"⟩
def dkwX1_close_1 : List UInt8 := [42, 180, 0, 19, 180, 0, 169, 27, 28, 182, 0, 241, 29, 172]
abbrev dktX1_close_1 : List UInt8 := dkwX1_close_1 ++ []
def dkwX1_close_0 : List UInt8 := [42, 27, 182, 0, 128, 184, 0, 132, 42, 182, 0, 215, 42, 180, 0, 19, 180, 0, 169, 27, 182, 0, 239, 62]
abbrev dktX1_close_0 : List UInt8 := dkwX1_close_0 ++ dktX1_close_1
theorem dksX1_close_0 : cX1_close.data.toList.drop 0 = dktX1_close_0 := by decide +kernel
theorem dksX1_close_1 : cX1_close.data.toList.drop 24 = dktX1_close_1 := dk_seg dksX1_close_0 24 rfl rfl
theorem dX1_close_0 : decode cX1_close 0 = .ok (.aload_n 0, 1) := dk_42 (dk_at dksX1_close_0 0 rfl rfl)
theorem dX1_close_1 : decode cX1_close 1 = .ok (.iload_n 1, 1) := dk_27 (dk_at dksX1_close_0 1 rfl rfl)
theorem dX1_close_2 : decode cX1_close 2 = .ok (.invokevirtual 128, 3) := dk_182 0 128 (dk_at dksX1_close_0 2 rfl rfl)
theorem dX1_close_5 : decode cX1_close 5 = .ok (.invokestatic 132, 3) := dk_184 0 132 (dk_at dksX1_close_0 5 rfl rfl)
theorem dX1_close_8 : decode cX1_close 8 = .ok (.aload_n 0, 1) := dk_42 (dk_at dksX1_close_0 8 rfl rfl)
theorem dX1_close_9 : decode cX1_close 9 = .ok (.invokevirtual 215, 3) := dk_182 0 215 (dk_at dksX1_close_0 9 rfl rfl)
theorem dX1_close_12 : decode cX1_close 12 = .ok (.aload_n 0, 1) := dk_42 (dk_at dksX1_close_0 12 rfl rfl)
theorem dX1_close_13 : decode cX1_close 13 = .ok (.getfield 19, 3) := dk_180 0 19 (dk_at dksX1_close_0 13 rfl rfl)
theorem dX1_close_16 : decode cX1_close 16 = .ok (.getfield 169, 3) := dk_180 0 169 (dk_at dksX1_close_0 16 rfl rfl)
theorem dX1_close_19 : decode cX1_close 19 = .ok (.iload_n 1, 1) := dk_27 (dk_at dksX1_close_0 19 rfl rfl)
theorem dX1_close_20 : decode cX1_close 20 = .ok (.invokevirtual 239, 3) := dk_182 0 239 (dk_at dksX1_close_0 20 rfl rfl)
theorem dX1_close_23 : decode cX1_close 23 = .ok (.istore_n 3, 1) := dk_62 (dk_at dksX1_close_0 23 rfl rfl)
theorem dX1_close_24 : decode cX1_close 24 = .ok (.aload_n 0, 1) := dk_42 (dk_at dksX1_close_1 0 rfl rfl)
theorem dX1_close_25 : decode cX1_close 25 = .ok (.getfield 19, 3) := dk_180 0 19 (dk_at dksX1_close_1 1 rfl rfl)
theorem dX1_close_28 : decode cX1_close 28 = .ok (.getfield 169, 3) := dk_180 0 169 (dk_at dksX1_close_1 4 rfl rfl)
theorem dX1_close_31 : decode cX1_close 31 = .ok (.iload_n 1, 1) := dk_27 (dk_at dksX1_close_1 7 rfl rfl)
theorem dX1_close_32 : decode cX1_close 32 = .ok (.iload_n 2, 1) := dk_28 (dk_at dksX1_close_1 8 rfl rfl)
theorem dX1_close_33 : decode cX1_close 33 = .ok (.invokevirtual 241, 3) := dk_182 0 241 (dk_at dksX1_close_1 9 rfl rfl)
theorem dX1_close_36 : decode cX1_close 36 = .ok (.iload_n 3, 1) := dk_29 (dk_at dksX1_close_1 12 rfl rfl)
theorem dX1_close_37 : decode cX1_close 37 = .ok (.ireturn, 1) := dk_172 (dk_at dksX1_close_1 13 rfl rfl)
abbrev cX1_hasPath : ByteArray := prog_1_method_28_code
def yX1_hasPath : MethodName := ⟨RX1, "hasPath", "(I)Z"⟩
def dkwX1_hasPath_0 : List UInt8 := [42, 180, 0, 28, 42, 180, 0, 19, 42, 27, 182, 0, 199, 182, 0, 255, 172]
abbrev dktX1_hasPath_0 : List UInt8 := dkwX1_hasPath_0 ++ []
theorem dksX1_hasPath_0 : cX1_hasPath.data.toList.drop 0 = dktX1_hasPath_0 := by decide +kernel
theorem dX1_hasPath_0 : decode cX1_hasPath 0 = .ok (.aload_n 0, 1) := dk_42 (dk_at dksX1_hasPath_0 0 rfl rfl)
theorem dX1_hasPath_1 : decode cX1_hasPath 1 = .ok (.getfield 28, 3) := dk_180 0 28 (dk_at dksX1_hasPath_0 1 rfl rfl)
theorem dX1_hasPath_4 : decode cX1_hasPath 4 = .ok (.aload_n 0, 1) := dk_42 (dk_at dksX1_hasPath_0 4 rfl rfl)
theorem dX1_hasPath_5 : decode cX1_hasPath 5 = .ok (.getfield 19, 3) := dk_180 0 19 (dk_at dksX1_hasPath_0 5 rfl rfl)
theorem dX1_hasPath_8 : decode cX1_hasPath 8 = .ok (.aload_n 0, 1) := dk_42 (dk_at dksX1_hasPath_0 8 rfl rfl)
theorem dX1_hasPath_9 : decode cX1_hasPath 9 = .ok (.iload_n 1, 1) := dk_27 (dk_at dksX1_hasPath_0 9 rfl rfl)
theorem dX1_hasPath_10 : decode cX1_hasPath 10 = .ok (.invokevirtual 199, 3) := dk_182 0 199 (dk_at dksX1_hasPath_0 10 rfl rfl)
theorem dX1_hasPath_13 : decode cX1_hasPath 13 = .ok (.invokevirtual 255, 3) := dk_182 0 255 (dk_at dksX1_hasPath_0 13 rfl rfl)
theorem dX1_hasPath_16 : decode cX1_hasPath 16 = .ok (.ireturn, 1) := dk_172 (dk_at dksX1_hasPath_0 16 rfl rfl)
abbrev cX1_pathLength : ByteArray := prog_1_method_29_code
def yX1_pathLength : MethodName := ⟨RX1, "pathLength", "(I)I"⟩
def dkwX1_pathLength_0 : List UInt8 := [42, 27, 182, 1, 13, 77, 44, 199, 0, 7, 2, 167, 0, 7, 44, 182, 1, 17, 172]
abbrev dktX1_pathLength_0 : List UInt8 := dkwX1_pathLength_0 ++ []
theorem dksX1_pathLength_0 : cX1_pathLength.data.toList.drop 0 = dktX1_pathLength_0 := by decide +kernel
theorem dX1_pathLength_0 : decode cX1_pathLength 0 = .ok (.aload_n 0, 1) := dk_42 (dk_at dksX1_pathLength_0 0 rfl rfl)
theorem dX1_pathLength_1 : decode cX1_pathLength 1 = .ok (.iload_n 1, 1) := dk_27 (dk_at dksX1_pathLength_0 1 rfl rfl)
theorem dX1_pathLength_2 : decode cX1_pathLength 2 = .ok (.invokevirtual 269, 3) := dk_182 1 13 (dk_at dksX1_pathLength_0 2 rfl rfl)
theorem dX1_pathLength_5 : decode cX1_pathLength 5 = .ok (.astore_n 2, 1) := dk_77 (dk_at dksX1_pathLength_0 5 rfl rfl)
theorem dX1_pathLength_6 : decode cX1_pathLength 6 = .ok (.aload_n 2, 1) := dk_44 (dk_at dksX1_pathLength_0 6 rfl rfl)
theorem dX1_pathLength_7 : decode cX1_pathLength 7 = .ok (.ifnonnull 7, 3) := dk_199 0 7 (dk_at dksX1_pathLength_0 7 rfl rfl)
theorem dX1_pathLength_10 : decode cX1_pathLength 10 = .ok (.iconst (-1), 1) := dk_2 (dk_at dksX1_pathLength_0 10 rfl rfl)
theorem dX1_pathLength_11 : decode cX1_pathLength 11 = .ok (.goto 7, 3) := dk_167 0 7 (dk_at dksX1_pathLength_0 11 rfl rfl)
theorem dX1_pathLength_14 : decode cX1_pathLength 14 = .ok (.aload_n 2, 1) := dk_44 (dk_at dksX1_pathLength_0 14 rfl rfl)
theorem dX1_pathLength_15 : decode cX1_pathLength 15 = .ok (.invokevirtual 273, 3) := dk_182 1 17 (dk_at dksX1_pathLength_0 15 rfl rfl)
theorem dX1_pathLength_18 : decode cX1_pathLength 18 = .ok (.ireturn, 1) := dk_172 (dk_at dksX1_pathLength_0 18 rfl rfl)
abbrev cX1_pathOf : ByteArray := prog_1_method_27_code
def yX1_pathOf : MethodName := ⟨RX1, "pathOf", "(I)Ljava/util/LinkedList;"⟩
def dkwX1_pathOf_3 : List UInt8 := [182, 1, 10, 132, 3, 255, 167, 255, 218, 44, 176]
abbrev dktX1_pathOf_3 : List UInt8 := dkwX1_pathOf_3 ++ []
def dkwX1_pathOf_2 : List UInt8 := [180, 0, 99, 180, 0, 103, 42, 180, 0, 28, 180, 1, 7, 29, 46, 185, 0, 136, 2, 0, 192, 0, 140]
abbrev dktX1_pathOf_2 : List UInt8 := dkwX1_pathOf_2 ++ dktX1_pathOf_3
def dkwX1_pathOf_1 : List UInt8 := [89, 183, 1, 5, 77, 42, 180, 0, 28, 180, 1, 6, 4, 100, 62, 29, 155, 0, 40, 44, 42, 180, 0, 19]
abbrev dktX1_pathOf_1 : List UInt8 := dkwX1_pathOf_1 ++ dktX1_pathOf_2
def dkwX1_pathOf_0 : List UInt8 := [42, 180, 0, 28, 42, 180, 0, 19, 42, 27, 182, 0, 199, 182, 0, 255, 154, 0, 5, 1, 176, 187, 1, 3]
abbrev dktX1_pathOf_0 : List UInt8 := dkwX1_pathOf_0 ++ dktX1_pathOf_1
theorem dksX1_pathOf_0 : cX1_pathOf.data.toList.drop 0 = dktX1_pathOf_0 := by decide +kernel
theorem dksX1_pathOf_1 : cX1_pathOf.data.toList.drop 24 = dktX1_pathOf_1 := dk_seg dksX1_pathOf_0 24 rfl rfl
theorem dksX1_pathOf_2 : cX1_pathOf.data.toList.drop 48 = dktX1_pathOf_2 := dk_seg dksX1_pathOf_1 24 rfl rfl
theorem dksX1_pathOf_3 : cX1_pathOf.data.toList.drop 71 = dktX1_pathOf_3 := dk_seg dksX1_pathOf_2 23 rfl rfl
theorem dX1_pathOf_0 : decode cX1_pathOf 0 = .ok (.aload_n 0, 1) := dk_42 (dk_at dksX1_pathOf_0 0 rfl rfl)
theorem dX1_pathOf_1 : decode cX1_pathOf 1 = .ok (.getfield 28, 3) := dk_180 0 28 (dk_at dksX1_pathOf_0 1 rfl rfl)
theorem dX1_pathOf_4 : decode cX1_pathOf 4 = .ok (.aload_n 0, 1) := dk_42 (dk_at dksX1_pathOf_0 4 rfl rfl)
theorem dX1_pathOf_5 : decode cX1_pathOf 5 = .ok (.getfield 19, 3) := dk_180 0 19 (dk_at dksX1_pathOf_0 5 rfl rfl)
theorem dX1_pathOf_8 : decode cX1_pathOf 8 = .ok (.aload_n 0, 1) := dk_42 (dk_at dksX1_pathOf_0 8 rfl rfl)
theorem dX1_pathOf_9 : decode cX1_pathOf 9 = .ok (.iload_n 1, 1) := dk_27 (dk_at dksX1_pathOf_0 9 rfl rfl)
theorem dX1_pathOf_10 : decode cX1_pathOf 10 = .ok (.invokevirtual 199, 3) := dk_182 0 199 (dk_at dksX1_pathOf_0 10 rfl rfl)
theorem dX1_pathOf_13 : decode cX1_pathOf 13 = .ok (.invokevirtual 255, 3) := dk_182 0 255 (dk_at dksX1_pathOf_0 13 rfl rfl)
theorem dX1_pathOf_16 : decode cX1_pathOf 16 = .ok (.ifCond .ne 5, 3) := dk_154 0 5 (dk_at dksX1_pathOf_0 16 rfl rfl)
theorem dX1_pathOf_19 : decode cX1_pathOf 19 = .ok (.aconst_null, 1) := dk_1 (dk_at dksX1_pathOf_0 19 rfl rfl)
theorem dX1_pathOf_20 : decode cX1_pathOf 20 = .ok (.areturn, 1) := dk_176 (dk_at dksX1_pathOf_0 20 rfl rfl)
theorem dX1_pathOf_21 : decode cX1_pathOf 21 = .ok (.new 259, 3) := dk_187 1 3 (dk_at dksX1_pathOf_0 21 rfl rfl)
theorem dX1_pathOf_24 : decode cX1_pathOf 24 = .ok (.dup, 1) := dk_89 (dk_at dksX1_pathOf_1 0 rfl rfl)
theorem dX1_pathOf_25 : decode cX1_pathOf 25 = .ok (.invokespecial 261, 3) := dk_183 1 5 (dk_at dksX1_pathOf_1 1 rfl rfl)
theorem dX1_pathOf_28 : decode cX1_pathOf 28 = .ok (.astore_n 2, 1) := dk_77 (dk_at dksX1_pathOf_1 4 rfl rfl)
theorem dX1_pathOf_29 : decode cX1_pathOf 29 = .ok (.aload_n 0, 1) := dk_42 (dk_at dksX1_pathOf_1 5 rfl rfl)
theorem dX1_pathOf_30 : decode cX1_pathOf 30 = .ok (.getfield 28, 3) := dk_180 0 28 (dk_at dksX1_pathOf_1 6 rfl rfl)
theorem dX1_pathOf_33 : decode cX1_pathOf 33 = .ok (.getfield 262, 3) := dk_180 1 6 (dk_at dksX1_pathOf_1 9 rfl rfl)
theorem dX1_pathOf_36 : decode cX1_pathOf 36 = .ok (.iconst 1, 1) := dk_4 (dk_at dksX1_pathOf_1 12 rfl rfl)
theorem dX1_pathOf_37 : decode cX1_pathOf 37 = .ok (.isub, 1) := dk_100 (dk_at dksX1_pathOf_1 13 rfl rfl)
theorem dX1_pathOf_38 : decode cX1_pathOf 38 = .ok (.istore_n 3, 1) := dk_62 (dk_at dksX1_pathOf_1 14 rfl rfl)
theorem dX1_pathOf_39 : decode cX1_pathOf 39 = .ok (.iload_n 3, 1) := dk_29 (dk_at dksX1_pathOf_1 15 rfl rfl)
theorem dX1_pathOf_40 : decode cX1_pathOf 40 = .ok (.ifCond .lt 40, 3) := dk_155 0 40 (dk_at dksX1_pathOf_1 16 rfl rfl)
theorem dX1_pathOf_43 : decode cX1_pathOf 43 = .ok (.aload_n 2, 1) := dk_44 (dk_at dksX1_pathOf_1 19 rfl rfl)
theorem dX1_pathOf_44 : decode cX1_pathOf 44 = .ok (.aload_n 0, 1) := dk_42 (dk_at dksX1_pathOf_1 20 rfl rfl)
theorem dX1_pathOf_45 : decode cX1_pathOf 45 = .ok (.getfield 19, 3) := dk_180 0 19 (dk_at dksX1_pathOf_1 21 rfl rfl)
theorem dX1_pathOf_48 : decode cX1_pathOf 48 = .ok (.getfield 99, 3) := dk_180 0 99 (dk_at dksX1_pathOf_2 0 rfl rfl)
theorem dX1_pathOf_51 : decode cX1_pathOf 51 = .ok (.getfield 103, 3) := dk_180 0 103 (dk_at dksX1_pathOf_2 3 rfl rfl)
theorem dX1_pathOf_54 : decode cX1_pathOf 54 = .ok (.aload_n 0, 1) := dk_42 (dk_at dksX1_pathOf_2 6 rfl rfl)
theorem dX1_pathOf_55 : decode cX1_pathOf 55 = .ok (.getfield 28, 3) := dk_180 0 28 (dk_at dksX1_pathOf_2 7 rfl rfl)
theorem dX1_pathOf_58 : decode cX1_pathOf 58 = .ok (.getfield 263, 3) := dk_180 1 7 (dk_at dksX1_pathOf_2 10 rfl rfl)
theorem dX1_pathOf_61 : decode cX1_pathOf 61 = .ok (.iload_n 3, 1) := dk_29 (dk_at dksX1_pathOf_2 13 rfl rfl)
theorem dX1_pathOf_62 : decode cX1_pathOf 62 = .ok (.iaload, 1) := dk_46 (dk_at dksX1_pathOf_2 14 rfl rfl)
theorem dX1_pathOf_63 : decode cX1_pathOf 63 = .ok (.invokeinterface 136 2, 5) := by decide +kernel
theorem dX1_pathOf_68 : decode cX1_pathOf 68 = .ok (.checkcast 140, 3) := dk_192 0 140 (dk_at dksX1_pathOf_2 20 rfl rfl)
theorem dX1_pathOf_71 : decode cX1_pathOf 71 = .ok (.invokevirtual 266, 3) := dk_182 1 10 (dk_at dksX1_pathOf_3 0 rfl rfl)
theorem dX1_pathOf_74 : decode cX1_pathOf 74 = .ok (.iinc 3 (-1), 3) := dk_132 3 255 (dk_at dksX1_pathOf_3 3 rfl rfl)
theorem dX1_pathOf_77 : decode cX1_pathOf 77 = .ok (.goto (-38), 3) := dk_167 255 218 (dk_at dksX1_pathOf_3 6 rfl rfl)
theorem dX1_pathOf_80 : decode cX1_pathOf 80 = .ok (.aload_n 2, 1) := dk_44 (dk_at dksX1_pathOf_3 9 rfl rfl)
theorem dX1_pathOf_81 : decode cX1_pathOf 81 = .ok (.areturn, 1) := dk_176 (dk_at dksX1_pathOf_3 10 rfl rfl)
abbrev cX1_pathArc : ByteArray := prog_1_method_30_code
def yX1_pathArc : MethodName := ⟨RX1, "pathArc", "(II)I"⟩
def dkwX1_pathArc_1 : List UInt8 := [154, 0, 7, 2, 167, 0, 14, 45, 28, 182, 1, 18, 192, 0, 140, 182, 0, 225, 172]
abbrev dktX1_pathArc_1 : List UInt8 := dkwX1_pathArc_1 ++ []
def dkwX1_pathArc_0 : List UInt8 := [42, 27, 182, 1, 13, 78, 45, 198, 0, 19, 28, 133, 9, 45, 182, 1, 17, 4, 100, 133, 184, 0, 121]
abbrev dktX1_pathArc_0 : List UInt8 := dkwX1_pathArc_0 ++ dktX1_pathArc_1
theorem dksX1_pathArc_0 : cX1_pathArc.data.toList.drop 0 = dktX1_pathArc_0 := by decide +kernel
theorem dksX1_pathArc_1 : cX1_pathArc.data.toList.drop 23 = dktX1_pathArc_1 := dk_seg dksX1_pathArc_0 23 rfl rfl
theorem dX1_pathArc_0 : decode cX1_pathArc 0 = .ok (.aload_n 0, 1) := dk_42 (dk_at dksX1_pathArc_0 0 rfl rfl)
theorem dX1_pathArc_1 : decode cX1_pathArc 1 = .ok (.iload_n 1, 1) := dk_27 (dk_at dksX1_pathArc_0 1 rfl rfl)
theorem dX1_pathArc_2 : decode cX1_pathArc 2 = .ok (.invokevirtual 269, 3) := dk_182 1 13 (dk_at dksX1_pathArc_0 2 rfl rfl)
theorem dX1_pathArc_5 : decode cX1_pathArc 5 = .ok (.astore_n 3, 1) := dk_78 (dk_at dksX1_pathArc_0 5 rfl rfl)
theorem dX1_pathArc_6 : decode cX1_pathArc 6 = .ok (.aload_n 3, 1) := dk_45 (dk_at dksX1_pathArc_0 6 rfl rfl)
theorem dX1_pathArc_7 : decode cX1_pathArc 7 = .ok (.ifnull 19, 3) := dk_198 0 19 (dk_at dksX1_pathArc_0 7 rfl rfl)
theorem dX1_pathArc_10 : decode cX1_pathArc 10 = .ok (.iload_n 2, 1) := dk_28 (dk_at dksX1_pathArc_0 10 rfl rfl)
theorem dX1_pathArc_11 : decode cX1_pathArc 11 = .ok (.i2l, 1) := dk_133 (dk_at dksX1_pathArc_0 11 rfl rfl)
theorem dX1_pathArc_12 : decode cX1_pathArc 12 = .ok (.lconst 0, 1) := dk_9 (dk_at dksX1_pathArc_0 12 rfl rfl)
theorem dX1_pathArc_13 : decode cX1_pathArc 13 = .ok (.aload_n 3, 1) := dk_45 (dk_at dksX1_pathArc_0 13 rfl rfl)
theorem dX1_pathArc_14 : decode cX1_pathArc 14 = .ok (.invokevirtual 273, 3) := dk_182 1 17 (dk_at dksX1_pathArc_0 14 rfl rfl)
theorem dX1_pathArc_17 : decode cX1_pathArc 17 = .ok (.iconst 1, 1) := dk_4 (dk_at dksX1_pathArc_0 17 rfl rfl)
theorem dX1_pathArc_18 : decode cX1_pathArc 18 = .ok (.isub, 1) := dk_100 (dk_at dksX1_pathArc_0 18 rfl rfl)
theorem dX1_pathArc_19 : decode cX1_pathArc 19 = .ok (.i2l, 1) := dk_133 (dk_at dksX1_pathArc_0 19 rfl rfl)
theorem dX1_pathArc_20 : decode cX1_pathArc 20 = .ok (.invokestatic 121, 3) := dk_184 0 121 (dk_at dksX1_pathArc_0 20 rfl rfl)
theorem dX1_pathArc_23 : decode cX1_pathArc 23 = .ok (.ifCond .ne 7, 3) := dk_154 0 7 (dk_at dksX1_pathArc_1 0 rfl rfl)
theorem dX1_pathArc_26 : decode cX1_pathArc 26 = .ok (.iconst (-1), 1) := dk_2 (dk_at dksX1_pathArc_1 3 rfl rfl)
theorem dX1_pathArc_27 : decode cX1_pathArc 27 = .ok (.goto 14, 3) := dk_167 0 14 (dk_at dksX1_pathArc_1 4 rfl rfl)
theorem dX1_pathArc_30 : decode cX1_pathArc 30 = .ok (.aload_n 3, 1) := dk_45 (dk_at dksX1_pathArc_1 7 rfl rfl)
theorem dX1_pathArc_31 : decode cX1_pathArc 31 = .ok (.iload_n 2, 1) := dk_28 (dk_at dksX1_pathArc_1 8 rfl rfl)
theorem dX1_pathArc_32 : decode cX1_pathArc 32 = .ok (.invokevirtual 274, 3) := dk_182 1 18 (dk_at dksX1_pathArc_1 9 rfl rfl)
theorem dX1_pathArc_35 : decode cX1_pathArc 35 = .ok (.checkcast 140, 3) := dk_192 0 140 (dk_at dksX1_pathArc_1 12 rfl rfl)
theorem dX1_pathArc_38 : decode cX1_pathArc 38 = .ok (.invokevirtual 225, 3) := dk_182 0 225 (dk_at dksX1_pathArc_1 15 rfl rfl)
theorem dX1_pathArc_41 : decode cX1_pathArc 41 = .ok (.ireturn, 1) := dk_172 (dk_at dksX1_pathArc_1 18 rfl rfl)
abbrev cX1_pathCost : ByteArray := prog_1_method_31_code
def yX1_pathCost : MethodName := ⟨RX1, "pathCost", "(I)I"⟩
def dkwX1_pathCost_1 : List UInt8 := [180, 0, 19, 182, 1, 19, 167, 0, 4, 2, 172]
abbrev dktX1_pathCost_1 : List UInt8 := dkwX1_pathCost_1 ++ []
def dkwX1_pathCost_0 : List UInt8 := [42, 180, 0, 28, 42, 180, 0, 19, 42, 27, 182, 0, 199, 182, 0, 255, 153, 0, 17, 42, 180, 0, 28, 42]
abbrev dktX1_pathCost_0 : List UInt8 := dkwX1_pathCost_0 ++ dktX1_pathCost_1
theorem dksX1_pathCost_0 : cX1_pathCost.data.toList.drop 0 = dktX1_pathCost_0 := by decide +kernel
theorem dksX1_pathCost_1 : cX1_pathCost.data.toList.drop 24 = dktX1_pathCost_1 := dk_seg dksX1_pathCost_0 24 rfl rfl
theorem dX1_pathCost_0 : decode cX1_pathCost 0 = .ok (.aload_n 0, 1) := dk_42 (dk_at dksX1_pathCost_0 0 rfl rfl)
theorem dX1_pathCost_1 : decode cX1_pathCost 1 = .ok (.getfield 28, 3) := dk_180 0 28 (dk_at dksX1_pathCost_0 1 rfl rfl)
theorem dX1_pathCost_4 : decode cX1_pathCost 4 = .ok (.aload_n 0, 1) := dk_42 (dk_at dksX1_pathCost_0 4 rfl rfl)
theorem dX1_pathCost_5 : decode cX1_pathCost 5 = .ok (.getfield 19, 3) := dk_180 0 19 (dk_at dksX1_pathCost_0 5 rfl rfl)
theorem dX1_pathCost_8 : decode cX1_pathCost 8 = .ok (.aload_n 0, 1) := dk_42 (dk_at dksX1_pathCost_0 8 rfl rfl)
theorem dX1_pathCost_9 : decode cX1_pathCost 9 = .ok (.iload_n 1, 1) := dk_27 (dk_at dksX1_pathCost_0 9 rfl rfl)
theorem dX1_pathCost_10 : decode cX1_pathCost 10 = .ok (.invokevirtual 199, 3) := dk_182 0 199 (dk_at dksX1_pathCost_0 10 rfl rfl)
theorem dX1_pathCost_13 : decode cX1_pathCost 13 = .ok (.invokevirtual 255, 3) := dk_182 0 255 (dk_at dksX1_pathCost_0 13 rfl rfl)
theorem dX1_pathCost_16 : decode cX1_pathCost 16 = .ok (.ifCond .eq 17, 3) := dk_153 0 17 (dk_at dksX1_pathCost_0 16 rfl rfl)
theorem dX1_pathCost_19 : decode cX1_pathCost 19 = .ok (.aload_n 0, 1) := dk_42 (dk_at dksX1_pathCost_0 19 rfl rfl)
theorem dX1_pathCost_20 : decode cX1_pathCost 20 = .ok (.getfield 28, 3) := dk_180 0 28 (dk_at dksX1_pathCost_0 20 rfl rfl)
theorem dX1_pathCost_23 : decode cX1_pathCost 23 = .ok (.aload_n 0, 1) := dk_42 (dk_at dksX1_pathCost_0 23 rfl rfl)
theorem dX1_pathCost_24 : decode cX1_pathCost 24 = .ok (.getfield 19, 3) := dk_180 0 19 (dk_at dksX1_pathCost_1 0 rfl rfl)
theorem dX1_pathCost_27 : decode cX1_pathCost 27 = .ok (.invokevirtual 275, 3) := dk_182 1 19 (dk_at dksX1_pathCost_1 3 rfl rfl)
theorem dX1_pathCost_30 : decode cX1_pathCost 30 = .ok (.goto 4, 3) := dk_167 0 4 (dk_at dksX1_pathCost_1 6 rfl rfl)
theorem dX1_pathCost_33 : decode cX1_pathCost 33 = .ok (.iconst (-1), 1) := dk_2 (dk_at dksX1_pathCost_1 9 rfl rfl)
theorem dX1_pathCost_34 : decode cX1_pathCost 34 = .ok (.ireturn, 1) := dk_172 (dk_at dksX1_pathCost_1 10 rfl rfl)
abbrev cX1_pathToll : ByteArray := prog_1_method_32_code
def yX1_pathToll : MethodName := ⟨RX1, "pathToll", "(I)I"⟩
def dkwX1_pathToll_1 : List UInt8 := [180, 0, 19, 182, 1, 23, 167, 0, 4, 2, 172]
abbrev dktX1_pathToll_1 : List UInt8 := dkwX1_pathToll_1 ++ []
def dkwX1_pathToll_0 : List UInt8 := [42, 180, 0, 28, 42, 180, 0, 19, 42, 27, 182, 0, 199, 182, 0, 255, 153, 0, 17, 42, 180, 0, 28, 42]
abbrev dktX1_pathToll_0 : List UInt8 := dkwX1_pathToll_0 ++ dktX1_pathToll_1
theorem dksX1_pathToll_0 : cX1_pathToll.data.toList.drop 0 = dktX1_pathToll_0 := by decide +kernel
theorem dksX1_pathToll_1 : cX1_pathToll.data.toList.drop 24 = dktX1_pathToll_1 := dk_seg dksX1_pathToll_0 24 rfl rfl
theorem dX1_pathToll_0 : decode cX1_pathToll 0 = .ok (.aload_n 0, 1) := dk_42 (dk_at dksX1_pathToll_0 0 rfl rfl)
theorem dX1_pathToll_1 : decode cX1_pathToll 1 = .ok (.getfield 28, 3) := dk_180 0 28 (dk_at dksX1_pathToll_0 1 rfl rfl)
theorem dX1_pathToll_4 : decode cX1_pathToll 4 = .ok (.aload_n 0, 1) := dk_42 (dk_at dksX1_pathToll_0 4 rfl rfl)
theorem dX1_pathToll_5 : decode cX1_pathToll 5 = .ok (.getfield 19, 3) := dk_180 0 19 (dk_at dksX1_pathToll_0 5 rfl rfl)
theorem dX1_pathToll_8 : decode cX1_pathToll 8 = .ok (.aload_n 0, 1) := dk_42 (dk_at dksX1_pathToll_0 8 rfl rfl)
theorem dX1_pathToll_9 : decode cX1_pathToll 9 = .ok (.iload_n 1, 1) := dk_27 (dk_at dksX1_pathToll_0 9 rfl rfl)
theorem dX1_pathToll_10 : decode cX1_pathToll 10 = .ok (.invokevirtual 199, 3) := dk_182 0 199 (dk_at dksX1_pathToll_0 10 rfl rfl)
theorem dX1_pathToll_13 : decode cX1_pathToll 13 = .ok (.invokevirtual 255, 3) := dk_182 0 255 (dk_at dksX1_pathToll_0 13 rfl rfl)
theorem dX1_pathToll_16 : decode cX1_pathToll 16 = .ok (.ifCond .eq 17, 3) := dk_153 0 17 (dk_at dksX1_pathToll_0 16 rfl rfl)
theorem dX1_pathToll_19 : decode cX1_pathToll 19 = .ok (.aload_n 0, 1) := dk_42 (dk_at dksX1_pathToll_0 19 rfl rfl)
theorem dX1_pathToll_20 : decode cX1_pathToll 20 = .ok (.getfield 28, 3) := dk_180 0 28 (dk_at dksX1_pathToll_0 20 rfl rfl)
theorem dX1_pathToll_23 : decode cX1_pathToll 23 = .ok (.aload_n 0, 1) := dk_42 (dk_at dksX1_pathToll_0 23 rfl rfl)
theorem dX1_pathToll_24 : decode cX1_pathToll 24 = .ok (.getfield 19, 3) := dk_180 0 19 (dk_at dksX1_pathToll_1 0 rfl rfl)
theorem dX1_pathToll_27 : decode cX1_pathToll 27 = .ok (.invokevirtual 279, 3) := dk_182 1 23 (dk_at dksX1_pathToll_1 3 rfl rfl)
theorem dX1_pathToll_30 : decode cX1_pathToll 30 = .ok (.goto 4, 3) := dk_167 0 4 (dk_at dksX1_pathToll_1 6 rfl rfl)
theorem dX1_pathToll_33 : decode cX1_pathToll 33 = .ok (.iconst (-1), 1) := dk_2 (dk_at dksX1_pathToll_1 9 rfl rfl)
theorem dX1_pathToll_34 : decode cX1_pathToll 34 = .ok (.ireturn, 1) := dk_172 (dk_at dksX1_pathToll_1 10 rfl rfl)
abbrev cX1_felt : ByteArray := prog_1_method_34_code
def yX1_felt : MethodName := ⟨RX1, "felt", "(I)I"⟩
def dkwX1_felt_1 : List UInt8 := [172]
abbrev dktX1_felt_1 : List UInt8 := dkwX1_felt_1 ++ []
def dkwX1_felt_0 : List UInt8 := [42, 42, 27, 182, 0, 199, 182, 1, 33, 65, 32, 20, 1, 37, 148, 154, 0, 7, 2, 167, 0, 5, 32, 136]
abbrev dktX1_felt_0 : List UInt8 := dkwX1_felt_0 ++ dktX1_felt_1
theorem dksX1_felt_0 : cX1_felt.data.toList.drop 0 = dktX1_felt_0 := by decide +kernel
theorem dksX1_felt_1 : cX1_felt.data.toList.drop 24 = dktX1_felt_1 := dk_seg dksX1_felt_0 24 rfl rfl
theorem dX1_felt_0 : decode cX1_felt 0 = .ok (.aload_n 0, 1) := dk_42 (dk_at dksX1_felt_0 0 rfl rfl)
theorem dX1_felt_1 : decode cX1_felt 1 = .ok (.aload_n 0, 1) := dk_42 (dk_at dksX1_felt_0 1 rfl rfl)
theorem dX1_felt_2 : decode cX1_felt 2 = .ok (.iload_n 1, 1) := dk_27 (dk_at dksX1_felt_0 2 rfl rfl)
theorem dX1_felt_3 : decode cX1_felt 3 = .ok (.invokevirtual 199, 3) := dk_182 0 199 (dk_at dksX1_felt_0 3 rfl rfl)
theorem dX1_felt_6 : decode cX1_felt 6 = .ok (.invokevirtual 289, 3) := dk_182 1 33 (dk_at dksX1_felt_0 6 rfl rfl)
theorem dX1_felt_9 : decode cX1_felt 9 = .ok (.lstore_n 2, 1) := dk_65 (dk_at dksX1_felt_0 9 rfl rfl)
theorem dX1_felt_10 : decode cX1_felt 10 = .ok (.lload_n 2, 1) := dk_32 (dk_at dksX1_felt_0 10 rfl rfl)
theorem dX1_felt_11 : decode cX1_felt 11 = .ok (.ldc2_w 293, 3) := dk_20 1 37 (dk_at dksX1_felt_0 11 rfl rfl)
theorem dX1_felt_14 : decode cX1_felt 14 = .ok (.lcmp, 1) := dk_148 (dk_at dksX1_felt_0 14 rfl rfl)
theorem dX1_felt_15 : decode cX1_felt 15 = .ok (.ifCond .ne 7, 3) := dk_154 0 7 (dk_at dksX1_felt_0 15 rfl rfl)
theorem dX1_felt_18 : decode cX1_felt 18 = .ok (.iconst (-1), 1) := dk_2 (dk_at dksX1_felt_0 18 rfl rfl)
theorem dX1_felt_19 : decode cX1_felt 19 = .ok (.goto 5, 3) := dk_167 0 5 (dk_at dksX1_felt_0 19 rfl rfl)
theorem dX1_felt_22 : decode cX1_felt 22 = .ok (.lload_n 2, 1) := dk_32 (dk_at dksX1_felt_0 22 rfl rfl)
theorem dX1_felt_23 : decode cX1_felt 23 = .ok (.l2i, 1) := dk_136 (dk_at dksX1_felt_0 23 rfl rfl)
theorem dX1_felt_24 : decode cX1_felt 24 = .ok (.ireturn, 1) := dk_172 (dk_at dksX1_felt_1 0 rfl rfl)
abbrev cX1_uses : ByteArray := prog_1_method_36_code
def yX1_uses : MethodName := ⟨RX1, "uses", "(II)Z"⟩
def dkwX1_uses_1 : List UInt8 := [42, 27, 28, 182, 1, 42, 172]
abbrev dktX1_uses_1 : List UInt8 := dkwX1_uses_1 ++ []
def dkwX1_uses_0 : List UInt8 := [42, 27, 182, 0, 142, 153, 0, 15, 42, 28, 182, 0, 128, 153, 0, 7, 4, 167, 0, 4, 3, 184, 0, 132]
abbrev dktX1_uses_0 : List UInt8 := dkwX1_uses_0 ++ dktX1_uses_1
theorem dksX1_uses_0 : cX1_uses.data.toList.drop 0 = dktX1_uses_0 := by decide +kernel
theorem dksX1_uses_1 : cX1_uses.data.toList.drop 24 = dktX1_uses_1 := dk_seg dksX1_uses_0 24 rfl rfl
theorem dX1_uses_0 : decode cX1_uses 0 = .ok (.aload_n 0, 1) := dk_42 (dk_at dksX1_uses_0 0 rfl rfl)
theorem dX1_uses_1 : decode cX1_uses 1 = .ok (.iload_n 1, 1) := dk_27 (dk_at dksX1_uses_0 1 rfl rfl)
theorem dX1_uses_2 : decode cX1_uses 2 = .ok (.invokevirtual 142, 3) := dk_182 0 142 (dk_at dksX1_uses_0 2 rfl rfl)
theorem dX1_uses_5 : decode cX1_uses 5 = .ok (.ifCond .eq 15, 3) := dk_153 0 15 (dk_at dksX1_uses_0 5 rfl rfl)
theorem dX1_uses_8 : decode cX1_uses 8 = .ok (.aload_n 0, 1) := dk_42 (dk_at dksX1_uses_0 8 rfl rfl)
theorem dX1_uses_9 : decode cX1_uses 9 = .ok (.iload_n 2, 1) := dk_28 (dk_at dksX1_uses_0 9 rfl rfl)
theorem dX1_uses_10 : decode cX1_uses 10 = .ok (.invokevirtual 128, 3) := dk_182 0 128 (dk_at dksX1_uses_0 10 rfl rfl)
theorem dX1_uses_13 : decode cX1_uses 13 = .ok (.ifCond .eq 7, 3) := dk_153 0 7 (dk_at dksX1_uses_0 13 rfl rfl)
theorem dX1_uses_16 : decode cX1_uses 16 = .ok (.iconst 1, 1) := dk_4 (dk_at dksX1_uses_0 16 rfl rfl)
theorem dX1_uses_17 : decode cX1_uses 17 = .ok (.goto 4, 3) := dk_167 0 4 (dk_at dksX1_uses_0 17 rfl rfl)
theorem dX1_uses_20 : decode cX1_uses 20 = .ok (.iconst 0, 1) := dk_3 (dk_at dksX1_uses_0 20 rfl rfl)
theorem dX1_uses_21 : decode cX1_uses 21 = .ok (.invokestatic 132, 3) := dk_184 0 132 (dk_at dksX1_uses_0 21 rfl rfl)
theorem dX1_uses_24 : decode cX1_uses 24 = .ok (.aload_n 0, 1) := dk_42 (dk_at dksX1_uses_1 0 rfl rfl)
theorem dX1_uses_25 : decode cX1_uses 25 = .ok (.iload_n 1, 1) := dk_27 (dk_at dksX1_uses_1 1 rfl rfl)
theorem dX1_uses_26 : decode cX1_uses 26 = .ok (.iload_n 2, 1) := dk_28 (dk_at dksX1_uses_1 2 rfl rfl)
theorem dX1_uses_27 : decode cX1_uses 27 = .ok (.invokevirtual 298, 3) := dk_182 1 42 (dk_at dksX1_uses_1 3 rfl rfl)
theorem dX1_uses_30 : decode cX1_uses 30 = .ok (.ireturn, 1) := dk_172 (dk_at dksX1_uses_1 6 rfl rfl)
abbrev cX1_users : ByteArray := prog_1_method_38_code
def yX1_users : MethodName := ⟨RX1, "users", "(I)I"⟩
def dkwX1_users_0 : List UInt8 := [42, 27, 182, 0, 128, 184, 0, 132, 42, 27, 182, 1, 46, 172]
abbrev dktX1_users_0 : List UInt8 := dkwX1_users_0 ++ []
theorem dksX1_users_0 : cX1_users.data.toList.drop 0 = dktX1_users_0 := by decide +kernel
theorem dX1_users_0 : decode cX1_users 0 = .ok (.aload_n 0, 1) := dk_42 (dk_at dksX1_users_0 0 rfl rfl)
theorem dX1_users_1 : decode cX1_users 1 = .ok (.iload_n 1, 1) := dk_27 (dk_at dksX1_users_0 1 rfl rfl)
theorem dX1_users_2 : decode cX1_users 2 = .ok (.invokevirtual 128, 3) := dk_182 0 128 (dk_at dksX1_users_0 2 rfl rfl)
theorem dX1_users_5 : decode cX1_users 5 = .ok (.invokestatic 132, 3) := dk_184 0 132 (dk_at dksX1_users_0 5 rfl rfl)
theorem dX1_users_8 : decode cX1_users 8 = .ok (.aload_n 0, 1) := dk_42 (dk_at dksX1_users_0 8 rfl rfl)
theorem dX1_users_9 : decode cX1_users 9 = .ok (.iload_n 1, 1) := dk_27 (dk_at dksX1_users_0 9 rfl rfl)
theorem dX1_users_10 : decode cX1_users 10 = .ok (.invokevirtual 302, 3) := dk_182 1 46 (dk_at dksX1_users_0 10 rfl rfl)
theorem dX1_users_13 : decode cX1_users 13 = .ok (.ireturn, 1) := dk_172 (dk_at dksX1_users_0 13 rfl rfl)
abbrev cX1_flow : ByteArray := prog_1_method_40_code
def yX1_flow : MethodName := ⟨RX1, "flow", "(I)I"⟩
def dkwX1_flow_0 : List UInt8 := [42, 27, 182, 0, 128, 184, 0, 132, 42, 27, 182, 1, 50, 172]
abbrev dktX1_flow_0 : List UInt8 := dkwX1_flow_0 ++ []
theorem dksX1_flow_0 : cX1_flow.data.toList.drop 0 = dktX1_flow_0 := by decide +kernel
theorem dX1_flow_0 : decode cX1_flow 0 = .ok (.aload_n 0, 1) := dk_42 (dk_at dksX1_flow_0 0 rfl rfl)
theorem dX1_flow_1 : decode cX1_flow 1 = .ok (.iload_n 1, 1) := dk_27 (dk_at dksX1_flow_0 1 rfl rfl)
theorem dX1_flow_2 : decode cX1_flow 2 = .ok (.invokevirtual 128, 3) := dk_182 0 128 (dk_at dksX1_flow_0 2 rfl rfl)
theorem dX1_flow_5 : decode cX1_flow 5 = .ok (.invokestatic 132, 3) := dk_184 0 132 (dk_at dksX1_flow_0 5 rfl rfl)
theorem dX1_flow_8 : decode cX1_flow 8 = .ok (.aload_n 0, 1) := dk_42 (dk_at dksX1_flow_0 8 rfl rfl)
theorem dX1_flow_9 : decode cX1_flow 9 = .ok (.iload_n 1, 1) := dk_27 (dk_at dksX1_flow_0 9 rfl rfl)
theorem dX1_flow_10 : decode cX1_flow 10 = .ok (.invokevirtual 306, 3) := dk_182 1 50 (dk_at dksX1_flow_0 10 rfl rfl)
theorem dX1_flow_13 : decode cX1_flow 13 = .ok (.ireturn, 1) := dk_172 (dk_at dksX1_flow_0 13 rfl rfl)
abbrev cX1_ties : ByteArray := prog_1_method_43_code
def yX1_ties : MethodName := ⟨RX1, "ties", "(I)J"⟩
def dkwX1_ties_0 : List UInt8 := [42, 180, 0, 28, 42, 180, 0, 19, 42, 27, 182, 0, 199, 182, 1, 62, 173]
abbrev dktX1_ties_0 : List UInt8 := dkwX1_ties_0 ++ []
theorem dksX1_ties_0 : cX1_ties.data.toList.drop 0 = dktX1_ties_0 := by decide +kernel
theorem dX1_ties_0 : decode cX1_ties 0 = .ok (.aload_n 0, 1) := dk_42 (dk_at dksX1_ties_0 0 rfl rfl)
theorem dX1_ties_1 : decode cX1_ties 1 = .ok (.getfield 28, 3) := dk_180 0 28 (dk_at dksX1_ties_0 1 rfl rfl)
theorem dX1_ties_4 : decode cX1_ties 4 = .ok (.aload_n 0, 1) := dk_42 (dk_at dksX1_ties_0 4 rfl rfl)
theorem dX1_ties_5 : decode cX1_ties 5 = .ok (.getfield 19, 3) := dk_180 0 19 (dk_at dksX1_ties_0 5 rfl rfl)
theorem dX1_ties_8 : decode cX1_ties 8 = .ok (.aload_n 0, 1) := dk_42 (dk_at dksX1_ties_0 8 rfl rfl)
theorem dX1_ties_9 : decode cX1_ties 9 = .ok (.iload_n 1, 1) := dk_27 (dk_at dksX1_ties_0 9 rfl rfl)
theorem dX1_ties_10 : decode cX1_ties 10 = .ok (.invokevirtual 199, 3) := dk_182 0 199 (dk_at dksX1_ties_0 10 rfl rfl)
theorem dX1_ties_13 : decode cX1_ties 13 = .ok (.invokevirtual 318, 3) := dk_182 1 62 (dk_at dksX1_ties_0 13 rfl rfl)
theorem dX1_ties_16 : decode cX1_ties 16 = .ok (.lreturn, 1) := dk_173 (dk_at dksX1_ties_0 16 rfl rfl)
abbrev cX1_tieSpan : ByteArray := prog_1_method_44_code
def yX1_tieSpan : MethodName := ⟨RX1, "tieSpan", "(I)I"⟩
def dkwX1_tieSpan_1 : List UInt8 := [167, 0, 14, 42, 180, 0, 28, 44, 182, 0, 203, 182, 1, 66, 172]
abbrev dktX1_tieSpan_1 : List UInt8 := dkwX1_tieSpan_1 ++ []
def dkwX1_tieSpan_0 : List UInt8 := [42, 27, 182, 0, 199, 77, 42, 180, 0, 28, 42, 180, 0, 19, 44, 182, 1, 62, 9, 148, 154, 0, 7, 2]
abbrev dktX1_tieSpan_0 : List UInt8 := dkwX1_tieSpan_0 ++ dktX1_tieSpan_1
theorem dksX1_tieSpan_0 : cX1_tieSpan.data.toList.drop 0 = dktX1_tieSpan_0 := by decide +kernel
theorem dksX1_tieSpan_1 : cX1_tieSpan.data.toList.drop 24 = dktX1_tieSpan_1 := dk_seg dksX1_tieSpan_0 24 rfl rfl
theorem dX1_tieSpan_0 : decode cX1_tieSpan 0 = .ok (.aload_n 0, 1) := dk_42 (dk_at dksX1_tieSpan_0 0 rfl rfl)
theorem dX1_tieSpan_1 : decode cX1_tieSpan 1 = .ok (.iload_n 1, 1) := dk_27 (dk_at dksX1_tieSpan_0 1 rfl rfl)
theorem dX1_tieSpan_2 : decode cX1_tieSpan 2 = .ok (.invokevirtual 199, 3) := dk_182 0 199 (dk_at dksX1_tieSpan_0 2 rfl rfl)
theorem dX1_tieSpan_5 : decode cX1_tieSpan 5 = .ok (.astore_n 2, 1) := dk_77 (dk_at dksX1_tieSpan_0 5 rfl rfl)
theorem dX1_tieSpan_6 : decode cX1_tieSpan 6 = .ok (.aload_n 0, 1) := dk_42 (dk_at dksX1_tieSpan_0 6 rfl rfl)
theorem dX1_tieSpan_7 : decode cX1_tieSpan 7 = .ok (.getfield 28, 3) := dk_180 0 28 (dk_at dksX1_tieSpan_0 7 rfl rfl)
theorem dX1_tieSpan_10 : decode cX1_tieSpan 10 = .ok (.aload_n 0, 1) := dk_42 (dk_at dksX1_tieSpan_0 10 rfl rfl)
theorem dX1_tieSpan_11 : decode cX1_tieSpan 11 = .ok (.getfield 19, 3) := dk_180 0 19 (dk_at dksX1_tieSpan_0 11 rfl rfl)
theorem dX1_tieSpan_14 : decode cX1_tieSpan 14 = .ok (.aload_n 2, 1) := dk_44 (dk_at dksX1_tieSpan_0 14 rfl rfl)
theorem dX1_tieSpan_15 : decode cX1_tieSpan 15 = .ok (.invokevirtual 318, 3) := dk_182 1 62 (dk_at dksX1_tieSpan_0 15 rfl rfl)
theorem dX1_tieSpan_18 : decode cX1_tieSpan 18 = .ok (.lconst 0, 1) := dk_9 (dk_at dksX1_tieSpan_0 18 rfl rfl)
theorem dX1_tieSpan_19 : decode cX1_tieSpan 19 = .ok (.lcmp, 1) := dk_148 (dk_at dksX1_tieSpan_0 19 rfl rfl)
theorem dX1_tieSpan_20 : decode cX1_tieSpan 20 = .ok (.ifCond .ne 7, 3) := dk_154 0 7 (dk_at dksX1_tieSpan_0 20 rfl rfl)
theorem dX1_tieSpan_23 : decode cX1_tieSpan 23 = .ok (.iconst (-1), 1) := dk_2 (dk_at dksX1_tieSpan_0 23 rfl rfl)
theorem dX1_tieSpan_24 : decode cX1_tieSpan 24 = .ok (.goto 14, 3) := dk_167 0 14 (dk_at dksX1_tieSpan_1 0 rfl rfl)
theorem dX1_tieSpan_27 : decode cX1_tieSpan 27 = .ok (.aload_n 0, 1) := dk_42 (dk_at dksX1_tieSpan_1 3 rfl rfl)
theorem dX1_tieSpan_28 : decode cX1_tieSpan 28 = .ok (.getfield 28, 3) := dk_180 0 28 (dk_at dksX1_tieSpan_1 4 rfl rfl)
theorem dX1_tieSpan_31 : decode cX1_tieSpan 31 = .ok (.aload_n 2, 1) := dk_44 (dk_at dksX1_tieSpan_1 7 rfl rfl)
theorem dX1_tieSpan_32 : decode cX1_tieSpan 32 = .ok (.invokevirtual 203, 3) := dk_182 0 203 (dk_at dksX1_tieSpan_1 8 rfl rfl)
theorem dX1_tieSpan_35 : decode cX1_tieSpan 35 = .ok (.invokevirtual 322, 3) := dk_182 1 66 (dk_at dksX1_tieSpan_1 11 rfl rfl)
theorem dX1_tieSpan_38 : decode cX1_tieSpan 38 = .ok (.ireturn, 1) := dk_172 (dk_at dksX1_tieSpan_1 14 rfl rfl)
abbrev cX1_revenueOf : ByteArray := prog_1_method_48_code
def yX1_revenueOf : MethodName := ⟨RX1, "revenueOf", "(I)J"⟩
def dkwX1_revenueOf_0 : List UInt8 := [42, 27, 182, 0, 142, 184, 0, 132, 42, 27, 182, 1, 69, 173]
abbrev dktX1_revenueOf_0 : List UInt8 := dkwX1_revenueOf_0 ++ []
theorem dksX1_revenueOf_0 : cX1_revenueOf.data.toList.drop 0 = dktX1_revenueOf_0 := by decide +kernel
theorem dX1_revenueOf_0 : decode cX1_revenueOf 0 = .ok (.aload_n 0, 1) := dk_42 (dk_at dksX1_revenueOf_0 0 rfl rfl)
theorem dX1_revenueOf_1 : decode cX1_revenueOf 1 = .ok (.iload_n 1, 1) := dk_27 (dk_at dksX1_revenueOf_0 1 rfl rfl)
theorem dX1_revenueOf_2 : decode cX1_revenueOf 2 = .ok (.invokevirtual 142, 3) := dk_182 0 142 (dk_at dksX1_revenueOf_0 2 rfl rfl)
theorem dX1_revenueOf_5 : decode cX1_revenueOf 5 = .ok (.invokestatic 132, 3) := dk_184 0 132 (dk_at dksX1_revenueOf_0 5 rfl rfl)
theorem dX1_revenueOf_8 : decode cX1_revenueOf 8 = .ok (.aload_n 0, 1) := dk_42 (dk_at dksX1_revenueOf_0 8 rfl rfl)
theorem dX1_revenueOf_9 : decode cX1_revenueOf 9 = .ok (.iload_n 1, 1) := dk_27 (dk_at dksX1_revenueOf_0 9 rfl rfl)
theorem dX1_revenueOf_10 : decode cX1_revenueOf 10 = .ok (.invokevirtual 325, 3) := dk_182 1 69 (dk_at dksX1_revenueOf_0 10 rfl rfl)
theorem dX1_revenueOf_13 : decode cX1_revenueOf 13 = .ok (.lreturn, 1) := dk_173 (dk_at dksX1_revenueOf_0 13 rfl rfl)
abbrev cX1_arcRevenue : ByteArray := prog_1_method_49_code
def yX1_arcRevenue : MethodName := ⟨RX1, "arcRevenue", "(I)J"⟩
def dkwX1_arcRevenue_1 : List UInt8 := [105, 173]
abbrev dktX1_arcRevenue_1 : List UInt8 := dkwX1_arcRevenue_1 ++ []
def dkwX1_arcRevenue_0 : List UInt8 := [42, 27, 182, 0, 128, 184, 0, 132, 42, 27, 182, 1, 50, 133, 42, 180, 0, 19, 180, 0, 218, 27, 46, 133]
abbrev dktX1_arcRevenue_0 : List UInt8 := dkwX1_arcRevenue_0 ++ dktX1_arcRevenue_1
theorem dksX1_arcRevenue_0 : cX1_arcRevenue.data.toList.drop 0 = dktX1_arcRevenue_0 := by decide +kernel
theorem dksX1_arcRevenue_1 : cX1_arcRevenue.data.toList.drop 24 = dktX1_arcRevenue_1 := dk_seg dksX1_arcRevenue_0 24 rfl rfl
theorem dX1_arcRevenue_0 : decode cX1_arcRevenue 0 = .ok (.aload_n 0, 1) := dk_42 (dk_at dksX1_arcRevenue_0 0 rfl rfl)
theorem dX1_arcRevenue_1 : decode cX1_arcRevenue 1 = .ok (.iload_n 1, 1) := dk_27 (dk_at dksX1_arcRevenue_0 1 rfl rfl)
theorem dX1_arcRevenue_2 : decode cX1_arcRevenue 2 = .ok (.invokevirtual 128, 3) := dk_182 0 128 (dk_at dksX1_arcRevenue_0 2 rfl rfl)
theorem dX1_arcRevenue_5 : decode cX1_arcRevenue 5 = .ok (.invokestatic 132, 3) := dk_184 0 132 (dk_at dksX1_arcRevenue_0 5 rfl rfl)
theorem dX1_arcRevenue_8 : decode cX1_arcRevenue 8 = .ok (.aload_n 0, 1) := dk_42 (dk_at dksX1_arcRevenue_0 8 rfl rfl)
theorem dX1_arcRevenue_9 : decode cX1_arcRevenue 9 = .ok (.iload_n 1, 1) := dk_27 (dk_at dksX1_arcRevenue_0 9 rfl rfl)
theorem dX1_arcRevenue_10 : decode cX1_arcRevenue 10 = .ok (.invokevirtual 306, 3) := dk_182 1 50 (dk_at dksX1_arcRevenue_0 10 rfl rfl)
theorem dX1_arcRevenue_13 : decode cX1_arcRevenue 13 = .ok (.i2l, 1) := dk_133 (dk_at dksX1_arcRevenue_0 13 rfl rfl)
theorem dX1_arcRevenue_14 : decode cX1_arcRevenue 14 = .ok (.aload_n 0, 1) := dk_42 (dk_at dksX1_arcRevenue_0 14 rfl rfl)
theorem dX1_arcRevenue_15 : decode cX1_arcRevenue 15 = .ok (.getfield 19, 3) := dk_180 0 19 (dk_at dksX1_arcRevenue_0 15 rfl rfl)
theorem dX1_arcRevenue_18 : decode cX1_arcRevenue 18 = .ok (.getfield 218, 3) := dk_180 0 218 (dk_at dksX1_arcRevenue_0 18 rfl rfl)
theorem dX1_arcRevenue_21 : decode cX1_arcRevenue 21 = .ok (.iload_n 1, 1) := dk_27 (dk_at dksX1_arcRevenue_0 21 rfl rfl)
theorem dX1_arcRevenue_22 : decode cX1_arcRevenue 22 = .ok (.iaload, 1) := dk_46 (dk_at dksX1_arcRevenue_0 22 rfl rfl)
theorem dX1_arcRevenue_23 : decode cX1_arcRevenue 23 = .ok (.i2l, 1) := dk_133 (dk_at dksX1_arcRevenue_0 23 rfl rfl)
theorem dX1_arcRevenue_24 : decode cX1_arcRevenue 24 = .ok (.lmul, 1) := dk_105 (dk_at dksX1_arcRevenue_1 0 rfl rfl)
theorem dX1_arcRevenue_25 : decode cX1_arcRevenue 25 = .ok (.lreturn, 1) := dk_173 (dk_at dksX1_arcRevenue_1 1 rfl rfl)
abbrev cX1_pledge : ByteArray := prog_1_method_51_code
def yX1_pledge : MethodName := ⟨RX1, "pledge", "(I)J"⟩
def dkwX1_pledge_0 : List UInt8 := [42, 27, 182, 0, 142, 184, 0, 132, 42, 27, 182, 1, 85, 173]
abbrev dktX1_pledge_0 : List UInt8 := dkwX1_pledge_0 ++ []
theorem dksX1_pledge_0 : cX1_pledge.data.toList.drop 0 = dktX1_pledge_0 := by decide +kernel
theorem dX1_pledge_0 : decode cX1_pledge 0 = .ok (.aload_n 0, 1) := dk_42 (dk_at dksX1_pledge_0 0 rfl rfl)
theorem dX1_pledge_1 : decode cX1_pledge 1 = .ok (.iload_n 1, 1) := dk_27 (dk_at dksX1_pledge_0 1 rfl rfl)
theorem dX1_pledge_2 : decode cX1_pledge 2 = .ok (.invokevirtual 142, 3) := dk_182 0 142 (dk_at dksX1_pledge_0 2 rfl rfl)
theorem dX1_pledge_5 : decode cX1_pledge 5 = .ok (.invokestatic 132, 3) := dk_184 0 132 (dk_at dksX1_pledge_0 5 rfl rfl)
theorem dX1_pledge_8 : decode cX1_pledge 8 = .ok (.aload_n 0, 1) := dk_42 (dk_at dksX1_pledge_0 8 rfl rfl)
theorem dX1_pledge_9 : decode cX1_pledge 9 = .ok (.iload_n 1, 1) := dk_27 (dk_at dksX1_pledge_0 9 rfl rfl)
theorem dX1_pledge_10 : decode cX1_pledge 10 = .ok (.invokevirtual 341, 3) := dk_182 1 85 (dk_at dksX1_pledge_0 10 rfl rfl)
theorem dX1_pledge_13 : decode cX1_pledge 13 = .ok (.lreturn, 1) := dk_173 (dk_at dksX1_pledge_0 13 rfl rfl)
abbrev cX1_keepToll : ByteArray := prog_1_method_55_code
def yX1_keepToll : MethodName := ⟨RX1, "keepToll", "(II)I"⟩
def dkwX1_keepToll_2 : List UInt8 := [172]
abbrev dktX1_keepToll_2 : List UInt8 := dkwX1_keepToll_2 ++ []
def dkwX1_keepToll_1 : List UInt8 := [42, 27, 42, 180, 0, 19, 180, 0, 99, 180, 0, 103, 28, 185, 0, 136, 2, 0, 192, 0, 140, 182, 1, 92]
abbrev dktX1_keepToll_1 : List UInt8 := dkwX1_keepToll_1 ++ dktX1_keepToll_2
def dkwX1_keepToll_0 : List UInt8 := [42, 27, 182, 0, 142, 153, 0, 15, 42, 28, 182, 0, 128, 153, 0, 7, 4, 167, 0, 4, 3, 184, 0, 132]
abbrev dktX1_keepToll_0 : List UInt8 := dkwX1_keepToll_0 ++ dktX1_keepToll_1
theorem dksX1_keepToll_0 : cX1_keepToll.data.toList.drop 0 = dktX1_keepToll_0 := by decide +kernel
theorem dksX1_keepToll_1 : cX1_keepToll.data.toList.drop 24 = dktX1_keepToll_1 := dk_seg dksX1_keepToll_0 24 rfl rfl
theorem dksX1_keepToll_2 : cX1_keepToll.data.toList.drop 48 = dktX1_keepToll_2 := dk_seg dksX1_keepToll_1 24 rfl rfl
theorem dX1_keepToll_0 : decode cX1_keepToll 0 = .ok (.aload_n 0, 1) := dk_42 (dk_at dksX1_keepToll_0 0 rfl rfl)
theorem dX1_keepToll_1 : decode cX1_keepToll 1 = .ok (.iload_n 1, 1) := dk_27 (dk_at dksX1_keepToll_0 1 rfl rfl)
theorem dX1_keepToll_2 : decode cX1_keepToll 2 = .ok (.invokevirtual 142, 3) := dk_182 0 142 (dk_at dksX1_keepToll_0 2 rfl rfl)
theorem dX1_keepToll_5 : decode cX1_keepToll 5 = .ok (.ifCond .eq 15, 3) := dk_153 0 15 (dk_at dksX1_keepToll_0 5 rfl rfl)
theorem dX1_keepToll_8 : decode cX1_keepToll 8 = .ok (.aload_n 0, 1) := dk_42 (dk_at dksX1_keepToll_0 8 rfl rfl)
theorem dX1_keepToll_9 : decode cX1_keepToll 9 = .ok (.iload_n 2, 1) := dk_28 (dk_at dksX1_keepToll_0 9 rfl rfl)
theorem dX1_keepToll_10 : decode cX1_keepToll 10 = .ok (.invokevirtual 128, 3) := dk_182 0 128 (dk_at dksX1_keepToll_0 10 rfl rfl)
theorem dX1_keepToll_13 : decode cX1_keepToll 13 = .ok (.ifCond .eq 7, 3) := dk_153 0 7 (dk_at dksX1_keepToll_0 13 rfl rfl)
theorem dX1_keepToll_16 : decode cX1_keepToll 16 = .ok (.iconst 1, 1) := dk_4 (dk_at dksX1_keepToll_0 16 rfl rfl)
theorem dX1_keepToll_17 : decode cX1_keepToll 17 = .ok (.goto 4, 3) := dk_167 0 4 (dk_at dksX1_keepToll_0 17 rfl rfl)
theorem dX1_keepToll_20 : decode cX1_keepToll 20 = .ok (.iconst 0, 1) := dk_3 (dk_at dksX1_keepToll_0 20 rfl rfl)
theorem dX1_keepToll_21 : decode cX1_keepToll 21 = .ok (.invokestatic 132, 3) := dk_184 0 132 (dk_at dksX1_keepToll_0 21 rfl rfl)
theorem dX1_keepToll_24 : decode cX1_keepToll 24 = .ok (.aload_n 0, 1) := dk_42 (dk_at dksX1_keepToll_1 0 rfl rfl)
theorem dX1_keepToll_25 : decode cX1_keepToll 25 = .ok (.iload_n 1, 1) := dk_27 (dk_at dksX1_keepToll_1 1 rfl rfl)
theorem dX1_keepToll_26 : decode cX1_keepToll 26 = .ok (.aload_n 0, 1) := dk_42 (dk_at dksX1_keepToll_1 2 rfl rfl)
theorem dX1_keepToll_27 : decode cX1_keepToll 27 = .ok (.getfield 19, 3) := dk_180 0 19 (dk_at dksX1_keepToll_1 3 rfl rfl)
theorem dX1_keepToll_30 : decode cX1_keepToll 30 = .ok (.getfield 99, 3) := dk_180 0 99 (dk_at dksX1_keepToll_1 6 rfl rfl)
theorem dX1_keepToll_33 : decode cX1_keepToll 33 = .ok (.getfield 103, 3) := dk_180 0 103 (dk_at dksX1_keepToll_1 9 rfl rfl)
theorem dX1_keepToll_36 : decode cX1_keepToll 36 = .ok (.iload_n 2, 1) := dk_28 (dk_at dksX1_keepToll_1 12 rfl rfl)
theorem dX1_keepToll_37 : decode cX1_keepToll 37 = .ok (.invokeinterface 136 2, 5) := by decide +kernel
theorem dX1_keepToll_42 : decode cX1_keepToll 42 = .ok (.checkcast 140, 3) := dk_192 0 140 (dk_at dksX1_keepToll_1 18 rfl rfl)
theorem dX1_keepToll_45 : decode cX1_keepToll 45 = .ok (.invokevirtual 348, 3) := dk_182 1 92 (dk_at dksX1_keepToll_1 21 rfl rfl)
theorem dX1_keepToll_48 : decode cX1_keepToll 48 = .ok (.ireturn, 1) := dk_172 (dk_at dksX1_keepToll_2 0 rfl rfl)
abbrev cX1_bestToll : ByteArray := prog_1_method_56_code
def yX1_bestToll : MethodName := ⟨RX1, "bestToll", "(I)I"⟩
def dkwX1_bestToll_0 : List UInt8 := [187, 1, 96, 89, 42, 42, 27, 182, 0, 178, 183, 1, 98, 180, 1, 101, 172]
abbrev dktX1_bestToll_0 : List UInt8 := dkwX1_bestToll_0 ++ []
theorem dksX1_bestToll_0 : cX1_bestToll.data.toList.drop 0 = dktX1_bestToll_0 := by decide +kernel
theorem dX1_bestToll_0 : decode cX1_bestToll 0 = .ok (.new 352, 3) := dk_187 1 96 (dk_at dksX1_bestToll_0 0 rfl rfl)
theorem dX1_bestToll_3 : decode cX1_bestToll 3 = .ok (.dup, 1) := dk_89 (dk_at dksX1_bestToll_0 3 rfl rfl)
theorem dX1_bestToll_4 : decode cX1_bestToll 4 = .ok (.aload_n 0, 1) := dk_42 (dk_at dksX1_bestToll_0 4 rfl rfl)
theorem dX1_bestToll_5 : decode cX1_bestToll 5 = .ok (.aload_n 0, 1) := dk_42 (dk_at dksX1_bestToll_0 5 rfl rfl)
theorem dX1_bestToll_6 : decode cX1_bestToll 6 = .ok (.iload_n 1, 1) := dk_27 (dk_at dksX1_bestToll_0 6 rfl rfl)
theorem dX1_bestToll_7 : decode cX1_bestToll 7 = .ok (.invokevirtual 178, 3) := dk_182 0 178 (dk_at dksX1_bestToll_0 7 rfl rfl)
theorem dX1_bestToll_10 : decode cX1_bestToll 10 = .ok (.invokespecial 354, 3) := dk_183 1 98 (dk_at dksX1_bestToll_0 10 rfl rfl)
theorem dX1_bestToll_13 : decode cX1_bestToll 13 = .ok (.getfield 357, 3) := dk_180 1 101 (dk_at dksX1_bestToll_0 13 rfl rfl)
theorem dX1_bestToll_16 : decode cX1_bestToll 16 = .ok (.ireturn, 1) := dk_172 (dk_at dksX1_bestToll_0 16 rfl rfl)
abbrev cX1_optimize : ByteArray := prog_1_method_59_code
def yX1_optimize : MethodName := ⟨RX1, "optimize", "(I)I"⟩
def dkwX1_optimize_1 : List UInt8 := [182, 1, 107, 154, 0, 5, 28, 172, 132, 2, 1, 167, 255, 239, 42, 182, 1, 107, 61, 27, 172]
abbrev dktX1_optimize_1 : List UInt8 := dkwX1_optimize_1 ++ []
def dkwX1_optimize_0 : List UInt8 := [27, 133, 10, 20, 1, 110, 184, 0, 121, 184, 0, 212, 42, 182, 0, 215, 4, 61, 28, 27, 162, 0, 18, 42]
abbrev dktX1_optimize_0 : List UInt8 := dkwX1_optimize_0 ++ dktX1_optimize_1
theorem dksX1_optimize_0 : cX1_optimize.data.toList.drop 0 = dktX1_optimize_0 := by decide +kernel
theorem dksX1_optimize_1 : cX1_optimize.data.toList.drop 24 = dktX1_optimize_1 := dk_seg dksX1_optimize_0 24 rfl rfl
theorem dX1_optimize_0 : decode cX1_optimize 0 = .ok (.iload_n 1, 1) := dk_27 (dk_at dksX1_optimize_0 0 rfl rfl)
theorem dX1_optimize_1 : decode cX1_optimize 1 = .ok (.i2l, 1) := dk_133 (dk_at dksX1_optimize_0 1 rfl rfl)
theorem dX1_optimize_2 : decode cX1_optimize 2 = .ok (.lconst 1, 1) := dk_10 (dk_at dksX1_optimize_0 2 rfl rfl)
theorem dX1_optimize_3 : decode cX1_optimize 3 = .ok (.ldc2_w 366, 3) := dk_20 1 110 (dk_at dksX1_optimize_0 3 rfl rfl)
theorem dX1_optimize_6 : decode cX1_optimize 6 = .ok (.invokestatic 121, 3) := dk_184 0 121 (dk_at dksX1_optimize_0 6 rfl rfl)
theorem dX1_optimize_9 : decode cX1_optimize 9 = .ok (.invokestatic 212, 3) := dk_184 0 212 (dk_at dksX1_optimize_0 9 rfl rfl)
theorem dX1_optimize_12 : decode cX1_optimize 12 = .ok (.aload_n 0, 1) := dk_42 (dk_at dksX1_optimize_0 12 rfl rfl)
theorem dX1_optimize_13 : decode cX1_optimize 13 = .ok (.invokevirtual 215, 3) := dk_182 0 215 (dk_at dksX1_optimize_0 13 rfl rfl)
theorem dX1_optimize_16 : decode cX1_optimize 16 = .ok (.iconst 1, 1) := dk_4 (dk_at dksX1_optimize_0 16 rfl rfl)
theorem dX1_optimize_17 : decode cX1_optimize 17 = .ok (.istore_n 2, 1) := dk_61 (dk_at dksX1_optimize_0 17 rfl rfl)
theorem dX1_optimize_18 : decode cX1_optimize 18 = .ok (.iload_n 2, 1) := dk_28 (dk_at dksX1_optimize_0 18 rfl rfl)
theorem dX1_optimize_19 : decode cX1_optimize 19 = .ok (.iload_n 1, 1) := dk_27 (dk_at dksX1_optimize_0 19 rfl rfl)
theorem dX1_optimize_20 : decode cX1_optimize 20 = .ok (.if_icmp .ge 18, 3) := dk_162 0 18 (dk_at dksX1_optimize_0 20 rfl rfl)
theorem dX1_optimize_23 : decode cX1_optimize 23 = .ok (.aload_n 0, 1) := dk_42 (dk_at dksX1_optimize_0 23 rfl rfl)
theorem dX1_optimize_24 : decode cX1_optimize 24 = .ok (.invokevirtual 363, 3) := dk_182 1 107 (dk_at dksX1_optimize_1 0 rfl rfl)
theorem dX1_optimize_27 : decode cX1_optimize 27 = .ok (.ifCond .ne 5, 3) := dk_154 0 5 (dk_at dksX1_optimize_1 3 rfl rfl)
theorem dX1_optimize_30 : decode cX1_optimize 30 = .ok (.iload_n 2, 1) := dk_28 (dk_at dksX1_optimize_1 6 rfl rfl)
theorem dX1_optimize_31 : decode cX1_optimize 31 = .ok (.ireturn, 1) := dk_172 (dk_at dksX1_optimize_1 7 rfl rfl)
theorem dX1_optimize_32 : decode cX1_optimize 32 = .ok (.iinc 2 1, 3) := dk_132 2 1 (dk_at dksX1_optimize_1 8 rfl rfl)
theorem dX1_optimize_35 : decode cX1_optimize 35 = .ok (.goto (-17), 3) := dk_167 255 239 (dk_at dksX1_optimize_1 11 rfl rfl)
theorem dX1_optimize_38 : decode cX1_optimize 38 = .ok (.aload_n 0, 1) := dk_42 (dk_at dksX1_optimize_1 14 rfl rfl)
theorem dX1_optimize_39 : decode cX1_optimize 39 = .ok (.invokevirtual 363, 3) := dk_182 1 107 (dk_at dksX1_optimize_1 15 rfl rfl)
theorem dX1_optimize_42 : decode cX1_optimize 42 = .ok (.istore_n 2, 1) := dk_61 (dk_at dksX1_optimize_1 18 rfl rfl)
theorem dX1_optimize_43 : decode cX1_optimize 43 = .ok (.iload_n 1, 1) := dk_27 (dk_at dksX1_optimize_1 19 rfl rfl)
theorem dX1_optimize_44 : decode cX1_optimize 44 = .ok (.ireturn, 1) := dk_172 (dk_at dksX1_optimize_1 20 rfl rfl)
abbrev cX1_bestPair : ByteArray := prog_1_method_60_code
def yX1_bestPair : MethodName := ⟨RX1, "bestPair", "(III)I"⟩
def dkwX1_bestPair_12 : List UInt8 := [21, 6, 79, 42, 180, 0, 19, 180, 0, 218, 28, 21, 7, 79, 21, 8, 172]
abbrev dktX1_bestPair_12 : List UInt8 := dkwX1_bestPair_12 ++ []
def dkwX1_bestPair_11 : List UInt8 := [42, 180, 0, 19, 180, 0, 218, 27, 92, 46, 29, 96, 79, 167, 255, 143, 42, 180, 0, 19, 180, 0, 218, 27]
abbrev dktX1_bestPair_11 : List UInt8 := dkwX1_bestPair_11 ++ dktX1_bestPair_12
def dkwX1_bestPair_10 : List UInt8 := [46, 96, 54, 8, 22, 11, 55, 9, 42, 180, 0, 19, 180, 0, 218, 28, 92, 46, 29, 96, 79, 167, 255, 183]
abbrev dktX1_bestPair_10 : List UInt8 := dkwX1_bestPair_10 ++ dktX1_bestPair_11
def dkwX1_bestPair_9 : List UInt8 := [167, 0, 32, 17, 39, 16, 42, 180, 0, 19, 180, 0, 218, 27, 46, 104, 42, 180, 0, 19, 180, 0, 218, 28]
abbrev dktX1_bestPair_9 : List UInt8 := dkwX1_bestPair_9 ++ dktX1_bestPair_10
def dkwX1_bestPair_8 : List UInt8 := [180, 0, 218, 28, 46, 21, 5, 163, 0, 65, 42, 182, 1, 73, 55, 11, 22, 11, 22, 9, 148, 157, 0, 6]
abbrev dktX1_bestPair_8 : List UInt8 := dkwX1_bestPair_8 ++ dktX1_bestPair_9
def dkwX1_bestPair_7 : List UInt8 := [180, 0, 218, 27, 46, 21, 4, 163, 0, 105, 42, 180, 0, 19, 180, 0, 218, 28, 3, 79, 42, 180, 0, 19]
abbrev dktX1_bestPair_7 : List UInt8 := dkwX1_bestPair_7 ++ dktX1_bestPair_8
def dkwX1_bestPair_6 : List UInt8 := [54, 7, 2, 54, 8, 20, 1, 80, 55, 9, 42, 180, 0, 19, 180, 0, 218, 27, 3, 79, 42, 180, 0, 19]
abbrev dktX1_bestPair_6 : List UInt8 := dkwX1_bestPair_6 ++ dktX1_bestPair_7
def dkwX1_bestPair_5 : List UInt8 := [16, 253, 172, 42, 180, 0, 19, 180, 0, 218, 27, 46, 54, 6, 42, 180, 0, 19, 180, 0, 218, 28, 46]
abbrev dktX1_bestPair_5 : List UInt8 := dkwX1_bestPair_5 ++ dktX1_bestPair_6
def dkwX1_bestPair_4 : List UInt8 := [182, 0, 160, 54, 5, 21, 4, 29, 108, 4, 96, 21, 5, 29, 108, 4, 96, 104, 17, 1, 144, 164, 0, 6]
abbrev dktX1_bestPair_4 : List UInt8 := dkwX1_bestPair_4 ++ dktX1_bestPair_5
def dkwX1_bestPair_3 : List UInt8 := [182, 0, 160, 54, 4, 42, 180, 0, 19, 180, 0, 99, 180, 0, 103, 28, 185, 0, 136, 2, 0, 192, 0, 140]
abbrev dktX1_bestPair_3 : List UInt8 := dkwX1_bestPair_3 ++ dktX1_bestPair_4
def dkwX1_bestPair_2 : List UInt8 := [184, 0, 212, 42, 180, 0, 19, 180, 0, 99, 180, 0, 103, 27, 185, 0, 136, 2, 0, 192, 0, 140]
abbrev dktX1_bestPair_2 : List UInt8 := dkwX1_bestPair_2 ++ dktX1_bestPair_3
def dkwX1_bestPair_1 : List UInt8 := [27, 28, 159, 0, 19, 29, 133, 10, 20, 0, 223, 184, 0, 121, 153, 0, 7, 4, 167, 0, 4, 3]
abbrev dktX1_bestPair_1 : List UInt8 := dkwX1_bestPair_1 ++ dktX1_bestPair_2
def dkwX1_bestPair_0 : List UInt8 := [42, 27, 182, 0, 128, 153, 0, 15, 42, 28, 182, 0, 128, 153, 0, 7, 4, 167, 0, 4, 3, 184, 0, 132]
abbrev dktX1_bestPair_0 : List UInt8 := dkwX1_bestPair_0 ++ dktX1_bestPair_1
theorem dksX1_bestPair_0 : cX1_bestPair.data.toList.drop 0 = dktX1_bestPair_0 := by decide +kernel
theorem dksX1_bestPair_1 : cX1_bestPair.data.toList.drop 24 = dktX1_bestPair_1 := dk_seg dksX1_bestPair_0 24 rfl rfl
theorem dksX1_bestPair_2 : cX1_bestPair.data.toList.drop 46 = dktX1_bestPair_2 := dk_seg dksX1_bestPair_1 22 rfl rfl
theorem dksX1_bestPair_3 : cX1_bestPair.data.toList.drop 68 = dktX1_bestPair_3 := dk_seg dksX1_bestPair_2 22 rfl rfl
theorem dksX1_bestPair_4 : cX1_bestPair.data.toList.drop 92 = dktX1_bestPair_4 := dk_seg dksX1_bestPair_3 24 rfl rfl
theorem dksX1_bestPair_5 : cX1_bestPair.data.toList.drop 116 = dktX1_bestPair_5 := dk_seg dksX1_bestPair_4 24 rfl rfl
theorem dksX1_bestPair_6 : cX1_bestPair.data.toList.drop 139 = dktX1_bestPair_6 := dk_seg dksX1_bestPair_5 23 rfl rfl
theorem dksX1_bestPair_7 : cX1_bestPair.data.toList.drop 163 = dktX1_bestPair_7 := dk_seg dksX1_bestPair_6 24 rfl rfl
theorem dksX1_bestPair_8 : cX1_bestPair.data.toList.drop 187 = dktX1_bestPair_8 := dk_seg dksX1_bestPair_7 24 rfl rfl
theorem dksX1_bestPair_9 : cX1_bestPair.data.toList.drop 211 = dktX1_bestPair_9 := dk_seg dksX1_bestPair_8 24 rfl rfl
theorem dksX1_bestPair_10 : cX1_bestPair.data.toList.drop 235 = dktX1_bestPair_10 := dk_seg dksX1_bestPair_9 24 rfl rfl
theorem dksX1_bestPair_11 : cX1_bestPair.data.toList.drop 259 = dktX1_bestPair_11 := dk_seg dksX1_bestPair_10 24 rfl rfl
theorem dksX1_bestPair_12 : cX1_bestPair.data.toList.drop 283 = dktX1_bestPair_12 := dk_seg dksX1_bestPair_11 24 rfl rfl
theorem dX1_bestPair_0 : decode cX1_bestPair 0 = .ok (.aload_n 0, 1) := dk_42 (dk_at dksX1_bestPair_0 0 rfl rfl)
theorem dX1_bestPair_1 : decode cX1_bestPair 1 = .ok (.iload_n 1, 1) := dk_27 (dk_at dksX1_bestPair_0 1 rfl rfl)
theorem dX1_bestPair_2 : decode cX1_bestPair 2 = .ok (.invokevirtual 128, 3) := dk_182 0 128 (dk_at dksX1_bestPair_0 2 rfl rfl)
theorem dX1_bestPair_5 : decode cX1_bestPair 5 = .ok (.ifCond .eq 15, 3) := dk_153 0 15 (dk_at dksX1_bestPair_0 5 rfl rfl)
theorem dX1_bestPair_8 : decode cX1_bestPair 8 = .ok (.aload_n 0, 1) := dk_42 (dk_at dksX1_bestPair_0 8 rfl rfl)
theorem dX1_bestPair_9 : decode cX1_bestPair 9 = .ok (.iload_n 2, 1) := dk_28 (dk_at dksX1_bestPair_0 9 rfl rfl)
theorem dX1_bestPair_10 : decode cX1_bestPair 10 = .ok (.invokevirtual 128, 3) := dk_182 0 128 (dk_at dksX1_bestPair_0 10 rfl rfl)
theorem dX1_bestPair_13 : decode cX1_bestPair 13 = .ok (.ifCond .eq 7, 3) := dk_153 0 7 (dk_at dksX1_bestPair_0 13 rfl rfl)
theorem dX1_bestPair_16 : decode cX1_bestPair 16 = .ok (.iconst 1, 1) := dk_4 (dk_at dksX1_bestPair_0 16 rfl rfl)
theorem dX1_bestPair_17 : decode cX1_bestPair 17 = .ok (.goto 4, 3) := dk_167 0 4 (dk_at dksX1_bestPair_0 17 rfl rfl)
theorem dX1_bestPair_20 : decode cX1_bestPair 20 = .ok (.iconst 0, 1) := dk_3 (dk_at dksX1_bestPair_0 20 rfl rfl)
theorem dX1_bestPair_21 : decode cX1_bestPair 21 = .ok (.invokestatic 132, 3) := dk_184 0 132 (dk_at dksX1_bestPair_0 21 rfl rfl)
theorem dX1_bestPair_24 : decode cX1_bestPair 24 = .ok (.iload_n 1, 1) := dk_27 (dk_at dksX1_bestPair_1 0 rfl rfl)
theorem dX1_bestPair_25 : decode cX1_bestPair 25 = .ok (.iload_n 2, 1) := dk_28 (dk_at dksX1_bestPair_1 1 rfl rfl)
theorem dX1_bestPair_26 : decode cX1_bestPair 26 = .ok (.if_icmp .eq 19, 3) := dk_159 0 19 (dk_at dksX1_bestPair_1 2 rfl rfl)
theorem dX1_bestPair_29 : decode cX1_bestPair 29 = .ok (.iload_n 3, 1) := dk_29 (dk_at dksX1_bestPair_1 5 rfl rfl)
theorem dX1_bestPair_30 : decode cX1_bestPair 30 = .ok (.i2l, 1) := dk_133 (dk_at dksX1_bestPair_1 6 rfl rfl)
theorem dX1_bestPair_31 : decode cX1_bestPair 31 = .ok (.lconst 1, 1) := dk_10 (dk_at dksX1_bestPair_1 7 rfl rfl)
theorem dX1_bestPair_32 : decode cX1_bestPair 32 = .ok (.ldc2_w 223, 3) := dk_20 0 223 (dk_at dksX1_bestPair_1 8 rfl rfl)
theorem dX1_bestPair_35 : decode cX1_bestPair 35 = .ok (.invokestatic 121, 3) := dk_184 0 121 (dk_at dksX1_bestPair_1 11 rfl rfl)
theorem dX1_bestPair_38 : decode cX1_bestPair 38 = .ok (.ifCond .eq 7, 3) := dk_153 0 7 (dk_at dksX1_bestPair_1 14 rfl rfl)
theorem dX1_bestPair_41 : decode cX1_bestPair 41 = .ok (.iconst 1, 1) := dk_4 (dk_at dksX1_bestPair_1 17 rfl rfl)
theorem dX1_bestPair_42 : decode cX1_bestPair 42 = .ok (.goto 4, 3) := dk_167 0 4 (dk_at dksX1_bestPair_1 18 rfl rfl)
theorem dX1_bestPair_45 : decode cX1_bestPair 45 = .ok (.iconst 0, 1) := dk_3 (dk_at dksX1_bestPair_1 21 rfl rfl)
theorem dX1_bestPair_46 : decode cX1_bestPair 46 = .ok (.invokestatic 212, 3) := dk_184 0 212 (dk_at dksX1_bestPair_2 0 rfl rfl)
theorem dX1_bestPair_49 : decode cX1_bestPair 49 = .ok (.aload_n 0, 1) := dk_42 (dk_at dksX1_bestPair_2 3 rfl rfl)
theorem dX1_bestPair_50 : decode cX1_bestPair 50 = .ok (.getfield 19, 3) := dk_180 0 19 (dk_at dksX1_bestPair_2 4 rfl rfl)
theorem dX1_bestPair_53 : decode cX1_bestPair 53 = .ok (.getfield 99, 3) := dk_180 0 99 (dk_at dksX1_bestPair_2 7 rfl rfl)
theorem dX1_bestPair_56 : decode cX1_bestPair 56 = .ok (.getfield 103, 3) := dk_180 0 103 (dk_at dksX1_bestPair_2 10 rfl rfl)
theorem dX1_bestPair_59 : decode cX1_bestPair 59 = .ok (.iload_n 1, 1) := dk_27 (dk_at dksX1_bestPair_2 13 rfl rfl)
theorem dX1_bestPair_60 : decode cX1_bestPair 60 = .ok (.invokeinterface 136 2, 5) := by decide +kernel
theorem dX1_bestPair_65 : decode cX1_bestPair 65 = .ok (.checkcast 140, 3) := dk_192 0 140 (dk_at dksX1_bestPair_2 19 rfl rfl)
theorem dX1_bestPair_68 : decode cX1_bestPair 68 = .ok (.invokevirtual 160, 3) := dk_182 0 160 (dk_at dksX1_bestPair_3 0 rfl rfl)
theorem dX1_bestPair_71 : decode cX1_bestPair 71 = .ok (.istore 4, 2) := dk_54 4 (dk_at dksX1_bestPair_3 3 rfl rfl)
theorem dX1_bestPair_73 : decode cX1_bestPair 73 = .ok (.aload_n 0, 1) := dk_42 (dk_at dksX1_bestPair_3 5 rfl rfl)
theorem dX1_bestPair_74 : decode cX1_bestPair 74 = .ok (.getfield 19, 3) := dk_180 0 19 (dk_at dksX1_bestPair_3 6 rfl rfl)
theorem dX1_bestPair_77 : decode cX1_bestPair 77 = .ok (.getfield 99, 3) := dk_180 0 99 (dk_at dksX1_bestPair_3 9 rfl rfl)
theorem dX1_bestPair_80 : decode cX1_bestPair 80 = .ok (.getfield 103, 3) := dk_180 0 103 (dk_at dksX1_bestPair_3 12 rfl rfl)
theorem dX1_bestPair_83 : decode cX1_bestPair 83 = .ok (.iload_n 2, 1) := dk_28 (dk_at dksX1_bestPair_3 15 rfl rfl)
theorem dX1_bestPair_84 : decode cX1_bestPair 84 = .ok (.invokeinterface 136 2, 5) := by decide +kernel
theorem dX1_bestPair_89 : decode cX1_bestPair 89 = .ok (.checkcast 140, 3) := dk_192 0 140 (dk_at dksX1_bestPair_3 21 rfl rfl)
theorem dX1_bestPair_92 : decode cX1_bestPair 92 = .ok (.invokevirtual 160, 3) := dk_182 0 160 (dk_at dksX1_bestPair_4 0 rfl rfl)
theorem dX1_bestPair_95 : decode cX1_bestPair 95 = .ok (.istore 5, 2) := dk_54 5 (dk_at dksX1_bestPair_4 3 rfl rfl)
theorem dX1_bestPair_97 : decode cX1_bestPair 97 = .ok (.iload 4, 2) := dk_21 4 (dk_at dksX1_bestPair_4 5 rfl rfl)
theorem dX1_bestPair_99 : decode cX1_bestPair 99 = .ok (.iload_n 3, 1) := dk_29 (dk_at dksX1_bestPair_4 7 rfl rfl)
theorem dX1_bestPair_100 : decode cX1_bestPair 100 = .ok (.idiv, 1) := dk_108 (dk_at dksX1_bestPair_4 8 rfl rfl)
theorem dX1_bestPair_101 : decode cX1_bestPair 101 = .ok (.iconst 1, 1) := dk_4 (dk_at dksX1_bestPair_4 9 rfl rfl)
theorem dX1_bestPair_102 : decode cX1_bestPair 102 = .ok (.iadd, 1) := dk_96 (dk_at dksX1_bestPair_4 10 rfl rfl)
theorem dX1_bestPair_103 : decode cX1_bestPair 103 = .ok (.iload 5, 2) := dk_21 5 (dk_at dksX1_bestPair_4 11 rfl rfl)
theorem dX1_bestPair_105 : decode cX1_bestPair 105 = .ok (.iload_n 3, 1) := dk_29 (dk_at dksX1_bestPair_4 13 rfl rfl)
theorem dX1_bestPair_106 : decode cX1_bestPair 106 = .ok (.idiv, 1) := dk_108 (dk_at dksX1_bestPair_4 14 rfl rfl)
theorem dX1_bestPair_107 : decode cX1_bestPair 107 = .ok (.iconst 1, 1) := dk_4 (dk_at dksX1_bestPair_4 15 rfl rfl)
theorem dX1_bestPair_108 : decode cX1_bestPair 108 = .ok (.iadd, 1) := dk_96 (dk_at dksX1_bestPair_4 16 rfl rfl)
theorem dX1_bestPair_109 : decode cX1_bestPair 109 = .ok (.imul, 1) := dk_104 (dk_at dksX1_bestPair_4 17 rfl rfl)
theorem dX1_bestPair_110 : decode cX1_bestPair 110 = .ok (.sipush 400, 3) := dk_17 1 144 (dk_at dksX1_bestPair_4 18 rfl rfl)
theorem dX1_bestPair_113 : decode cX1_bestPair 113 = .ok (.if_icmp .le 6, 3) := dk_164 0 6 (dk_at dksX1_bestPair_4 21 rfl rfl)
theorem dX1_bestPair_116 : decode cX1_bestPair 116 = .ok (.bipush (-3), 2) := dk_16 253 (dk_at dksX1_bestPair_5 0 rfl rfl)
theorem dX1_bestPair_118 : decode cX1_bestPair 118 = .ok (.ireturn, 1) := dk_172 (dk_at dksX1_bestPair_5 2 rfl rfl)
theorem dX1_bestPair_119 : decode cX1_bestPair 119 = .ok (.aload_n 0, 1) := dk_42 (dk_at dksX1_bestPair_5 3 rfl rfl)
theorem dX1_bestPair_120 : decode cX1_bestPair 120 = .ok (.getfield 19, 3) := dk_180 0 19 (dk_at dksX1_bestPair_5 4 rfl rfl)
theorem dX1_bestPair_123 : decode cX1_bestPair 123 = .ok (.getfield 218, 3) := dk_180 0 218 (dk_at dksX1_bestPair_5 7 rfl rfl)
theorem dX1_bestPair_126 : decode cX1_bestPair 126 = .ok (.iload_n 1, 1) := dk_27 (dk_at dksX1_bestPair_5 10 rfl rfl)
theorem dX1_bestPair_127 : decode cX1_bestPair 127 = .ok (.iaload, 1) := dk_46 (dk_at dksX1_bestPair_5 11 rfl rfl)
theorem dX1_bestPair_128 : decode cX1_bestPair 128 = .ok (.istore 6, 2) := dk_54 6 (dk_at dksX1_bestPair_5 12 rfl rfl)
theorem dX1_bestPair_130 : decode cX1_bestPair 130 = .ok (.aload_n 0, 1) := dk_42 (dk_at dksX1_bestPair_5 14 rfl rfl)
theorem dX1_bestPair_131 : decode cX1_bestPair 131 = .ok (.getfield 19, 3) := dk_180 0 19 (dk_at dksX1_bestPair_5 15 rfl rfl)
theorem dX1_bestPair_134 : decode cX1_bestPair 134 = .ok (.getfield 218, 3) := dk_180 0 218 (dk_at dksX1_bestPair_5 18 rfl rfl)
theorem dX1_bestPair_137 : decode cX1_bestPair 137 = .ok (.iload_n 2, 1) := dk_28 (dk_at dksX1_bestPair_5 21 rfl rfl)
theorem dX1_bestPair_138 : decode cX1_bestPair 138 = .ok (.iaload, 1) := dk_46 (dk_at dksX1_bestPair_5 22 rfl rfl)
theorem dX1_bestPair_139 : decode cX1_bestPair 139 = .ok (.istore 7, 2) := dk_54 7 (dk_at dksX1_bestPair_6 0 rfl rfl)
theorem dX1_bestPair_141 : decode cX1_bestPair 141 = .ok (.iconst (-1), 1) := dk_2 (dk_at dksX1_bestPair_6 2 rfl rfl)
theorem dX1_bestPair_142 : decode cX1_bestPair 142 = .ok (.istore 8, 2) := dk_54 8 (dk_at dksX1_bestPair_6 3 rfl rfl)
theorem dX1_bestPair_144 : decode cX1_bestPair 144 = .ok (.ldc2_w 336, 3) := dk_20 1 80 (dk_at dksX1_bestPair_6 5 rfl rfl)
theorem dX1_bestPair_147 : decode cX1_bestPair 147 = .ok (.lstore 9, 2) := dk_55 9 (dk_at dksX1_bestPair_6 8 rfl rfl)
theorem dX1_bestPair_149 : decode cX1_bestPair 149 = .ok (.aload_n 0, 1) := dk_42 (dk_at dksX1_bestPair_6 10 rfl rfl)
theorem dX1_bestPair_150 : decode cX1_bestPair 150 = .ok (.getfield 19, 3) := dk_180 0 19 (dk_at dksX1_bestPair_6 11 rfl rfl)
theorem dX1_bestPair_153 : decode cX1_bestPair 153 = .ok (.getfield 218, 3) := dk_180 0 218 (dk_at dksX1_bestPair_6 14 rfl rfl)
theorem dX1_bestPair_156 : decode cX1_bestPair 156 = .ok (.iload_n 1, 1) := dk_27 (dk_at dksX1_bestPair_6 17 rfl rfl)
theorem dX1_bestPair_157 : decode cX1_bestPair 157 = .ok (.iconst 0, 1) := dk_3 (dk_at dksX1_bestPair_6 18 rfl rfl)
theorem dX1_bestPair_158 : decode cX1_bestPair 158 = .ok (.iastore, 1) := dk_79 (dk_at dksX1_bestPair_6 19 rfl rfl)
theorem dX1_bestPair_159 : decode cX1_bestPair 159 = .ok (.aload_n 0, 1) := dk_42 (dk_at dksX1_bestPair_6 20 rfl rfl)
theorem dX1_bestPair_160 : decode cX1_bestPair 160 = .ok (.getfield 19, 3) := dk_180 0 19 (dk_at dksX1_bestPair_6 21 rfl rfl)
theorem dX1_bestPair_163 : decode cX1_bestPair 163 = .ok (.getfield 218, 3) := dk_180 0 218 (dk_at dksX1_bestPair_7 0 rfl rfl)
theorem dX1_bestPair_166 : decode cX1_bestPair 166 = .ok (.iload_n 1, 1) := dk_27 (dk_at dksX1_bestPair_7 3 rfl rfl)
theorem dX1_bestPair_167 : decode cX1_bestPair 167 = .ok (.iaload, 1) := dk_46 (dk_at dksX1_bestPair_7 4 rfl rfl)
theorem dX1_bestPair_168 : decode cX1_bestPair 168 = .ok (.iload 4, 2) := dk_21 4 (dk_at dksX1_bestPair_7 5 rfl rfl)
theorem dX1_bestPair_170 : decode cX1_bestPair 170 = .ok (.if_icmp .gt 105, 3) := dk_163 0 105 (dk_at dksX1_bestPair_7 7 rfl rfl)
theorem dX1_bestPair_173 : decode cX1_bestPair 173 = .ok (.aload_n 0, 1) := dk_42 (dk_at dksX1_bestPair_7 10 rfl rfl)
theorem dX1_bestPair_174 : decode cX1_bestPair 174 = .ok (.getfield 19, 3) := dk_180 0 19 (dk_at dksX1_bestPair_7 11 rfl rfl)
theorem dX1_bestPair_177 : decode cX1_bestPair 177 = .ok (.getfield 218, 3) := dk_180 0 218 (dk_at dksX1_bestPair_7 14 rfl rfl)
theorem dX1_bestPair_180 : decode cX1_bestPair 180 = .ok (.iload_n 2, 1) := dk_28 (dk_at dksX1_bestPair_7 17 rfl rfl)
theorem dX1_bestPair_181 : decode cX1_bestPair 181 = .ok (.iconst 0, 1) := dk_3 (dk_at dksX1_bestPair_7 18 rfl rfl)
theorem dX1_bestPair_182 : decode cX1_bestPair 182 = .ok (.iastore, 1) := dk_79 (dk_at dksX1_bestPair_7 19 rfl rfl)
theorem dX1_bestPair_183 : decode cX1_bestPair 183 = .ok (.aload_n 0, 1) := dk_42 (dk_at dksX1_bestPair_7 20 rfl rfl)
theorem dX1_bestPair_184 : decode cX1_bestPair 184 = .ok (.getfield 19, 3) := dk_180 0 19 (dk_at dksX1_bestPair_7 21 rfl rfl)
theorem dX1_bestPair_187 : decode cX1_bestPair 187 = .ok (.getfield 218, 3) := dk_180 0 218 (dk_at dksX1_bestPair_8 0 rfl rfl)
theorem dX1_bestPair_190 : decode cX1_bestPair 190 = .ok (.iload_n 2, 1) := dk_28 (dk_at dksX1_bestPair_8 3 rfl rfl)
theorem dX1_bestPair_191 : decode cX1_bestPair 191 = .ok (.iaload, 1) := dk_46 (dk_at dksX1_bestPair_8 4 rfl rfl)
theorem dX1_bestPair_192 : decode cX1_bestPair 192 = .ok (.iload 5, 2) := dk_21 5 (dk_at dksX1_bestPair_8 5 rfl rfl)
theorem dX1_bestPair_194 : decode cX1_bestPair 194 = .ok (.if_icmp .gt 65, 3) := dk_163 0 65 (dk_at dksX1_bestPair_8 7 rfl rfl)
theorem dX1_bestPair_197 : decode cX1_bestPair 197 = .ok (.aload_n 0, 1) := dk_42 (dk_at dksX1_bestPair_8 10 rfl rfl)
theorem dX1_bestPair_198 : decode cX1_bestPair 198 = .ok (.invokevirtual 329, 3) := dk_182 1 73 (dk_at dksX1_bestPair_8 11 rfl rfl)
theorem dX1_bestPair_201 : decode cX1_bestPair 201 = .ok (.lstore 11, 2) := dk_55 11 (dk_at dksX1_bestPair_8 14 rfl rfl)
theorem dX1_bestPair_203 : decode cX1_bestPair 203 = .ok (.lload 11, 2) := dk_22 11 (dk_at dksX1_bestPair_8 16 rfl rfl)
theorem dX1_bestPair_205 : decode cX1_bestPair 205 = .ok (.lload 9, 2) := dk_22 9 (dk_at dksX1_bestPair_8 18 rfl rfl)
theorem dX1_bestPair_207 : decode cX1_bestPair 207 = .ok (.lcmp, 1) := dk_148 (dk_at dksX1_bestPair_8 20 rfl rfl)
theorem dX1_bestPair_208 : decode cX1_bestPair 208 = .ok (.ifCond .gt 6, 3) := dk_157 0 6 (dk_at dksX1_bestPair_8 21 rfl rfl)
theorem dX1_bestPair_211 : decode cX1_bestPair 211 = .ok (.goto 32, 3) := dk_167 0 32 (dk_at dksX1_bestPair_9 0 rfl rfl)
theorem dX1_bestPair_214 : decode cX1_bestPair 214 = .ok (.sipush 10000, 3) := dk_17 39 16 (dk_at dksX1_bestPair_9 3 rfl rfl)
theorem dX1_bestPair_217 : decode cX1_bestPair 217 = .ok (.aload_n 0, 1) := dk_42 (dk_at dksX1_bestPair_9 6 rfl rfl)
theorem dX1_bestPair_218 : decode cX1_bestPair 218 = .ok (.getfield 19, 3) := dk_180 0 19 (dk_at dksX1_bestPair_9 7 rfl rfl)
theorem dX1_bestPair_221 : decode cX1_bestPair 221 = .ok (.getfield 218, 3) := dk_180 0 218 (dk_at dksX1_bestPair_9 10 rfl rfl)
theorem dX1_bestPair_224 : decode cX1_bestPair 224 = .ok (.iload_n 1, 1) := dk_27 (dk_at dksX1_bestPair_9 13 rfl rfl)
theorem dX1_bestPair_225 : decode cX1_bestPair 225 = .ok (.iaload, 1) := dk_46 (dk_at dksX1_bestPair_9 14 rfl rfl)
theorem dX1_bestPair_226 : decode cX1_bestPair 226 = .ok (.imul, 1) := dk_104 (dk_at dksX1_bestPair_9 15 rfl rfl)
theorem dX1_bestPair_227 : decode cX1_bestPair 227 = .ok (.aload_n 0, 1) := dk_42 (dk_at dksX1_bestPair_9 16 rfl rfl)
theorem dX1_bestPair_228 : decode cX1_bestPair 228 = .ok (.getfield 19, 3) := dk_180 0 19 (dk_at dksX1_bestPair_9 17 rfl rfl)
theorem dX1_bestPair_231 : decode cX1_bestPair 231 = .ok (.getfield 218, 3) := dk_180 0 218 (dk_at dksX1_bestPair_9 20 rfl rfl)
theorem dX1_bestPair_234 : decode cX1_bestPair 234 = .ok (.iload_n 2, 1) := dk_28 (dk_at dksX1_bestPair_9 23 rfl rfl)
theorem dX1_bestPair_235 : decode cX1_bestPair 235 = .ok (.iaload, 1) := dk_46 (dk_at dksX1_bestPair_10 0 rfl rfl)
theorem dX1_bestPair_236 : decode cX1_bestPair 236 = .ok (.iadd, 1) := dk_96 (dk_at dksX1_bestPair_10 1 rfl rfl)
theorem dX1_bestPair_237 : decode cX1_bestPair 237 = .ok (.istore 8, 2) := dk_54 8 (dk_at dksX1_bestPair_10 2 rfl rfl)
theorem dX1_bestPair_239 : decode cX1_bestPair 239 = .ok (.lload 11, 2) := dk_22 11 (dk_at dksX1_bestPair_10 4 rfl rfl)
theorem dX1_bestPair_241 : decode cX1_bestPair 241 = .ok (.lstore 9, 2) := dk_55 9 (dk_at dksX1_bestPair_10 6 rfl rfl)
theorem dX1_bestPair_243 : decode cX1_bestPair 243 = .ok (.aload_n 0, 1) := dk_42 (dk_at dksX1_bestPair_10 8 rfl rfl)
theorem dX1_bestPair_244 : decode cX1_bestPair 244 = .ok (.getfield 19, 3) := dk_180 0 19 (dk_at dksX1_bestPair_10 9 rfl rfl)
theorem dX1_bestPair_247 : decode cX1_bestPair 247 = .ok (.getfield 218, 3) := dk_180 0 218 (dk_at dksX1_bestPair_10 12 rfl rfl)
theorem dX1_bestPair_250 : decode cX1_bestPair 250 = .ok (.iload_n 2, 1) := dk_28 (dk_at dksX1_bestPair_10 15 rfl rfl)
theorem dX1_bestPair_251 : decode cX1_bestPair 251 = .ok (.dup2, 1) := dk_92 (dk_at dksX1_bestPair_10 16 rfl rfl)
theorem dX1_bestPair_252 : decode cX1_bestPair 252 = .ok (.iaload, 1) := dk_46 (dk_at dksX1_bestPair_10 17 rfl rfl)
theorem dX1_bestPair_253 : decode cX1_bestPair 253 = .ok (.iload_n 3, 1) := dk_29 (dk_at dksX1_bestPair_10 18 rfl rfl)
theorem dX1_bestPair_254 : decode cX1_bestPair 254 = .ok (.iadd, 1) := dk_96 (dk_at dksX1_bestPair_10 19 rfl rfl)
theorem dX1_bestPair_255 : decode cX1_bestPair 255 = .ok (.iastore, 1) := dk_79 (dk_at dksX1_bestPair_10 20 rfl rfl)
theorem dX1_bestPair_256 : decode cX1_bestPair 256 = .ok (.goto (-73), 3) := dk_167 255 183 (dk_at dksX1_bestPair_10 21 rfl rfl)
theorem dX1_bestPair_259 : decode cX1_bestPair 259 = .ok (.aload_n 0, 1) := dk_42 (dk_at dksX1_bestPair_11 0 rfl rfl)
theorem dX1_bestPair_260 : decode cX1_bestPair 260 = .ok (.getfield 19, 3) := dk_180 0 19 (dk_at dksX1_bestPair_11 1 rfl rfl)
theorem dX1_bestPair_263 : decode cX1_bestPair 263 = .ok (.getfield 218, 3) := dk_180 0 218 (dk_at dksX1_bestPair_11 4 rfl rfl)
theorem dX1_bestPair_266 : decode cX1_bestPair 266 = .ok (.iload_n 1, 1) := dk_27 (dk_at dksX1_bestPair_11 7 rfl rfl)
theorem dX1_bestPair_267 : decode cX1_bestPair 267 = .ok (.dup2, 1) := dk_92 (dk_at dksX1_bestPair_11 8 rfl rfl)
theorem dX1_bestPair_268 : decode cX1_bestPair 268 = .ok (.iaload, 1) := dk_46 (dk_at dksX1_bestPair_11 9 rfl rfl)
theorem dX1_bestPair_269 : decode cX1_bestPair 269 = .ok (.iload_n 3, 1) := dk_29 (dk_at dksX1_bestPair_11 10 rfl rfl)
theorem dX1_bestPair_270 : decode cX1_bestPair 270 = .ok (.iadd, 1) := dk_96 (dk_at dksX1_bestPair_11 11 rfl rfl)
theorem dX1_bestPair_271 : decode cX1_bestPair 271 = .ok (.iastore, 1) := dk_79 (dk_at dksX1_bestPair_11 12 rfl rfl)
theorem dX1_bestPair_272 : decode cX1_bestPair 272 = .ok (.goto (-113), 3) := dk_167 255 143 (dk_at dksX1_bestPair_11 13 rfl rfl)
theorem dX1_bestPair_275 : decode cX1_bestPair 275 = .ok (.aload_n 0, 1) := dk_42 (dk_at dksX1_bestPair_11 16 rfl rfl)
theorem dX1_bestPair_276 : decode cX1_bestPair 276 = .ok (.getfield 19, 3) := dk_180 0 19 (dk_at dksX1_bestPair_11 17 rfl rfl)
theorem dX1_bestPair_279 : decode cX1_bestPair 279 = .ok (.getfield 218, 3) := dk_180 0 218 (dk_at dksX1_bestPair_11 20 rfl rfl)
theorem dX1_bestPair_282 : decode cX1_bestPair 282 = .ok (.iload_n 1, 1) := dk_27 (dk_at dksX1_bestPair_11 23 rfl rfl)
theorem dX1_bestPair_283 : decode cX1_bestPair 283 = .ok (.iload 6, 2) := dk_21 6 (dk_at dksX1_bestPair_12 0 rfl rfl)
theorem dX1_bestPair_285 : decode cX1_bestPair 285 = .ok (.iastore, 1) := dk_79 (dk_at dksX1_bestPair_12 2 rfl rfl)
theorem dX1_bestPair_286 : decode cX1_bestPair 286 = .ok (.aload_n 0, 1) := dk_42 (dk_at dksX1_bestPair_12 3 rfl rfl)
theorem dX1_bestPair_287 : decode cX1_bestPair 287 = .ok (.getfield 19, 3) := dk_180 0 19 (dk_at dksX1_bestPair_12 4 rfl rfl)
theorem dX1_bestPair_290 : decode cX1_bestPair 290 = .ok (.getfield 218, 3) := dk_180 0 218 (dk_at dksX1_bestPair_12 7 rfl rfl)
theorem dX1_bestPair_293 : decode cX1_bestPair 293 = .ok (.iload_n 2, 1) := dk_28 (dk_at dksX1_bestPair_12 10 rfl rfl)
theorem dX1_bestPair_294 : decode cX1_bestPair 294 = .ok (.iload 7, 2) := dk_21 7 (dk_at dksX1_bestPair_12 11 rfl rfl)
theorem dX1_bestPair_296 : decode cX1_bestPair 296 = .ok (.iastore, 1) := dk_79 (dk_at dksX1_bestPair_12 13 rfl rfl)
theorem dX1_bestPair_297 : decode cX1_bestPair 297 = .ok (.iload 8, 2) := dk_21 8 (dk_at dksX1_bestPair_12 14 rfl rfl)
theorem dX1_bestPair_299 : decode cX1_bestPair 299 = .ok (.ireturn, 1) := dk_172 (dk_at dksX1_bestPair_12 16 rfl rfl)
abbrev cX1_detour : ByteArray := prog_1_method_62_code
def yX1_detour : MethodName := ⟨RX1, "detour", "(II)I"⟩
def dkwX1_detour_3 : List UInt8 := [182, 1, 33, 101, 136, 172]
abbrev dktX1_detour_3 : List UInt8 := dkwX1_detour_3 ++ []
def dkwX1_detour_2 : List UInt8 := [182, 1, 114, 55, 4, 22, 4, 20, 1, 37, 148, 154, 0, 7, 2, 167, 0, 12, 22, 4, 42, 45]
abbrev dktX1_detour_2 : List UInt8 := dkwX1_detour_2 ++ dktX1_detour_3
def dkwX1_detour_1 : List UInt8 := [42, 180, 0, 19, 180, 0, 99, 180, 0, 125, 27, 185, 0, 136, 2, 0, 192, 0, 145, 78, 42, 45, 28]
abbrev dktX1_detour_1 : List UInt8 := dkwX1_detour_1 ++ dktX1_detour_2
def dkwX1_detour_0 : List UInt8 := [42, 27, 182, 0, 142, 153, 0, 15, 42, 28, 182, 0, 128, 153, 0, 7, 4, 167, 0, 4, 3, 184, 0, 132]
abbrev dktX1_detour_0 : List UInt8 := dkwX1_detour_0 ++ dktX1_detour_1
theorem dksX1_detour_0 : cX1_detour.data.toList.drop 0 = dktX1_detour_0 := by decide +kernel
theorem dksX1_detour_1 : cX1_detour.data.toList.drop 24 = dktX1_detour_1 := dk_seg dksX1_detour_0 24 rfl rfl
theorem dksX1_detour_2 : cX1_detour.data.toList.drop 47 = dktX1_detour_2 := dk_seg dksX1_detour_1 23 rfl rfl
theorem dksX1_detour_3 : cX1_detour.data.toList.drop 69 = dktX1_detour_3 := dk_seg dksX1_detour_2 22 rfl rfl
theorem dX1_detour_0 : decode cX1_detour 0 = .ok (.aload_n 0, 1) := dk_42 (dk_at dksX1_detour_0 0 rfl rfl)
theorem dX1_detour_1 : decode cX1_detour 1 = .ok (.iload_n 1, 1) := dk_27 (dk_at dksX1_detour_0 1 rfl rfl)
theorem dX1_detour_2 : decode cX1_detour 2 = .ok (.invokevirtual 142, 3) := dk_182 0 142 (dk_at dksX1_detour_0 2 rfl rfl)
theorem dX1_detour_5 : decode cX1_detour 5 = .ok (.ifCond .eq 15, 3) := dk_153 0 15 (dk_at dksX1_detour_0 5 rfl rfl)
theorem dX1_detour_8 : decode cX1_detour 8 = .ok (.aload_n 0, 1) := dk_42 (dk_at dksX1_detour_0 8 rfl rfl)
theorem dX1_detour_9 : decode cX1_detour 9 = .ok (.iload_n 2, 1) := dk_28 (dk_at dksX1_detour_0 9 rfl rfl)
theorem dX1_detour_10 : decode cX1_detour 10 = .ok (.invokevirtual 128, 3) := dk_182 0 128 (dk_at dksX1_detour_0 10 rfl rfl)
theorem dX1_detour_13 : decode cX1_detour 13 = .ok (.ifCond .eq 7, 3) := dk_153 0 7 (dk_at dksX1_detour_0 13 rfl rfl)
theorem dX1_detour_16 : decode cX1_detour 16 = .ok (.iconst 1, 1) := dk_4 (dk_at dksX1_detour_0 16 rfl rfl)
theorem dX1_detour_17 : decode cX1_detour 17 = .ok (.goto 4, 3) := dk_167 0 4 (dk_at dksX1_detour_0 17 rfl rfl)
theorem dX1_detour_20 : decode cX1_detour 20 = .ok (.iconst 0, 1) := dk_3 (dk_at dksX1_detour_0 20 rfl rfl)
theorem dX1_detour_21 : decode cX1_detour 21 = .ok (.invokestatic 132, 3) := dk_184 0 132 (dk_at dksX1_detour_0 21 rfl rfl)
theorem dX1_detour_24 : decode cX1_detour 24 = .ok (.aload_n 0, 1) := dk_42 (dk_at dksX1_detour_1 0 rfl rfl)
theorem dX1_detour_25 : decode cX1_detour 25 = .ok (.getfield 19, 3) := dk_180 0 19 (dk_at dksX1_detour_1 1 rfl rfl)
theorem dX1_detour_28 : decode cX1_detour 28 = .ok (.getfield 99, 3) := dk_180 0 99 (dk_at dksX1_detour_1 4 rfl rfl)
theorem dX1_detour_31 : decode cX1_detour 31 = .ok (.getfield 125, 3) := dk_180 0 125 (dk_at dksX1_detour_1 7 rfl rfl)
theorem dX1_detour_34 : decode cX1_detour 34 = .ok (.iload_n 1, 1) := dk_27 (dk_at dksX1_detour_1 10 rfl rfl)
theorem dX1_detour_35 : decode cX1_detour 35 = .ok (.invokeinterface 136 2, 5) := by decide +kernel
theorem dX1_detour_40 : decode cX1_detour 40 = .ok (.checkcast 145, 3) := dk_192 0 145 (dk_at dksX1_detour_1 16 rfl rfl)
theorem dX1_detour_43 : decode cX1_detour 43 = .ok (.astore_n 3, 1) := dk_78 (dk_at dksX1_detour_1 19 rfl rfl)
theorem dX1_detour_44 : decode cX1_detour 44 = .ok (.aload_n 0, 1) := dk_42 (dk_at dksX1_detour_1 20 rfl rfl)
theorem dX1_detour_45 : decode cX1_detour 45 = .ok (.aload_n 3, 1) := dk_45 (dk_at dksX1_detour_1 21 rfl rfl)
theorem dX1_detour_46 : decode cX1_detour 46 = .ok (.iload_n 2, 1) := dk_28 (dk_at dksX1_detour_1 22 rfl rfl)
theorem dX1_detour_47 : decode cX1_detour 47 = .ok (.invokevirtual 370, 3) := dk_182 1 114 (dk_at dksX1_detour_2 0 rfl rfl)
theorem dX1_detour_50 : decode cX1_detour 50 = .ok (.lstore 4, 2) := dk_55 4 (dk_at dksX1_detour_2 3 rfl rfl)
theorem dX1_detour_52 : decode cX1_detour 52 = .ok (.lload 4, 2) := dk_22 4 (dk_at dksX1_detour_2 5 rfl rfl)
theorem dX1_detour_54 : decode cX1_detour 54 = .ok (.ldc2_w 293, 3) := dk_20 1 37 (dk_at dksX1_detour_2 7 rfl rfl)
theorem dX1_detour_57 : decode cX1_detour 57 = .ok (.lcmp, 1) := dk_148 (dk_at dksX1_detour_2 10 rfl rfl)
theorem dX1_detour_58 : decode cX1_detour 58 = .ok (.ifCond .ne 7, 3) := dk_154 0 7 (dk_at dksX1_detour_2 11 rfl rfl)
theorem dX1_detour_61 : decode cX1_detour 61 = .ok (.iconst (-1), 1) := dk_2 (dk_at dksX1_detour_2 14 rfl rfl)
theorem dX1_detour_62 : decode cX1_detour 62 = .ok (.goto 12, 3) := dk_167 0 12 (dk_at dksX1_detour_2 15 rfl rfl)
theorem dX1_detour_65 : decode cX1_detour 65 = .ok (.lload 4, 2) := dk_22 4 (dk_at dksX1_detour_2 18 rfl rfl)
theorem dX1_detour_67 : decode cX1_detour 67 = .ok (.aload_n 0, 1) := dk_42 (dk_at dksX1_detour_2 20 rfl rfl)
theorem dX1_detour_68 : decode cX1_detour 68 = .ok (.aload_n 3, 1) := dk_45 (dk_at dksX1_detour_2 21 rfl rfl)
theorem dX1_detour_69 : decode cX1_detour 69 = .ok (.invokevirtual 289, 3) := dk_182 1 33 (dk_at dksX1_detour_3 0 rfl rfl)
theorem dX1_detour_72 : decode cX1_detour 72 = .ok (.lsub, 1) := dk_101 (dk_at dksX1_detour_3 3 rfl rfl)
theorem dX1_detour_73 : decode cX1_detour 73 = .ok (.l2i, 1) := dk_136 (dk_at dksX1_detour_3 4 rfl rfl)
theorem dX1_detour_74 : decode cX1_detour 74 = .ok (.ireturn, 1) := dk_172 (dk_at dksX1_detour_3 5 rfl rfl)
abbrev cX1_feltWithout : ByteArray := prog_1_method_61_code
def yX1_feltWithout : MethodName := ⟨RX1, "feltWithout", "(LTollLeader$Trip;I)J"⟩
def dkwX1_feltWithout_1 : List UInt8 := [43, 182, 1, 33, 55, 4, 42, 180, 0, 19, 180, 0, 169, 28, 29, 182, 0, 241, 22, 4, 173]
abbrev dktX1_feltWithout_1 : List UInt8 := dkwX1_feltWithout_1 ++ []
def dkwX1_feltWithout_0 : List UInt8 := [42, 180, 0, 19, 180, 0, 169, 28, 182, 0, 239, 62, 42, 180, 0, 19, 180, 0, 169, 28, 182, 1, 112, 42]
abbrev dktX1_feltWithout_0 : List UInt8 := dkwX1_feltWithout_0 ++ dktX1_feltWithout_1
theorem dksX1_feltWithout_0 : cX1_feltWithout.data.toList.drop 0 = dktX1_feltWithout_0 := by decide +kernel
theorem dksX1_feltWithout_1 : cX1_feltWithout.data.toList.drop 24 = dktX1_feltWithout_1 := dk_seg dksX1_feltWithout_0 24 rfl rfl
theorem dX1_feltWithout_0 : decode cX1_feltWithout 0 = .ok (.aload_n 0, 1) := dk_42 (dk_at dksX1_feltWithout_0 0 rfl rfl)
theorem dX1_feltWithout_1 : decode cX1_feltWithout 1 = .ok (.getfield 19, 3) := dk_180 0 19 (dk_at dksX1_feltWithout_0 1 rfl rfl)
theorem dX1_feltWithout_4 : decode cX1_feltWithout 4 = .ok (.getfield 169, 3) := dk_180 0 169 (dk_at dksX1_feltWithout_0 4 rfl rfl)
theorem dX1_feltWithout_7 : decode cX1_feltWithout 7 = .ok (.iload_n 2, 1) := dk_28 (dk_at dksX1_feltWithout_0 7 rfl rfl)
theorem dX1_feltWithout_8 : decode cX1_feltWithout 8 = .ok (.invokevirtual 239, 3) := dk_182 0 239 (dk_at dksX1_feltWithout_0 8 rfl rfl)
theorem dX1_feltWithout_11 : decode cX1_feltWithout 11 = .ok (.istore_n 3, 1) := dk_62 (dk_at dksX1_feltWithout_0 11 rfl rfl)
theorem dX1_feltWithout_12 : decode cX1_feltWithout 12 = .ok (.aload_n 0, 1) := dk_42 (dk_at dksX1_feltWithout_0 12 rfl rfl)
theorem dX1_feltWithout_13 : decode cX1_feltWithout 13 = .ok (.getfield 19, 3) := dk_180 0 19 (dk_at dksX1_feltWithout_0 13 rfl rfl)
theorem dX1_feltWithout_16 : decode cX1_feltWithout 16 = .ok (.getfield 169, 3) := dk_180 0 169 (dk_at dksX1_feltWithout_0 16 rfl rfl)
theorem dX1_feltWithout_19 : decode cX1_feltWithout 19 = .ok (.iload_n 2, 1) := dk_28 (dk_at dksX1_feltWithout_0 19 rfl rfl)
theorem dX1_feltWithout_20 : decode cX1_feltWithout 20 = .ok (.invokevirtual 368, 3) := dk_182 1 112 (dk_at dksX1_feltWithout_0 20 rfl rfl)
theorem dX1_feltWithout_23 : decode cX1_feltWithout 23 = .ok (.aload_n 0, 1) := dk_42 (dk_at dksX1_feltWithout_0 23 rfl rfl)
theorem dX1_feltWithout_24 : decode cX1_feltWithout 24 = .ok (.aload_n 1, 1) := dk_43 (dk_at dksX1_feltWithout_1 0 rfl rfl)
theorem dX1_feltWithout_25 : decode cX1_feltWithout 25 = .ok (.invokevirtual 289, 3) := dk_182 1 33 (dk_at dksX1_feltWithout_1 1 rfl rfl)
theorem dX1_feltWithout_28 : decode cX1_feltWithout 28 = .ok (.lstore 4, 2) := dk_55 4 (dk_at dksX1_feltWithout_1 4 rfl rfl)
theorem dX1_feltWithout_30 : decode cX1_feltWithout 30 = .ok (.aload_n 0, 1) := dk_42 (dk_at dksX1_feltWithout_1 6 rfl rfl)
theorem dX1_feltWithout_31 : decode cX1_feltWithout 31 = .ok (.getfield 19, 3) := dk_180 0 19 (dk_at dksX1_feltWithout_1 7 rfl rfl)
theorem dX1_feltWithout_34 : decode cX1_feltWithout 34 = .ok (.getfield 169, 3) := dk_180 0 169 (dk_at dksX1_feltWithout_1 10 rfl rfl)
theorem dX1_feltWithout_37 : decode cX1_feltWithout 37 = .ok (.iload_n 2, 1) := dk_28 (dk_at dksX1_feltWithout_1 13 rfl rfl)
theorem dX1_feltWithout_38 : decode cX1_feltWithout 38 = .ok (.iload_n 3, 1) := dk_29 (dk_at dksX1_feltWithout_1 14 rfl rfl)
theorem dX1_feltWithout_39 : decode cX1_feltWithout 39 = .ok (.invokevirtual 241, 3) := dk_182 0 241 (dk_at dksX1_feltWithout_1 15 rfl rfl)
theorem dX1_feltWithout_42 : decode cX1_feltWithout 42 = .ok (.lload 4, 2) := dk_22 4 (dk_at dksX1_feltWithout_1 18 rfl rfl)
theorem dX1_feltWithout_44 : decode cX1_feltWithout 44 = .ok (.lreturn, 1) := dk_173 (dk_at dksX1_feltWithout_1 20 rfl rfl)
abbrev cX1_captives : ByteArray := prog_1_method_63_code
def yX1_captives : MethodName := ⟨RX1, "captives", "(I)I"⟩
def dkwX1_captives_4 : List UInt8 := [167, 255, 176, 28, 172]
abbrev dktX1_captives_4 : List UInt8 := dkwX1_captives_4 ++ []
def dkwX1_captives_3 : List UInt8 := [182, 1, 114, 20, 1, 37, 148, 154, 0, 9, 4, 29, 120, 167, 0, 4, 3, 128, 61, 132, 3, 1]
abbrev dktX1_captives_3 : List UInt8 := dkwX1_captives_3 ++ dktX1_captives_4
def dkwX1_captives_2 : List UInt8 := [192, 0, 145, 58, 4, 28, 42, 25, 4, 182, 1, 33, 20, 1, 37, 148, 153, 0, 23, 42, 25, 4, 27]
abbrev dktX1_captives_2 : List UInt8 := dkwX1_captives_2 ++ dktX1_captives_3
def dkwX1_captives_1 : List UInt8 := [185, 0, 107, 1, 0, 162, 0, 67, 42, 180, 0, 19, 180, 0, 99, 180, 0, 125, 29, 185, 0, 136, 2, 0]
abbrev dktX1_captives_1 : List UInt8 := dkwX1_captives_1 ++ dktX1_captives_2
def dkwX1_captives_0 : List UInt8 := [42, 27, 182, 0, 128, 184, 0, 132, 3, 61, 3, 62, 29, 42, 180, 0, 19, 180, 0, 99, 180, 0, 125]
abbrev dktX1_captives_0 : List UInt8 := dkwX1_captives_0 ++ dktX1_captives_1
theorem dksX1_captives_0 : cX1_captives.data.toList.drop 0 = dktX1_captives_0 := by decide +kernel
theorem dksX1_captives_1 : cX1_captives.data.toList.drop 23 = dktX1_captives_1 := dk_seg dksX1_captives_0 23 rfl rfl
theorem dksX1_captives_2 : cX1_captives.data.toList.drop 47 = dktX1_captives_2 := dk_seg dksX1_captives_1 24 rfl rfl
theorem dksX1_captives_3 : cX1_captives.data.toList.drop 70 = dktX1_captives_3 := dk_seg dksX1_captives_2 23 rfl rfl
theorem dksX1_captives_4 : cX1_captives.data.toList.drop 92 = dktX1_captives_4 := dk_seg dksX1_captives_3 22 rfl rfl
theorem dX1_captives_0 : decode cX1_captives 0 = .ok (.aload_n 0, 1) := dk_42 (dk_at dksX1_captives_0 0 rfl rfl)
theorem dX1_captives_1 : decode cX1_captives 1 = .ok (.iload_n 1, 1) := dk_27 (dk_at dksX1_captives_0 1 rfl rfl)
theorem dX1_captives_2 : decode cX1_captives 2 = .ok (.invokevirtual 128, 3) := dk_182 0 128 (dk_at dksX1_captives_0 2 rfl rfl)
theorem dX1_captives_5 : decode cX1_captives 5 = .ok (.invokestatic 132, 3) := dk_184 0 132 (dk_at dksX1_captives_0 5 rfl rfl)
theorem dX1_captives_8 : decode cX1_captives 8 = .ok (.iconst 0, 1) := dk_3 (dk_at dksX1_captives_0 8 rfl rfl)
theorem dX1_captives_9 : decode cX1_captives 9 = .ok (.istore_n 2, 1) := dk_61 (dk_at dksX1_captives_0 9 rfl rfl)
theorem dX1_captives_10 : decode cX1_captives 10 = .ok (.iconst 0, 1) := dk_3 (dk_at dksX1_captives_0 10 rfl rfl)
theorem dX1_captives_11 : decode cX1_captives 11 = .ok (.istore_n 3, 1) := dk_62 (dk_at dksX1_captives_0 11 rfl rfl)
theorem dX1_captives_12 : decode cX1_captives 12 = .ok (.iload_n 3, 1) := dk_29 (dk_at dksX1_captives_0 12 rfl rfl)
theorem dX1_captives_13 : decode cX1_captives 13 = .ok (.aload_n 0, 1) := dk_42 (dk_at dksX1_captives_0 13 rfl rfl)
theorem dX1_captives_14 : decode cX1_captives 14 = .ok (.getfield 19, 3) := dk_180 0 19 (dk_at dksX1_captives_0 14 rfl rfl)
theorem dX1_captives_17 : decode cX1_captives 17 = .ok (.getfield 99, 3) := dk_180 0 99 (dk_at dksX1_captives_0 17 rfl rfl)
theorem dX1_captives_20 : decode cX1_captives 20 = .ok (.getfield 125, 3) := dk_180 0 125 (dk_at dksX1_captives_0 20 rfl rfl)
theorem dX1_captives_23 : decode cX1_captives 23 = .ok (.invokeinterface 107 1, 5) := by decide +kernel
theorem dX1_captives_28 : decode cX1_captives 28 = .ok (.if_icmp .ge 67, 3) := dk_162 0 67 (dk_at dksX1_captives_1 5 rfl rfl)
theorem dX1_captives_31 : decode cX1_captives 31 = .ok (.aload_n 0, 1) := dk_42 (dk_at dksX1_captives_1 8 rfl rfl)
theorem dX1_captives_32 : decode cX1_captives 32 = .ok (.getfield 19, 3) := dk_180 0 19 (dk_at dksX1_captives_1 9 rfl rfl)
theorem dX1_captives_35 : decode cX1_captives 35 = .ok (.getfield 99, 3) := dk_180 0 99 (dk_at dksX1_captives_1 12 rfl rfl)
theorem dX1_captives_38 : decode cX1_captives 38 = .ok (.getfield 125, 3) := dk_180 0 125 (dk_at dksX1_captives_1 15 rfl rfl)
theorem dX1_captives_41 : decode cX1_captives 41 = .ok (.iload_n 3, 1) := dk_29 (dk_at dksX1_captives_1 18 rfl rfl)
theorem dX1_captives_42 : decode cX1_captives 42 = .ok (.invokeinterface 136 2, 5) := by decide +kernel
theorem dX1_captives_47 : decode cX1_captives 47 = .ok (.checkcast 145, 3) := dk_192 0 145 (dk_at dksX1_captives_2 0 rfl rfl)
theorem dX1_captives_50 : decode cX1_captives 50 = .ok (.astore 4, 2) := dk_58 4 (dk_at dksX1_captives_2 3 rfl rfl)
theorem dX1_captives_52 : decode cX1_captives 52 = .ok (.iload_n 2, 1) := dk_28 (dk_at dksX1_captives_2 5 rfl rfl)
theorem dX1_captives_53 : decode cX1_captives 53 = .ok (.aload_n 0, 1) := dk_42 (dk_at dksX1_captives_2 6 rfl rfl)
theorem dX1_captives_54 : decode cX1_captives 54 = .ok (.aload 4, 2) := dk_25 4 (dk_at dksX1_captives_2 7 rfl rfl)
theorem dX1_captives_56 : decode cX1_captives 56 = .ok (.invokevirtual 289, 3) := dk_182 1 33 (dk_at dksX1_captives_2 9 rfl rfl)
theorem dX1_captives_59 : decode cX1_captives 59 = .ok (.ldc2_w 293, 3) := dk_20 1 37 (dk_at dksX1_captives_2 12 rfl rfl)
theorem dX1_captives_62 : decode cX1_captives 62 = .ok (.lcmp, 1) := dk_148 (dk_at dksX1_captives_2 15 rfl rfl)
theorem dX1_captives_63 : decode cX1_captives 63 = .ok (.ifCond .eq 23, 3) := dk_153 0 23 (dk_at dksX1_captives_2 16 rfl rfl)
theorem dX1_captives_66 : decode cX1_captives 66 = .ok (.aload_n 0, 1) := dk_42 (dk_at dksX1_captives_2 19 rfl rfl)
theorem dX1_captives_67 : decode cX1_captives 67 = .ok (.aload 4, 2) := dk_25 4 (dk_at dksX1_captives_2 20 rfl rfl)
theorem dX1_captives_69 : decode cX1_captives 69 = .ok (.iload_n 1, 1) := dk_27 (dk_at dksX1_captives_2 22 rfl rfl)
theorem dX1_captives_70 : decode cX1_captives 70 = .ok (.invokevirtual 370, 3) := dk_182 1 114 (dk_at dksX1_captives_3 0 rfl rfl)
theorem dX1_captives_73 : decode cX1_captives 73 = .ok (.ldc2_w 293, 3) := dk_20 1 37 (dk_at dksX1_captives_3 3 rfl rfl)
theorem dX1_captives_76 : decode cX1_captives 76 = .ok (.lcmp, 1) := dk_148 (dk_at dksX1_captives_3 6 rfl rfl)
theorem dX1_captives_77 : decode cX1_captives 77 = .ok (.ifCond .ne 9, 3) := dk_154 0 9 (dk_at dksX1_captives_3 7 rfl rfl)
theorem dX1_captives_80 : decode cX1_captives 80 = .ok (.iconst 1, 1) := dk_4 (dk_at dksX1_captives_3 10 rfl rfl)
theorem dX1_captives_81 : decode cX1_captives 81 = .ok (.iload_n 3, 1) := dk_29 (dk_at dksX1_captives_3 11 rfl rfl)
theorem dX1_captives_82 : decode cX1_captives 82 = .ok (.ishl, 1) := dk_120 (dk_at dksX1_captives_3 12 rfl rfl)
theorem dX1_captives_83 : decode cX1_captives 83 = .ok (.goto 4, 3) := dk_167 0 4 (dk_at dksX1_captives_3 13 rfl rfl)
theorem dX1_captives_86 : decode cX1_captives 86 = .ok (.iconst 0, 1) := dk_3 (dk_at dksX1_captives_3 16 rfl rfl)
theorem dX1_captives_87 : decode cX1_captives 87 = .ok (.ior, 1) := dk_128 (dk_at dksX1_captives_3 17 rfl rfl)
theorem dX1_captives_88 : decode cX1_captives 88 = .ok (.istore_n 2, 1) := dk_61 (dk_at dksX1_captives_3 18 rfl rfl)
theorem dX1_captives_89 : decode cX1_captives 89 = .ok (.iinc 3 1, 3) := dk_132 3 1 (dk_at dksX1_captives_3 19 rfl rfl)
theorem dX1_captives_92 : decode cX1_captives 92 = .ok (.goto (-80), 3) := dk_167 255 176 (dk_at dksX1_captives_4 0 rfl rfl)
theorem dX1_captives_95 : decode cX1_captives 95 = .ok (.iload_n 2, 1) := dk_28 (dk_at dksX1_captives_4 3 rfl rfl)
theorem dX1_captives_96 : decode cX1_captives 96 = .ok (.ireturn, 1) := dk_172 (dk_at dksX1_captives_4 4 rfl rfl)
abbrev cX1_reachable : ByteArray := prog_1_method_64_code
def yX1_reachable : MethodName := ⟨RX1, "reachable", "(I)I"⟩
def dkwX1_reachable_6 : List UInt8 := [128, 54, 4, 44, 21, 5, 4, 96, 182, 1, 59, 54, 5, 167, 255, 232, 21, 4, 172]
abbrev dktX1_reachable_6 : List UInt8 := dkwX1_reachable_6 ++ []
def dkwX1_reachable_5 : List UInt8 := [167, 255, 179, 3, 54, 4, 44, 3, 182, 1, 59, 54, 5, 21, 5, 155, 0, 25, 21, 4, 4, 21, 5, 120]
abbrev dktX1_reachable_5 : List UInt8 := dkwX1_reachable_5 ++ dktX1_reachable_6
def dkwX1_reachable_4 : List UInt8 := [42, 180, 0, 19, 25, 5, 182, 0, 195, 153, 0, 12, 44, 25, 5, 182, 0, 185, 182, 1, 112, 167, 255, 213]
abbrev dktX1_reachable_4 : List UInt8 := dkwX1_reachable_4 ++ dktX1_reachable_5
def dkwX1_reachable_3 : List UInt8 := [58, 4, 25, 4, 185, 0, 151, 1, 0, 153, 0, 39, 25, 4, 185, 0, 157, 1, 0, 192, 0, 140, 58, 5]
abbrev dktX1_reachable_3 : List UInt8 := dkwX1_reachable_3 ++ dktX1_reachable_4
def dkwX1_reachable_2 : List UInt8 := [162, 0, 75, 44, 182, 0, 173, 62, 42, 180, 0, 19, 180, 0, 99, 44, 182, 1, 118, 185, 1, 121, 1, 0]
abbrev dktX1_reachable_2 : List UInt8 := dkwX1_reachable_2 ++ dktX1_reachable_3
def dkwX1_reachable_1 : List UInt8 := [187, 0, 174, 89, 16, 10, 183, 1, 53, 77, 44, 27, 182, 1, 112, 3, 62, 29, 44, 182, 0, 173]
abbrev dktX1_reachable_1 : List UInt8 := dkwX1_reachable_1 ++ dktX1_reachable_2
def dkwX1_reachable_0 : List UInt8 := [27, 133, 9, 42, 180, 0, 19, 180, 0, 99, 180, 0, 163, 4, 100, 133, 184, 0, 121, 184, 0, 212]
abbrev dktX1_reachable_0 : List UInt8 := dkwX1_reachable_0 ++ dktX1_reachable_1
theorem dksX1_reachable_0 : cX1_reachable.data.toList.drop 0 = dktX1_reachable_0 := by decide +kernel
theorem dksX1_reachable_1 : cX1_reachable.data.toList.drop 22 = dktX1_reachable_1 := dk_seg dksX1_reachable_0 22 rfl rfl
theorem dksX1_reachable_2 : cX1_reachable.data.toList.drop 44 = dktX1_reachable_2 := dk_seg dksX1_reachable_1 22 rfl rfl
theorem dksX1_reachable_3 : cX1_reachable.data.toList.drop 68 = dktX1_reachable_3 := dk_seg dksX1_reachable_2 24 rfl rfl
theorem dksX1_reachable_4 : cX1_reachable.data.toList.drop 92 = dktX1_reachable_4 := dk_seg dksX1_reachable_3 24 rfl rfl
theorem dksX1_reachable_5 : cX1_reachable.data.toList.drop 116 = dktX1_reachable_5 := dk_seg dksX1_reachable_4 24 rfl rfl
theorem dksX1_reachable_6 : cX1_reachable.data.toList.drop 140 = dktX1_reachable_6 := dk_seg dksX1_reachable_5 24 rfl rfl
theorem dX1_reachable_0 : decode cX1_reachable 0 = .ok (.iload_n 1, 1) := dk_27 (dk_at dksX1_reachable_0 0 rfl rfl)
theorem dX1_reachable_1 : decode cX1_reachable 1 = .ok (.i2l, 1) := dk_133 (dk_at dksX1_reachable_0 1 rfl rfl)
theorem dX1_reachable_2 : decode cX1_reachable 2 = .ok (.lconst 0, 1) := dk_9 (dk_at dksX1_reachable_0 2 rfl rfl)
theorem dX1_reachable_3 : decode cX1_reachable 3 = .ok (.aload_n 0, 1) := dk_42 (dk_at dksX1_reachable_0 3 rfl rfl)
theorem dX1_reachable_4 : decode cX1_reachable 4 = .ok (.getfield 19, 3) := dk_180 0 19 (dk_at dksX1_reachable_0 4 rfl rfl)
theorem dX1_reachable_7 : decode cX1_reachable 7 = .ok (.getfield 99, 3) := dk_180 0 99 (dk_at dksX1_reachable_0 7 rfl rfl)
theorem dX1_reachable_10 : decode cX1_reachable 10 = .ok (.getfield 163, 3) := dk_180 0 163 (dk_at dksX1_reachable_0 10 rfl rfl)
theorem dX1_reachable_13 : decode cX1_reachable 13 = .ok (.iconst 1, 1) := dk_4 (dk_at dksX1_reachable_0 13 rfl rfl)
theorem dX1_reachable_14 : decode cX1_reachable 14 = .ok (.isub, 1) := dk_100 (dk_at dksX1_reachable_0 14 rfl rfl)
theorem dX1_reachable_15 : decode cX1_reachable 15 = .ok (.i2l, 1) := dk_133 (dk_at dksX1_reachable_0 15 rfl rfl)
theorem dX1_reachable_16 : decode cX1_reachable 16 = .ok (.invokestatic 121, 3) := dk_184 0 121 (dk_at dksX1_reachable_0 16 rfl rfl)
theorem dX1_reachable_19 : decode cX1_reachable 19 = .ok (.invokestatic 212, 3) := dk_184 0 212 (dk_at dksX1_reachable_0 19 rfl rfl)
theorem dX1_reachable_22 : decode cX1_reachable 22 = .ok (.new 174, 3) := dk_187 0 174 (dk_at dksX1_reachable_1 0 rfl rfl)
theorem dX1_reachable_25 : decode cX1_reachable 25 = .ok (.dup, 1) := dk_89 (dk_at dksX1_reachable_1 3 rfl rfl)
theorem dX1_reachable_26 : decode cX1_reachable 26 = .ok (.bipush 10, 2) := dk_16 10 (dk_at dksX1_reachable_1 4 rfl rfl)
theorem dX1_reachable_28 : decode cX1_reachable 28 = .ok (.invokespecial 309, 3) := dk_183 1 53 (dk_at dksX1_reachable_1 6 rfl rfl)
theorem dX1_reachable_31 : decode cX1_reachable 31 = .ok (.astore_n 2, 1) := dk_77 (dk_at dksX1_reachable_1 9 rfl rfl)
theorem dX1_reachable_32 : decode cX1_reachable 32 = .ok (.aload_n 2, 1) := dk_44 (dk_at dksX1_reachable_1 10 rfl rfl)
theorem dX1_reachable_33 : decode cX1_reachable 33 = .ok (.iload_n 1, 1) := dk_27 (dk_at dksX1_reachable_1 11 rfl rfl)
theorem dX1_reachable_34 : decode cX1_reachable 34 = .ok (.invokevirtual 368, 3) := dk_182 1 112 (dk_at dksX1_reachable_1 12 rfl rfl)
theorem dX1_reachable_37 : decode cX1_reachable 37 = .ok (.iconst 0, 1) := dk_3 (dk_at dksX1_reachable_1 15 rfl rfl)
theorem dX1_reachable_38 : decode cX1_reachable 38 = .ok (.istore_n 3, 1) := dk_62 (dk_at dksX1_reachable_1 16 rfl rfl)
theorem dX1_reachable_39 : decode cX1_reachable 39 = .ok (.iload_n 3, 1) := dk_29 (dk_at dksX1_reachable_1 17 rfl rfl)
theorem dX1_reachable_40 : decode cX1_reachable 40 = .ok (.aload_n 2, 1) := dk_44 (dk_at dksX1_reachable_1 18 rfl rfl)
theorem dX1_reachable_41 : decode cX1_reachable 41 = .ok (.invokevirtual 173, 3) := dk_182 0 173 (dk_at dksX1_reachable_1 19 rfl rfl)
theorem dX1_reachable_44 : decode cX1_reachable 44 = .ok (.if_icmp .ge 75, 3) := dk_162 0 75 (dk_at dksX1_reachable_2 0 rfl rfl)
theorem dX1_reachable_47 : decode cX1_reachable 47 = .ok (.aload_n 2, 1) := dk_44 (dk_at dksX1_reachable_2 3 rfl rfl)
theorem dX1_reachable_48 : decode cX1_reachable 48 = .ok (.invokevirtual 173, 3) := dk_182 0 173 (dk_at dksX1_reachable_2 4 rfl rfl)
theorem dX1_reachable_51 : decode cX1_reachable 51 = .ok (.istore_n 3, 1) := dk_62 (dk_at dksX1_reachable_2 7 rfl rfl)
theorem dX1_reachable_52 : decode cX1_reachable 52 = .ok (.aload_n 0, 1) := dk_42 (dk_at dksX1_reachable_2 8 rfl rfl)
theorem dX1_reachable_53 : decode cX1_reachable 53 = .ok (.getfield 19, 3) := dk_180 0 19 (dk_at dksX1_reachable_2 9 rfl rfl)
theorem dX1_reachable_56 : decode cX1_reachable 56 = .ok (.getfield 99, 3) := dk_180 0 99 (dk_at dksX1_reachable_2 12 rfl rfl)
theorem dX1_reachable_59 : decode cX1_reachable 59 = .ok (.aload_n 2, 1) := dk_44 (dk_at dksX1_reachable_2 15 rfl rfl)
theorem dX1_reachable_60 : decode cX1_reachable 60 = .ok (.invokevirtual 374, 3) := dk_182 1 118 (dk_at dksX1_reachable_2 16 rfl rfl)
theorem dX1_reachable_63 : decode cX1_reachable 63 = .ok (.invokeinterface 377 1, 5) := by decide +kernel
theorem dX1_reachable_68 : decode cX1_reachable 68 = .ok (.astore 4, 2) := dk_58 4 (dk_at dksX1_reachable_3 0 rfl rfl)
theorem dX1_reachable_70 : decode cX1_reachable 70 = .ok (.aload 4, 2) := dk_25 4 (dk_at dksX1_reachable_3 2 rfl rfl)
theorem dX1_reachable_72 : decode cX1_reachable 72 = .ok (.invokeinterface 151 1, 5) := by decide +kernel
theorem dX1_reachable_77 : decode cX1_reachable 77 = .ok (.ifCond .eq 39, 3) := dk_153 0 39 (dk_at dksX1_reachable_3 9 rfl rfl)
theorem dX1_reachable_80 : decode cX1_reachable 80 = .ok (.aload 4, 2) := dk_25 4 (dk_at dksX1_reachable_3 12 rfl rfl)
theorem dX1_reachable_82 : decode cX1_reachable 82 = .ok (.invokeinterface 157 1, 5) := by decide +kernel
theorem dX1_reachable_87 : decode cX1_reachable 87 = .ok (.checkcast 140, 3) := dk_192 0 140 (dk_at dksX1_reachable_3 19 rfl rfl)
theorem dX1_reachable_90 : decode cX1_reachable 90 = .ok (.astore 5, 2) := dk_58 5 (dk_at dksX1_reachable_3 22 rfl rfl)
theorem dX1_reachable_92 : decode cX1_reachable 92 = .ok (.aload_n 0, 1) := dk_42 (dk_at dksX1_reachable_4 0 rfl rfl)
theorem dX1_reachable_93 : decode cX1_reachable 93 = .ok (.getfield 19, 3) := dk_180 0 19 (dk_at dksX1_reachable_4 1 rfl rfl)
theorem dX1_reachable_96 : decode cX1_reachable 96 = .ok (.aload 5, 2) := dk_25 5 (dk_at dksX1_reachable_4 4 rfl rfl)
theorem dX1_reachable_98 : decode cX1_reachable 98 = .ok (.invokevirtual 195, 3) := dk_182 0 195 (dk_at dksX1_reachable_4 6 rfl rfl)
theorem dX1_reachable_101 : decode cX1_reachable 101 = .ok (.ifCond .eq 12, 3) := dk_153 0 12 (dk_at dksX1_reachable_4 9 rfl rfl)
theorem dX1_reachable_104 : decode cX1_reachable 104 = .ok (.aload_n 2, 1) := dk_44 (dk_at dksX1_reachable_4 12 rfl rfl)
theorem dX1_reachable_105 : decode cX1_reachable 105 = .ok (.aload 5, 2) := dk_25 5 (dk_at dksX1_reachable_4 13 rfl rfl)
theorem dX1_reachable_107 : decode cX1_reachable 107 = .ok (.invokevirtual 185, 3) := dk_182 0 185 (dk_at dksX1_reachable_4 15 rfl rfl)
theorem dX1_reachable_110 : decode cX1_reachable 110 = .ok (.invokevirtual 368, 3) := dk_182 1 112 (dk_at dksX1_reachable_4 18 rfl rfl)
theorem dX1_reachable_113 : decode cX1_reachable 113 = .ok (.goto (-43), 3) := dk_167 255 213 (dk_at dksX1_reachable_4 21 rfl rfl)
theorem dX1_reachable_116 : decode cX1_reachable 116 = .ok (.goto (-77), 3) := dk_167 255 179 (dk_at dksX1_reachable_5 0 rfl rfl)
theorem dX1_reachable_119 : decode cX1_reachable 119 = .ok (.iconst 0, 1) := dk_3 (dk_at dksX1_reachable_5 3 rfl rfl)
theorem dX1_reachable_120 : decode cX1_reachable 120 = .ok (.istore 4, 2) := dk_54 4 (dk_at dksX1_reachable_5 4 rfl rfl)
theorem dX1_reachable_122 : decode cX1_reachable 122 = .ok (.aload_n 2, 1) := dk_44 (dk_at dksX1_reachable_5 6 rfl rfl)
theorem dX1_reachable_123 : decode cX1_reachable 123 = .ok (.iconst 0, 1) := dk_3 (dk_at dksX1_reachable_5 7 rfl rfl)
theorem dX1_reachable_124 : decode cX1_reachable 124 = .ok (.invokevirtual 315, 3) := dk_182 1 59 (dk_at dksX1_reachable_5 8 rfl rfl)
theorem dX1_reachable_127 : decode cX1_reachable 127 = .ok (.istore 5, 2) := dk_54 5 (dk_at dksX1_reachable_5 11 rfl rfl)
theorem dX1_reachable_129 : decode cX1_reachable 129 = .ok (.iload 5, 2) := dk_21 5 (dk_at dksX1_reachable_5 13 rfl rfl)
theorem dX1_reachable_131 : decode cX1_reachable 131 = .ok (.ifCond .lt 25, 3) := dk_155 0 25 (dk_at dksX1_reachable_5 15 rfl rfl)
theorem dX1_reachable_134 : decode cX1_reachable 134 = .ok (.iload 4, 2) := dk_21 4 (dk_at dksX1_reachable_5 18 rfl rfl)
theorem dX1_reachable_136 : decode cX1_reachable 136 = .ok (.iconst 1, 1) := dk_4 (dk_at dksX1_reachable_5 20 rfl rfl)
theorem dX1_reachable_137 : decode cX1_reachable 137 = .ok (.iload 5, 2) := dk_21 5 (dk_at dksX1_reachable_5 21 rfl rfl)
theorem dX1_reachable_139 : decode cX1_reachable 139 = .ok (.ishl, 1) := dk_120 (dk_at dksX1_reachable_5 23 rfl rfl)
theorem dX1_reachable_140 : decode cX1_reachable 140 = .ok (.ior, 1) := dk_128 (dk_at dksX1_reachable_6 0 rfl rfl)
theorem dX1_reachable_141 : decode cX1_reachable 141 = .ok (.istore 4, 2) := dk_54 4 (dk_at dksX1_reachable_6 1 rfl rfl)
theorem dX1_reachable_143 : decode cX1_reachable 143 = .ok (.aload_n 2, 1) := dk_44 (dk_at dksX1_reachable_6 3 rfl rfl)
theorem dX1_reachable_144 : decode cX1_reachable 144 = .ok (.iload 5, 2) := dk_21 5 (dk_at dksX1_reachable_6 4 rfl rfl)
theorem dX1_reachable_146 : decode cX1_reachable 146 = .ok (.iconst 1, 1) := dk_4 (dk_at dksX1_reachable_6 6 rfl rfl)
theorem dX1_reachable_147 : decode cX1_reachable 147 = .ok (.iadd, 1) := dk_96 (dk_at dksX1_reachable_6 7 rfl rfl)
theorem dX1_reachable_148 : decode cX1_reachable 148 = .ok (.invokevirtual 315, 3) := dk_182 1 59 (dk_at dksX1_reachable_6 8 rfl rfl)
theorem dX1_reachable_151 : decode cX1_reachable 151 = .ok (.istore 5, 2) := dk_54 5 (dk_at dksX1_reachable_6 11 rfl rfl)
theorem dX1_reachable_153 : decode cX1_reachable 153 = .ok (.goto (-24), 3) := dk_167 255 232 (dk_at dksX1_reachable_6 13 rfl rfl)
theorem dX1_reachable_156 : decode cX1_reachable 156 = .ok (.iload 4, 2) := dk_21 4 (dk_at dksX1_reachable_6 16 rfl rfl)
theorem dX1_reachable_158 : decode cX1_reachable 158 = .ok (.ireturn, 1) := dk_172 (dk_at dksX1_reachable_6 18 rfl rfl)
abbrev cX1_judge : ByteArray := prog_1_method_66_code
def yX1_judge : MethodName := ⟨RX1, "judge", "(I)I"⟩
def dkwX1_judge_1 : List UInt8 := [154, 0, 8, 16, 252, 167, 0, 11, 33, 42, 44, 182, 1, 33, 101, 136, 172]
abbrev dktX1_judge_1 : List UInt8 := dkwX1_judge_1 ++ []
def dkwX1_judge_0 : List UInt8 := [42, 27, 182, 0, 199, 77, 42, 44, 182, 1, 132, 66, 42, 3, 181, 0, 81, 33, 20, 1, 124, 148]
abbrev dktX1_judge_0 : List UInt8 := dkwX1_judge_0 ++ dktX1_judge_1
theorem dksX1_judge_0 : cX1_judge.data.toList.drop 0 = dktX1_judge_0 := by decide +kernel
theorem dksX1_judge_1 : cX1_judge.data.toList.drop 22 = dktX1_judge_1 := dk_seg dksX1_judge_0 22 rfl rfl
theorem dX1_judge_0 : decode cX1_judge 0 = .ok (.aload_n 0, 1) := dk_42 (dk_at dksX1_judge_0 0 rfl rfl)
theorem dX1_judge_1 : decode cX1_judge 1 = .ok (.iload_n 1, 1) := dk_27 (dk_at dksX1_judge_0 1 rfl rfl)
theorem dX1_judge_2 : decode cX1_judge 2 = .ok (.invokevirtual 199, 3) := dk_182 0 199 (dk_at dksX1_judge_0 2 rfl rfl)
theorem dX1_judge_5 : decode cX1_judge 5 = .ok (.astore_n 2, 1) := dk_77 (dk_at dksX1_judge_0 5 rfl rfl)
theorem dX1_judge_6 : decode cX1_judge 6 = .ok (.aload_n 0, 1) := dk_42 (dk_at dksX1_judge_0 6 rfl rfl)
theorem dX1_judge_7 : decode cX1_judge 7 = .ok (.aload_n 2, 1) := dk_44 (dk_at dksX1_judge_0 7 rfl rfl)
theorem dX1_judge_8 : decode cX1_judge 8 = .ok (.invokevirtual 388, 3) := dk_182 1 132 (dk_at dksX1_judge_0 8 rfl rfl)
theorem dX1_judge_11 : decode cX1_judge 11 = .ok (.lstore_n 3, 1) := dk_66 (dk_at dksX1_judge_0 11 rfl rfl)
theorem dX1_judge_12 : decode cX1_judge 12 = .ok (.aload_n 0, 1) := dk_42 (dk_at dksX1_judge_0 12 rfl rfl)
theorem dX1_judge_13 : decode cX1_judge 13 = .ok (.iconst 0, 1) := dk_3 (dk_at dksX1_judge_0 13 rfl rfl)
theorem dX1_judge_14 : decode cX1_judge 14 = .ok (.putfield 81, 3) := dk_181 0 81 (dk_at dksX1_judge_0 14 rfl rfl)
theorem dX1_judge_17 : decode cX1_judge 17 = .ok (.lload_n 3, 1) := dk_33 (dk_at dksX1_judge_0 17 rfl rfl)
theorem dX1_judge_18 : decode cX1_judge 18 = .ok (.ldc2_w 380, 3) := dk_20 1 124 (dk_at dksX1_judge_0 18 rfl rfl)
theorem dX1_judge_21 : decode cX1_judge 21 = .ok (.lcmp, 1) := dk_148 (dk_at dksX1_judge_0 21 rfl rfl)
theorem dX1_judge_22 : decode cX1_judge 22 = .ok (.ifCond .ne 8, 3) := dk_154 0 8 (dk_at dksX1_judge_1 0 rfl rfl)
theorem dX1_judge_25 : decode cX1_judge 25 = .ok (.bipush (-4), 2) := dk_16 252 (dk_at dksX1_judge_1 3 rfl rfl)
theorem dX1_judge_27 : decode cX1_judge 27 = .ok (.goto 11, 3) := dk_167 0 11 (dk_at dksX1_judge_1 5 rfl rfl)
theorem dX1_judge_30 : decode cX1_judge 30 = .ok (.lload_n 3, 1) := dk_33 (dk_at dksX1_judge_1 8 rfl rfl)
theorem dX1_judge_31 : decode cX1_judge 31 = .ok (.aload_n 0, 1) := dk_42 (dk_at dksX1_judge_1 9 rfl rfl)
theorem dX1_judge_32 : decode cX1_judge 32 = .ok (.aload_n 2, 1) := dk_44 (dk_at dksX1_judge_1 10 rfl rfl)
theorem dX1_judge_33 : decode cX1_judge 33 = .ok (.invokevirtual 289, 3) := dk_182 1 33 (dk_at dksX1_judge_1 11 rfl rfl)
theorem dX1_judge_36 : decode cX1_judge 36 = .ok (.lsub, 1) := dk_101 (dk_at dksX1_judge_1 14 rfl rfl)
theorem dX1_judge_37 : decode cX1_judge 37 = .ok (.l2i, 1) := dk_136 (dk_at dksX1_judge_1 15 rfl rfl)
theorem dX1_judge_38 : decode cX1_judge 38 = .ok (.ireturn, 1) := dk_172 (dk_at dksX1_judge_1 16 rfl rfl)
abbrev cX1_judged : ByteArray := prog_1_method_65_code
def yX1_judged : MethodName := ⟨RX1, "judged", "(LTollLeader$Trip;)J"⟩
def dkwX1_judged_6 : List UInt8 := [20, 1, 124, 173]
abbrev dktX1_judged_6 : List UInt8 := dkwX1_judged_6 ++ []
def dkwX1_judged_5 : List UInt8 := [167, 255, 151, 42, 180, 0, 81, 158, 0, 16, 21, 4, 43, 182, 0, 204, 160, 0, 7, 32, 167, 0, 6]
abbrev dktX1_judged_5 : List UInt8 := dkwX1_judged_5 ++ dktX1_judged_6
def dkwX1_judged_4 : List UInt8 := [32, 42, 180, 0, 19, 25, 7, 43, 184, 1, 126, 97, 65, 25, 7, 182, 0, 185, 54, 4, 132, 5, 1]
abbrev dktX1_judged_4 : List UInt8 := dkwX1_judged_4 ++ dktX1_judged_5
def dkwX1_judged_3 : List UInt8 := [182, 0, 182, 21, 4, 160, 0, 15, 42, 180, 0, 19, 25, 7, 182, 0, 195, 154, 0, 7, 20, 1, 124, 173]
abbrev dktX1_judged_3 : List UInt8 := dkwX1_judged_3 ++ dktX1_judged_4
def dkwX1_judged_2 : List UInt8 := [180, 0, 19, 180, 0, 99, 180, 0, 103, 21, 6, 185, 0, 136, 2, 0, 192, 0, 140, 58, 7, 25, 7]
abbrev dktX1_judged_2 : List UInt8 := dkwX1_judged_2 ++ dktX1_judged_3
def dkwX1_judged_1 : List UInt8 := [21, 5, 51, 16, 97, 100, 54, 6, 42, 21, 6, 182, 0, 128, 154, 0, 7, 20, 1, 124, 173, 42]
abbrev dktX1_judged_1 : List UInt8 := dkwX1_judged_1 ++ dktX1_judged_2
def dkwX1_judged_0 : List UInt8 := [9, 65, 43, 182, 0, 203, 54, 4, 3, 54, 5, 21, 5, 42, 180, 0, 81, 162, 0, 102, 42, 180, 0, 43]
abbrev dktX1_judged_0 : List UInt8 := dkwX1_judged_0 ++ dktX1_judged_1
theorem dksX1_judged_0 : cX1_judged.data.toList.drop 0 = dktX1_judged_0 := by decide +kernel
theorem dksX1_judged_1 : cX1_judged.data.toList.drop 24 = dktX1_judged_1 := dk_seg dksX1_judged_0 24 rfl rfl
theorem dksX1_judged_2 : cX1_judged.data.toList.drop 46 = dktX1_judged_2 := dk_seg dksX1_judged_1 22 rfl rfl
theorem dksX1_judged_3 : cX1_judged.data.toList.drop 69 = dktX1_judged_3 := dk_seg dksX1_judged_2 23 rfl rfl
theorem dksX1_judged_4 : cX1_judged.data.toList.drop 93 = dktX1_judged_4 := dk_seg dksX1_judged_3 24 rfl rfl
theorem dksX1_judged_5 : cX1_judged.data.toList.drop 116 = dktX1_judged_5 := dk_seg dksX1_judged_4 23 rfl rfl
theorem dksX1_judged_6 : cX1_judged.data.toList.drop 139 = dktX1_judged_6 := dk_seg dksX1_judged_5 23 rfl rfl
theorem dX1_judged_0 : decode cX1_judged 0 = .ok (.lconst 0, 1) := dk_9 (dk_at dksX1_judged_0 0 rfl rfl)
theorem dX1_judged_1 : decode cX1_judged 1 = .ok (.lstore_n 2, 1) := dk_65 (dk_at dksX1_judged_0 1 rfl rfl)
theorem dX1_judged_2 : decode cX1_judged 2 = .ok (.aload_n 1, 1) := dk_43 (dk_at dksX1_judged_0 2 rfl rfl)
theorem dX1_judged_3 : decode cX1_judged 3 = .ok (.invokevirtual 203, 3) := dk_182 0 203 (dk_at dksX1_judged_0 3 rfl rfl)
theorem dX1_judged_6 : decode cX1_judged 6 = .ok (.istore 4, 2) := dk_54 4 (dk_at dksX1_judged_0 6 rfl rfl)
theorem dX1_judged_8 : decode cX1_judged 8 = .ok (.iconst 0, 1) := dk_3 (dk_at dksX1_judged_0 8 rfl rfl)
theorem dX1_judged_9 : decode cX1_judged 9 = .ok (.istore 5, 2) := dk_54 5 (dk_at dksX1_judged_0 9 rfl rfl)
theorem dX1_judged_11 : decode cX1_judged 11 = .ok (.iload 5, 2) := dk_21 5 (dk_at dksX1_judged_0 11 rfl rfl)
theorem dX1_judged_13 : decode cX1_judged 13 = .ok (.aload_n 0, 1) := dk_42 (dk_at dksX1_judged_0 13 rfl rfl)
theorem dX1_judged_14 : decode cX1_judged 14 = .ok (.getfield 81, 3) := dk_180 0 81 (dk_at dksX1_judged_0 14 rfl rfl)
theorem dX1_judged_17 : decode cX1_judged 17 = .ok (.if_icmp .ge 102, 3) := dk_162 0 102 (dk_at dksX1_judged_0 17 rfl rfl)
theorem dX1_judged_20 : decode cX1_judged 20 = .ok (.aload_n 0, 1) := dk_42 (dk_at dksX1_judged_0 20 rfl rfl)
theorem dX1_judged_21 : decode cX1_judged 21 = .ok (.getfield 43, 3) := dk_180 0 43 (dk_at dksX1_judged_0 21 rfl rfl)
theorem dX1_judged_24 : decode cX1_judged 24 = .ok (.iload 5, 2) := dk_21 5 (dk_at dksX1_judged_1 0 rfl rfl)
theorem dX1_judged_26 : decode cX1_judged 26 = .ok (.baload, 1) := dk_51 (dk_at dksX1_judged_1 2 rfl rfl)
theorem dX1_judged_27 : decode cX1_judged 27 = .ok (.bipush 97, 2) := dk_16 97 (dk_at dksX1_judged_1 3 rfl rfl)
theorem dX1_judged_29 : decode cX1_judged 29 = .ok (.isub, 1) := dk_100 (dk_at dksX1_judged_1 5 rfl rfl)
theorem dX1_judged_30 : decode cX1_judged 30 = .ok (.istore 6, 2) := dk_54 6 (dk_at dksX1_judged_1 6 rfl rfl)
theorem dX1_judged_32 : decode cX1_judged 32 = .ok (.aload_n 0, 1) := dk_42 (dk_at dksX1_judged_1 8 rfl rfl)
theorem dX1_judged_33 : decode cX1_judged 33 = .ok (.iload 6, 2) := dk_21 6 (dk_at dksX1_judged_1 9 rfl rfl)
theorem dX1_judged_35 : decode cX1_judged 35 = .ok (.invokevirtual 128, 3) := dk_182 0 128 (dk_at dksX1_judged_1 11 rfl rfl)
theorem dX1_judged_38 : decode cX1_judged 38 = .ok (.ifCond .ne 7, 3) := dk_154 0 7 (dk_at dksX1_judged_1 14 rfl rfl)
theorem dX1_judged_41 : decode cX1_judged 41 = .ok (.ldc2_w 380, 3) := dk_20 1 124 (dk_at dksX1_judged_1 17 rfl rfl)
theorem dX1_judged_44 : decode cX1_judged 44 = .ok (.lreturn, 1) := dk_173 (dk_at dksX1_judged_1 20 rfl rfl)
theorem dX1_judged_45 : decode cX1_judged 45 = .ok (.aload_n 0, 1) := dk_42 (dk_at dksX1_judged_1 21 rfl rfl)
theorem dX1_judged_46 : decode cX1_judged 46 = .ok (.getfield 19, 3) := dk_180 0 19 (dk_at dksX1_judged_2 0 rfl rfl)
theorem dX1_judged_49 : decode cX1_judged 49 = .ok (.getfield 99, 3) := dk_180 0 99 (dk_at dksX1_judged_2 3 rfl rfl)
theorem dX1_judged_52 : decode cX1_judged 52 = .ok (.getfield 103, 3) := dk_180 0 103 (dk_at dksX1_judged_2 6 rfl rfl)
theorem dX1_judged_55 : decode cX1_judged 55 = .ok (.iload 6, 2) := dk_21 6 (dk_at dksX1_judged_2 9 rfl rfl)
theorem dX1_judged_57 : decode cX1_judged 57 = .ok (.invokeinterface 136 2, 5) := by decide +kernel
theorem dX1_judged_62 : decode cX1_judged 62 = .ok (.checkcast 140, 3) := dk_192 0 140 (dk_at dksX1_judged_2 16 rfl rfl)
theorem dX1_judged_65 : decode cX1_judged 65 = .ok (.astore 7, 2) := dk_58 7 (dk_at dksX1_judged_2 19 rfl rfl)
theorem dX1_judged_67 : decode cX1_judged 67 = .ok (.aload 7, 2) := dk_25 7 (dk_at dksX1_judged_2 21 rfl rfl)
theorem dX1_judged_69 : decode cX1_judged 69 = .ok (.invokevirtual 182, 3) := dk_182 0 182 (dk_at dksX1_judged_3 0 rfl rfl)
theorem dX1_judged_72 : decode cX1_judged 72 = .ok (.iload 4, 2) := dk_21 4 (dk_at dksX1_judged_3 3 rfl rfl)
theorem dX1_judged_74 : decode cX1_judged 74 = .ok (.if_icmp .ne 15, 3) := dk_160 0 15 (dk_at dksX1_judged_3 5 rfl rfl)
theorem dX1_judged_77 : decode cX1_judged 77 = .ok (.aload_n 0, 1) := dk_42 (dk_at dksX1_judged_3 8 rfl rfl)
theorem dX1_judged_78 : decode cX1_judged 78 = .ok (.getfield 19, 3) := dk_180 0 19 (dk_at dksX1_judged_3 9 rfl rfl)
theorem dX1_judged_81 : decode cX1_judged 81 = .ok (.aload 7, 2) := dk_25 7 (dk_at dksX1_judged_3 12 rfl rfl)
theorem dX1_judged_83 : decode cX1_judged 83 = .ok (.invokevirtual 195, 3) := dk_182 0 195 (dk_at dksX1_judged_3 14 rfl rfl)
theorem dX1_judged_86 : decode cX1_judged 86 = .ok (.ifCond .ne 7, 3) := dk_154 0 7 (dk_at dksX1_judged_3 17 rfl rfl)
theorem dX1_judged_89 : decode cX1_judged 89 = .ok (.ldc2_w 380, 3) := dk_20 1 124 (dk_at dksX1_judged_3 20 rfl rfl)
theorem dX1_judged_92 : decode cX1_judged 92 = .ok (.lreturn, 1) := dk_173 (dk_at dksX1_judged_3 23 rfl rfl)
theorem dX1_judged_93 : decode cX1_judged 93 = .ok (.lload_n 2, 1) := dk_32 (dk_at dksX1_judged_4 0 rfl rfl)
theorem dX1_judged_94 : decode cX1_judged 94 = .ok (.aload_n 0, 1) := dk_42 (dk_at dksX1_judged_4 1 rfl rfl)
theorem dX1_judged_95 : decode cX1_judged 95 = .ok (.getfield 19, 3) := dk_180 0 19 (dk_at dksX1_judged_4 2 rfl rfl)
theorem dX1_judged_98 : decode cX1_judged 98 = .ok (.aload 7, 2) := dk_25 7 (dk_at dksX1_judged_4 5 rfl rfl)
theorem dX1_judged_100 : decode cX1_judged 100 = .ok (.aload_n 1, 1) := dk_43 (dk_at dksX1_judged_4 7 rfl rfl)
theorem dX1_judged_101 : decode cX1_judged 101 = .ok (.invokestatic 382, 3) := dk_184 1 126 (dk_at dksX1_judged_4 8 rfl rfl)
theorem dX1_judged_104 : decode cX1_judged 104 = .ok (.ladd, 1) := dk_97 (dk_at dksX1_judged_4 11 rfl rfl)
theorem dX1_judged_105 : decode cX1_judged 105 = .ok (.lstore_n 2, 1) := dk_65 (dk_at dksX1_judged_4 12 rfl rfl)
theorem dX1_judged_106 : decode cX1_judged 106 = .ok (.aload 7, 2) := dk_25 7 (dk_at dksX1_judged_4 13 rfl rfl)
theorem dX1_judged_108 : decode cX1_judged 108 = .ok (.invokevirtual 185, 3) := dk_182 0 185 (dk_at dksX1_judged_4 15 rfl rfl)
theorem dX1_judged_111 : decode cX1_judged 111 = .ok (.istore 4, 2) := dk_54 4 (dk_at dksX1_judged_4 18 rfl rfl)
theorem dX1_judged_113 : decode cX1_judged 113 = .ok (.iinc 5 1, 3) := dk_132 5 1 (dk_at dksX1_judged_4 20 rfl rfl)
theorem dX1_judged_116 : decode cX1_judged 116 = .ok (.goto (-105), 3) := dk_167 255 151 (dk_at dksX1_judged_5 0 rfl rfl)
theorem dX1_judged_119 : decode cX1_judged 119 = .ok (.aload_n 0, 1) := dk_42 (dk_at dksX1_judged_5 3 rfl rfl)
theorem dX1_judged_120 : decode cX1_judged 120 = .ok (.getfield 81, 3) := dk_180 0 81 (dk_at dksX1_judged_5 4 rfl rfl)
theorem dX1_judged_123 : decode cX1_judged 123 = .ok (.ifCond .le 16, 3) := dk_158 0 16 (dk_at dksX1_judged_5 7 rfl rfl)
theorem dX1_judged_126 : decode cX1_judged 126 = .ok (.iload 4, 2) := dk_21 4 (dk_at dksX1_judged_5 10 rfl rfl)
theorem dX1_judged_128 : decode cX1_judged 128 = .ok (.aload_n 1, 1) := dk_43 (dk_at dksX1_judged_5 12 rfl rfl)
theorem dX1_judged_129 : decode cX1_judged 129 = .ok (.invokevirtual 204, 3) := dk_182 0 204 (dk_at dksX1_judged_5 13 rfl rfl)
theorem dX1_judged_132 : decode cX1_judged 132 = .ok (.if_icmp .ne 7, 3) := dk_160 0 7 (dk_at dksX1_judged_5 16 rfl rfl)
theorem dX1_judged_135 : decode cX1_judged 135 = .ok (.lload_n 2, 1) := dk_32 (dk_at dksX1_judged_5 19 rfl rfl)
theorem dX1_judged_136 : decode cX1_judged 136 = .ok (.goto 6, 3) := dk_167 0 6 (dk_at dksX1_judged_5 20 rfl rfl)
theorem dX1_judged_139 : decode cX1_judged 139 = .ok (.ldc2_w 380, 3) := dk_20 1 124 (dk_at dksX1_judged_6 0 rfl rfl)
theorem dX1_judged_142 : decode cX1_judged 142 = .ok (.lreturn, 1) := dk_173 (dk_at dksX1_judged_6 3 rfl rfl)
abbrev cX1_margin : ByteArray := prog_1_method_67_code
def yX1_margin : MethodName := ⟨RX1, "margin", "(I)I"⟩
def dkwX1_margin_5 : List UInt8 := [20, 1, 37, 148, 154, 0, 7, 2, 167, 0, 12, 22, 4, 42, 44, 182, 1, 33, 101, 136, 172]
abbrev dktX1_margin_5 : List UInt8 := dkwX1_margin_5 ++ []
def dkwX1_margin_4 : List UInt8 := [182, 1, 114, 184, 1, 135, 55, 4, 45, 21, 6, 4, 96, 182, 1, 59, 54, 6, 167, 255, 227, 22, 4]
abbrev dktX1_margin_4 : List UInt8 := dkwX1_margin_4 ++ dktX1_margin_5
def dkwX1_margin_3 : List UInt8 := [20, 1, 37, 55, 4, 45, 3, 182, 1, 59, 54, 6, 21, 6, 155, 0, 30, 22, 4, 42, 44, 21, 6]
abbrev dktX1_margin_3 : List UInt8 := dkwX1_margin_3 ++ dktX1_margin_4
def dkwX1_margin_2 : List UInt8 := [162, 0, 23, 45, 42, 180, 0, 28, 180, 1, 7, 21, 4, 46, 182, 1, 112, 132, 4, 1, 167, 255, 227]
abbrev dktX1_margin_2 : List UInt8 := dkwX1_margin_2 ++ dktX1_margin_3
def dkwX1_margin_1 : List UInt8 := [187, 0, 174, 89, 16, 24, 183, 1, 53, 78, 3, 54, 4, 21, 4, 42, 180, 0, 28, 180, 1, 6]
abbrev dktX1_margin_1 : List UInt8 := dkwX1_margin_1 ++ dktX1_margin_2
def dkwX1_margin_0 : List UInt8 := [42, 27, 182, 0, 199, 77, 42, 180, 0, 28, 42, 180, 0, 19, 44, 182, 0, 255, 154, 0, 5, 2, 172]
abbrev dktX1_margin_0 : List UInt8 := dkwX1_margin_0 ++ dktX1_margin_1
theorem dksX1_margin_0 : cX1_margin.data.toList.drop 0 = dktX1_margin_0 := by decide +kernel
theorem dksX1_margin_1 : cX1_margin.data.toList.drop 23 = dktX1_margin_1 := dk_seg dksX1_margin_0 23 rfl rfl
theorem dksX1_margin_2 : cX1_margin.data.toList.drop 45 = dktX1_margin_2 := dk_seg dksX1_margin_1 22 rfl rfl
theorem dksX1_margin_3 : cX1_margin.data.toList.drop 68 = dktX1_margin_3 := dk_seg dksX1_margin_2 23 rfl rfl
theorem dksX1_margin_4 : cX1_margin.data.toList.drop 91 = dktX1_margin_4 := dk_seg dksX1_margin_3 23 rfl rfl
theorem dksX1_margin_5 : cX1_margin.data.toList.drop 114 = dktX1_margin_5 := dk_seg dksX1_margin_4 23 rfl rfl
theorem dX1_margin_0 : decode cX1_margin 0 = .ok (.aload_n 0, 1) := dk_42 (dk_at dksX1_margin_0 0 rfl rfl)
theorem dX1_margin_1 : decode cX1_margin 1 = .ok (.iload_n 1, 1) := dk_27 (dk_at dksX1_margin_0 1 rfl rfl)
theorem dX1_margin_2 : decode cX1_margin 2 = .ok (.invokevirtual 199, 3) := dk_182 0 199 (dk_at dksX1_margin_0 2 rfl rfl)
theorem dX1_margin_5 : decode cX1_margin 5 = .ok (.astore_n 2, 1) := dk_77 (dk_at dksX1_margin_0 5 rfl rfl)
theorem dX1_margin_6 : decode cX1_margin 6 = .ok (.aload_n 0, 1) := dk_42 (dk_at dksX1_margin_0 6 rfl rfl)
theorem dX1_margin_7 : decode cX1_margin 7 = .ok (.getfield 28, 3) := dk_180 0 28 (dk_at dksX1_margin_0 7 rfl rfl)
theorem dX1_margin_10 : decode cX1_margin 10 = .ok (.aload_n 0, 1) := dk_42 (dk_at dksX1_margin_0 10 rfl rfl)
theorem dX1_margin_11 : decode cX1_margin 11 = .ok (.getfield 19, 3) := dk_180 0 19 (dk_at dksX1_margin_0 11 rfl rfl)
theorem dX1_margin_14 : decode cX1_margin 14 = .ok (.aload_n 2, 1) := dk_44 (dk_at dksX1_margin_0 14 rfl rfl)
theorem dX1_margin_15 : decode cX1_margin 15 = .ok (.invokevirtual 255, 3) := dk_182 0 255 (dk_at dksX1_margin_0 15 rfl rfl)
theorem dX1_margin_18 : decode cX1_margin 18 = .ok (.ifCond .ne 5, 3) := dk_154 0 5 (dk_at dksX1_margin_0 18 rfl rfl)
theorem dX1_margin_21 : decode cX1_margin 21 = .ok (.iconst (-1), 1) := dk_2 (dk_at dksX1_margin_0 21 rfl rfl)
theorem dX1_margin_22 : decode cX1_margin 22 = .ok (.ireturn, 1) := dk_172 (dk_at dksX1_margin_0 22 rfl rfl)
theorem dX1_margin_23 : decode cX1_margin 23 = .ok (.new 174, 3) := dk_187 0 174 (dk_at dksX1_margin_1 0 rfl rfl)
theorem dX1_margin_26 : decode cX1_margin 26 = .ok (.dup, 1) := dk_89 (dk_at dksX1_margin_1 3 rfl rfl)
theorem dX1_margin_27 : decode cX1_margin 27 = .ok (.bipush 24, 2) := dk_16 24 (dk_at dksX1_margin_1 4 rfl rfl)
theorem dX1_margin_29 : decode cX1_margin 29 = .ok (.invokespecial 309, 3) := dk_183 1 53 (dk_at dksX1_margin_1 6 rfl rfl)
theorem dX1_margin_32 : decode cX1_margin 32 = .ok (.astore_n 3, 1) := dk_78 (dk_at dksX1_margin_1 9 rfl rfl)
theorem dX1_margin_33 : decode cX1_margin 33 = .ok (.iconst 0, 1) := dk_3 (dk_at dksX1_margin_1 10 rfl rfl)
theorem dX1_margin_34 : decode cX1_margin 34 = .ok (.istore 4, 2) := dk_54 4 (dk_at dksX1_margin_1 11 rfl rfl)
theorem dX1_margin_36 : decode cX1_margin 36 = .ok (.iload 4, 2) := dk_21 4 (dk_at dksX1_margin_1 13 rfl rfl)
theorem dX1_margin_38 : decode cX1_margin 38 = .ok (.aload_n 0, 1) := dk_42 (dk_at dksX1_margin_1 15 rfl rfl)
theorem dX1_margin_39 : decode cX1_margin 39 = .ok (.getfield 28, 3) := dk_180 0 28 (dk_at dksX1_margin_1 16 rfl rfl)
theorem dX1_margin_42 : decode cX1_margin 42 = .ok (.getfield 262, 3) := dk_180 1 6 (dk_at dksX1_margin_1 19 rfl rfl)
theorem dX1_margin_45 : decode cX1_margin 45 = .ok (.if_icmp .ge 23, 3) := dk_162 0 23 (dk_at dksX1_margin_2 0 rfl rfl)
theorem dX1_margin_48 : decode cX1_margin 48 = .ok (.aload_n 3, 1) := dk_45 (dk_at dksX1_margin_2 3 rfl rfl)
theorem dX1_margin_49 : decode cX1_margin 49 = .ok (.aload_n 0, 1) := dk_42 (dk_at dksX1_margin_2 4 rfl rfl)
theorem dX1_margin_50 : decode cX1_margin 50 = .ok (.getfield 28, 3) := dk_180 0 28 (dk_at dksX1_margin_2 5 rfl rfl)
theorem dX1_margin_53 : decode cX1_margin 53 = .ok (.getfield 263, 3) := dk_180 1 7 (dk_at dksX1_margin_2 8 rfl rfl)
theorem dX1_margin_56 : decode cX1_margin 56 = .ok (.iload 4, 2) := dk_21 4 (dk_at dksX1_margin_2 11 rfl rfl)
theorem dX1_margin_58 : decode cX1_margin 58 = .ok (.iaload, 1) := dk_46 (dk_at dksX1_margin_2 13 rfl rfl)
theorem dX1_margin_59 : decode cX1_margin 59 = .ok (.invokevirtual 368, 3) := dk_182 1 112 (dk_at dksX1_margin_2 14 rfl rfl)
theorem dX1_margin_62 : decode cX1_margin 62 = .ok (.iinc 4 1, 3) := dk_132 4 1 (dk_at dksX1_margin_2 17 rfl rfl)
theorem dX1_margin_65 : decode cX1_margin 65 = .ok (.goto (-29), 3) := dk_167 255 227 (dk_at dksX1_margin_2 20 rfl rfl)
theorem dX1_margin_68 : decode cX1_margin 68 = .ok (.ldc2_w 293, 3) := dk_20 1 37 (dk_at dksX1_margin_3 0 rfl rfl)
theorem dX1_margin_71 : decode cX1_margin 71 = .ok (.lstore 4, 2) := dk_55 4 (dk_at dksX1_margin_3 3 rfl rfl)
theorem dX1_margin_73 : decode cX1_margin 73 = .ok (.aload_n 3, 1) := dk_45 (dk_at dksX1_margin_3 5 rfl rfl)
theorem dX1_margin_74 : decode cX1_margin 74 = .ok (.iconst 0, 1) := dk_3 (dk_at dksX1_margin_3 6 rfl rfl)
theorem dX1_margin_75 : decode cX1_margin 75 = .ok (.invokevirtual 315, 3) := dk_182 1 59 (dk_at dksX1_margin_3 7 rfl rfl)
theorem dX1_margin_78 : decode cX1_margin 78 = .ok (.istore 6, 2) := dk_54 6 (dk_at dksX1_margin_3 10 rfl rfl)
theorem dX1_margin_80 : decode cX1_margin 80 = .ok (.iload 6, 2) := dk_21 6 (dk_at dksX1_margin_3 12 rfl rfl)
theorem dX1_margin_82 : decode cX1_margin 82 = .ok (.ifCond .lt 30, 3) := dk_155 0 30 (dk_at dksX1_margin_3 14 rfl rfl)
theorem dX1_margin_85 : decode cX1_margin 85 = .ok (.lload 4, 2) := dk_22 4 (dk_at dksX1_margin_3 17 rfl rfl)
theorem dX1_margin_87 : decode cX1_margin 87 = .ok (.aload_n 0, 1) := dk_42 (dk_at dksX1_margin_3 19 rfl rfl)
theorem dX1_margin_88 : decode cX1_margin 88 = .ok (.aload_n 2, 1) := dk_44 (dk_at dksX1_margin_3 20 rfl rfl)
theorem dX1_margin_89 : decode cX1_margin 89 = .ok (.iload 6, 2) := dk_21 6 (dk_at dksX1_margin_3 21 rfl rfl)
theorem dX1_margin_91 : decode cX1_margin 91 = .ok (.invokevirtual 370, 3) := dk_182 1 114 (dk_at dksX1_margin_4 0 rfl rfl)
theorem dX1_margin_94 : decode cX1_margin 94 = .ok (.invokestatic 391, 3) := dk_184 1 135 (dk_at dksX1_margin_4 3 rfl rfl)
theorem dX1_margin_97 : decode cX1_margin 97 = .ok (.lstore 4, 2) := dk_55 4 (dk_at dksX1_margin_4 6 rfl rfl)
theorem dX1_margin_99 : decode cX1_margin 99 = .ok (.aload_n 3, 1) := dk_45 (dk_at dksX1_margin_4 8 rfl rfl)
theorem dX1_margin_100 : decode cX1_margin 100 = .ok (.iload 6, 2) := dk_21 6 (dk_at dksX1_margin_4 9 rfl rfl)
theorem dX1_margin_102 : decode cX1_margin 102 = .ok (.iconst 1, 1) := dk_4 (dk_at dksX1_margin_4 11 rfl rfl)
theorem dX1_margin_103 : decode cX1_margin 103 = .ok (.iadd, 1) := dk_96 (dk_at dksX1_margin_4 12 rfl rfl)
theorem dX1_margin_104 : decode cX1_margin 104 = .ok (.invokevirtual 315, 3) := dk_182 1 59 (dk_at dksX1_margin_4 13 rfl rfl)
theorem dX1_margin_107 : decode cX1_margin 107 = .ok (.istore 6, 2) := dk_54 6 (dk_at dksX1_margin_4 16 rfl rfl)
theorem dX1_margin_109 : decode cX1_margin 109 = .ok (.goto (-29), 3) := dk_167 255 227 (dk_at dksX1_margin_4 18 rfl rfl)
theorem dX1_margin_112 : decode cX1_margin 112 = .ok (.lload 4, 2) := dk_22 4 (dk_at dksX1_margin_4 21 rfl rfl)
theorem dX1_margin_114 : decode cX1_margin 114 = .ok (.ldc2_w 293, 3) := dk_20 1 37 (dk_at dksX1_margin_5 0 rfl rfl)
theorem dX1_margin_117 : decode cX1_margin 117 = .ok (.lcmp, 1) := dk_148 (dk_at dksX1_margin_5 3 rfl rfl)
theorem dX1_margin_118 : decode cX1_margin 118 = .ok (.ifCond .ne 7, 3) := dk_154 0 7 (dk_at dksX1_margin_5 4 rfl rfl)
theorem dX1_margin_121 : decode cX1_margin 121 = .ok (.iconst (-1), 1) := dk_2 (dk_at dksX1_margin_5 7 rfl rfl)
theorem dX1_margin_122 : decode cX1_margin 122 = .ok (.goto 12, 3) := dk_167 0 12 (dk_at dksX1_margin_5 8 rfl rfl)
theorem dX1_margin_125 : decode cX1_margin 125 = .ok (.lload 4, 2) := dk_22 4 (dk_at dksX1_margin_5 11 rfl rfl)
theorem dX1_margin_127 : decode cX1_margin 127 = .ok (.aload_n 0, 1) := dk_42 (dk_at dksX1_margin_5 13 rfl rfl)
theorem dX1_margin_128 : decode cX1_margin 128 = .ok (.aload_n 2, 1) := dk_44 (dk_at dksX1_margin_5 14 rfl rfl)
theorem dX1_margin_129 : decode cX1_margin 129 = .ok (.invokevirtual 289, 3) := dk_182 1 33 (dk_at dksX1_margin_5 15 rfl rfl)
theorem dX1_margin_132 : decode cX1_margin 132 = .ok (.lsub, 1) := dk_101 (dk_at dksX1_margin_5 18 rfl rfl)
theorem dX1_margin_133 : decode cX1_margin 133 = .ok (.l2i, 1) := dk_136 (dk_at dksX1_margin_5 19 rfl rfl)
theorem dX1_margin_134 : decode cX1_margin 134 = .ok (.ireturn, 1) := dk_172 (dk_at dksX1_margin_5 20 rfl rfl)
abbrev cX1_revenueWith : ByteArray := prog_1_method_68_code
def yX1_revenueWith : MethodName := ⟨RX1, "revenueWith", "(II)J"⟩
def dkwX1_revenueWith_2 : List UInt8 := [180, 0, 19, 180, 0, 218, 27, 29, 79, 22, 4, 173]
abbrev dktX1_revenueWith_2 : List UInt8 := dkwX1_revenueWith_2 ++ []
def dkwX1_revenueWith_1 : List UInt8 := [180, 0, 218, 27, 46, 62, 42, 180, 0, 19, 180, 0, 218, 27, 28, 79, 42, 182, 1, 73, 55, 4, 42]
abbrev dktX1_revenueWith_1 : List UInt8 := dkwX1_revenueWith_1 ++ dktX1_revenueWith_2
def dkwX1_revenueWith_0 : List UInt8 := [28, 133, 9, 42, 27, 182, 0, 178, 182, 0, 160, 133, 184, 0, 121, 184, 0, 212, 42, 180, 0, 19]
abbrev dktX1_revenueWith_0 : List UInt8 := dkwX1_revenueWith_0 ++ dktX1_revenueWith_1
theorem dksX1_revenueWith_0 : cX1_revenueWith.data.toList.drop 0 = dktX1_revenueWith_0 := by decide +kernel
theorem dksX1_revenueWith_1 : cX1_revenueWith.data.toList.drop 22 = dktX1_revenueWith_1 := dk_seg dksX1_revenueWith_0 22 rfl rfl
theorem dksX1_revenueWith_2 : cX1_revenueWith.data.toList.drop 45 = dktX1_revenueWith_2 := dk_seg dksX1_revenueWith_1 23 rfl rfl
theorem dX1_revenueWith_0 : decode cX1_revenueWith 0 = .ok (.iload_n 2, 1) := dk_28 (dk_at dksX1_revenueWith_0 0 rfl rfl)
theorem dX1_revenueWith_1 : decode cX1_revenueWith 1 = .ok (.i2l, 1) := dk_133 (dk_at dksX1_revenueWith_0 1 rfl rfl)
theorem dX1_revenueWith_2 : decode cX1_revenueWith 2 = .ok (.lconst 0, 1) := dk_9 (dk_at dksX1_revenueWith_0 2 rfl rfl)
theorem dX1_revenueWith_3 : decode cX1_revenueWith 3 = .ok (.aload_n 0, 1) := dk_42 (dk_at dksX1_revenueWith_0 3 rfl rfl)
theorem dX1_revenueWith_4 : decode cX1_revenueWith 4 = .ok (.iload_n 1, 1) := dk_27 (dk_at dksX1_revenueWith_0 4 rfl rfl)
theorem dX1_revenueWith_5 : decode cX1_revenueWith 5 = .ok (.invokevirtual 178, 3) := dk_182 0 178 (dk_at dksX1_revenueWith_0 5 rfl rfl)
theorem dX1_revenueWith_8 : decode cX1_revenueWith 8 = .ok (.invokevirtual 160, 3) := dk_182 0 160 (dk_at dksX1_revenueWith_0 8 rfl rfl)
theorem dX1_revenueWith_11 : decode cX1_revenueWith 11 = .ok (.i2l, 1) := dk_133 (dk_at dksX1_revenueWith_0 11 rfl rfl)
theorem dX1_revenueWith_12 : decode cX1_revenueWith 12 = .ok (.invokestatic 121, 3) := dk_184 0 121 (dk_at dksX1_revenueWith_0 12 rfl rfl)
theorem dX1_revenueWith_15 : decode cX1_revenueWith 15 = .ok (.invokestatic 212, 3) := dk_184 0 212 (dk_at dksX1_revenueWith_0 15 rfl rfl)
theorem dX1_revenueWith_18 : decode cX1_revenueWith 18 = .ok (.aload_n 0, 1) := dk_42 (dk_at dksX1_revenueWith_0 18 rfl rfl)
theorem dX1_revenueWith_19 : decode cX1_revenueWith 19 = .ok (.getfield 19, 3) := dk_180 0 19 (dk_at dksX1_revenueWith_0 19 rfl rfl)
theorem dX1_revenueWith_22 : decode cX1_revenueWith 22 = .ok (.getfield 218, 3) := dk_180 0 218 (dk_at dksX1_revenueWith_1 0 rfl rfl)
theorem dX1_revenueWith_25 : decode cX1_revenueWith 25 = .ok (.iload_n 1, 1) := dk_27 (dk_at dksX1_revenueWith_1 3 rfl rfl)
theorem dX1_revenueWith_26 : decode cX1_revenueWith 26 = .ok (.iaload, 1) := dk_46 (dk_at dksX1_revenueWith_1 4 rfl rfl)
theorem dX1_revenueWith_27 : decode cX1_revenueWith 27 = .ok (.istore_n 3, 1) := dk_62 (dk_at dksX1_revenueWith_1 5 rfl rfl)
theorem dX1_revenueWith_28 : decode cX1_revenueWith 28 = .ok (.aload_n 0, 1) := dk_42 (dk_at dksX1_revenueWith_1 6 rfl rfl)
theorem dX1_revenueWith_29 : decode cX1_revenueWith 29 = .ok (.getfield 19, 3) := dk_180 0 19 (dk_at dksX1_revenueWith_1 7 rfl rfl)
theorem dX1_revenueWith_32 : decode cX1_revenueWith 32 = .ok (.getfield 218, 3) := dk_180 0 218 (dk_at dksX1_revenueWith_1 10 rfl rfl)
theorem dX1_revenueWith_35 : decode cX1_revenueWith 35 = .ok (.iload_n 1, 1) := dk_27 (dk_at dksX1_revenueWith_1 13 rfl rfl)
theorem dX1_revenueWith_36 : decode cX1_revenueWith 36 = .ok (.iload_n 2, 1) := dk_28 (dk_at dksX1_revenueWith_1 14 rfl rfl)
theorem dX1_revenueWith_37 : decode cX1_revenueWith 37 = .ok (.iastore, 1) := dk_79 (dk_at dksX1_revenueWith_1 15 rfl rfl)
theorem dX1_revenueWith_38 : decode cX1_revenueWith 38 = .ok (.aload_n 0, 1) := dk_42 (dk_at dksX1_revenueWith_1 16 rfl rfl)
theorem dX1_revenueWith_39 : decode cX1_revenueWith 39 = .ok (.invokevirtual 329, 3) := dk_182 1 73 (dk_at dksX1_revenueWith_1 17 rfl rfl)
theorem dX1_revenueWith_42 : decode cX1_revenueWith 42 = .ok (.lstore 4, 2) := dk_55 4 (dk_at dksX1_revenueWith_1 20 rfl rfl)
theorem dX1_revenueWith_44 : decode cX1_revenueWith 44 = .ok (.aload_n 0, 1) := dk_42 (dk_at dksX1_revenueWith_1 22 rfl rfl)
theorem dX1_revenueWith_45 : decode cX1_revenueWith 45 = .ok (.getfield 19, 3) := dk_180 0 19 (dk_at dksX1_revenueWith_2 0 rfl rfl)
theorem dX1_revenueWith_48 : decode cX1_revenueWith 48 = .ok (.getfield 218, 3) := dk_180 0 218 (dk_at dksX1_revenueWith_2 3 rfl rfl)
theorem dX1_revenueWith_51 : decode cX1_revenueWith 51 = .ok (.iload_n 1, 1) := dk_27 (dk_at dksX1_revenueWith_2 6 rfl rfl)
theorem dX1_revenueWith_52 : decode cX1_revenueWith 52 = .ok (.iload_n 3, 1) := dk_29 (dk_at dksX1_revenueWith_2 7 rfl rfl)
theorem dX1_revenueWith_53 : decode cX1_revenueWith 53 = .ok (.iastore, 1) := dk_79 (dk_at dksX1_revenueWith_2 8 rfl rfl)
theorem dX1_revenueWith_54 : decode cX1_revenueWith 54 = .ok (.lload 4, 2) := dk_22 4 (dk_at dksX1_revenueWith_2 9 rfl rfl)
theorem dX1_revenueWith_56 : decode cX1_revenueWith 56 = .ok (.lreturn, 1) := dk_173 (dk_at dksX1_revenueWith_2 11 rfl rfl)
abbrev cX1_stepCount : ByteArray := prog_1_method_69_code
def yX1_stepCount : MethodName := ⟨RX1, "stepCount", "(I)I"⟩
def dkwX1_stepCount_0 : List UInt8 := [42, 42, 27, 182, 0, 178, 182, 1, 138, 182, 0, 173, 172]
abbrev dktX1_stepCount_0 : List UInt8 := dkwX1_stepCount_0 ++ []
theorem dksX1_stepCount_0 : cX1_stepCount.data.toList.drop 0 = dktX1_stepCount_0 := by decide +kernel
theorem dX1_stepCount_0 : decode cX1_stepCount 0 = .ok (.aload_n 0, 1) := dk_42 (dk_at dksX1_stepCount_0 0 rfl rfl)
theorem dX1_stepCount_1 : decode cX1_stepCount 1 = .ok (.aload_n 0, 1) := dk_42 (dk_at dksX1_stepCount_0 1 rfl rfl)
theorem dX1_stepCount_2 : decode cX1_stepCount 2 = .ok (.iload_n 1, 1) := dk_27 (dk_at dksX1_stepCount_0 2 rfl rfl)
theorem dX1_stepCount_3 : decode cX1_stepCount 3 = .ok (.invokevirtual 178, 3) := dk_182 0 178 (dk_at dksX1_stepCount_0 3 rfl rfl)
theorem dX1_stepCount_6 : decode cX1_stepCount 6 = .ok (.invokevirtual 394, 3) := dk_182 1 138 (dk_at dksX1_stepCount_0 6 rfl rfl)
theorem dX1_stepCount_9 : decode cX1_stepCount 9 = .ok (.invokevirtual 173, 3) := dk_182 0 173 (dk_at dksX1_stepCount_0 9 rfl rfl)
theorem dX1_stepCount_12 : decode cX1_stepCount 12 = .ok (.ireturn, 1) := dk_172 (dk_at dksX1_stepCount_0 12 rfl rfl)
abbrev cX1_steps : ByteArray := prog_1_method_70_code
def yX1_steps : MethodName := ⟨RX1, "steps", "(LTollLeader$Arc;)Ljava/util/BitSet;"⟩
def dkwX1_steps_2 : List UInt8 := [43, 182, 0, 160, 162, 0, 9, 44, 21, 4, 182, 1, 112, 132, 3, 1, 167, 255, 205, 44, 176]
abbrev dktX1_steps_2 : List UInt8 := dkwX1_steps_2 ++ []
def dkwX1_steps_1 : List UInt8 := [185, 0, 107, 1, 0, 162, 0, 38, 42, 29, 43, 182, 1, 92, 54, 4, 21, 4, 2, 159, 0, 18, 21, 4]
abbrev dktX1_steps_1 : List UInt8 := dkwX1_steps_1 ++ dktX1_steps_2
def dkwX1_steps_0 : List UInt8 := [187, 0, 174, 89, 183, 1, 142, 77, 3, 62, 29, 42, 180, 0, 19, 180, 0, 99, 180, 0, 125]
abbrev dktX1_steps_0 : List UInt8 := dkwX1_steps_0 ++ dktX1_steps_1
theorem dksX1_steps_0 : cX1_steps.data.toList.drop 0 = dktX1_steps_0 := by decide +kernel
theorem dksX1_steps_1 : cX1_steps.data.toList.drop 21 = dktX1_steps_1 := dk_seg dksX1_steps_0 21 rfl rfl
theorem dksX1_steps_2 : cX1_steps.data.toList.drop 45 = dktX1_steps_2 := dk_seg dksX1_steps_1 24 rfl rfl
theorem dX1_steps_0 : decode cX1_steps 0 = .ok (.new 174, 3) := dk_187 0 174 (dk_at dksX1_steps_0 0 rfl rfl)
theorem dX1_steps_3 : decode cX1_steps 3 = .ok (.dup, 1) := dk_89 (dk_at dksX1_steps_0 3 rfl rfl)
theorem dX1_steps_4 : decode cX1_steps 4 = .ok (.invokespecial 398, 3) := dk_183 1 142 (dk_at dksX1_steps_0 4 rfl rfl)
theorem dX1_steps_7 : decode cX1_steps 7 = .ok (.astore_n 2, 1) := dk_77 (dk_at dksX1_steps_0 7 rfl rfl)
theorem dX1_steps_8 : decode cX1_steps 8 = .ok (.iconst 0, 1) := dk_3 (dk_at dksX1_steps_0 8 rfl rfl)
theorem dX1_steps_9 : decode cX1_steps 9 = .ok (.istore_n 3, 1) := dk_62 (dk_at dksX1_steps_0 9 rfl rfl)
theorem dX1_steps_10 : decode cX1_steps 10 = .ok (.iload_n 3, 1) := dk_29 (dk_at dksX1_steps_0 10 rfl rfl)
theorem dX1_steps_11 : decode cX1_steps 11 = .ok (.aload_n 0, 1) := dk_42 (dk_at dksX1_steps_0 11 rfl rfl)
theorem dX1_steps_12 : decode cX1_steps 12 = .ok (.getfield 19, 3) := dk_180 0 19 (dk_at dksX1_steps_0 12 rfl rfl)
theorem dX1_steps_15 : decode cX1_steps 15 = .ok (.getfield 99, 3) := dk_180 0 99 (dk_at dksX1_steps_0 15 rfl rfl)
theorem dX1_steps_18 : decode cX1_steps 18 = .ok (.getfield 125, 3) := dk_180 0 125 (dk_at dksX1_steps_0 18 rfl rfl)
theorem dX1_steps_21 : decode cX1_steps 21 = .ok (.invokeinterface 107 1, 5) := by decide +kernel
theorem dX1_steps_26 : decode cX1_steps 26 = .ok (.if_icmp .ge 38, 3) := dk_162 0 38 (dk_at dksX1_steps_1 5 rfl rfl)
theorem dX1_steps_29 : decode cX1_steps 29 = .ok (.aload_n 0, 1) := dk_42 (dk_at dksX1_steps_1 8 rfl rfl)
theorem dX1_steps_30 : decode cX1_steps 30 = .ok (.iload_n 3, 1) := dk_29 (dk_at dksX1_steps_1 9 rfl rfl)
theorem dX1_steps_31 : decode cX1_steps 31 = .ok (.aload_n 1, 1) := dk_43 (dk_at dksX1_steps_1 10 rfl rfl)
theorem dX1_steps_32 : decode cX1_steps 32 = .ok (.invokevirtual 348, 3) := dk_182 1 92 (dk_at dksX1_steps_1 11 rfl rfl)
theorem dX1_steps_35 : decode cX1_steps 35 = .ok (.istore 4, 2) := dk_54 4 (dk_at dksX1_steps_1 14 rfl rfl)
theorem dX1_steps_37 : decode cX1_steps 37 = .ok (.iload 4, 2) := dk_21 4 (dk_at dksX1_steps_1 16 rfl rfl)
theorem dX1_steps_39 : decode cX1_steps 39 = .ok (.iconst (-1), 1) := dk_2 (dk_at dksX1_steps_1 18 rfl rfl)
theorem dX1_steps_40 : decode cX1_steps 40 = .ok (.if_icmp .eq 18, 3) := dk_159 0 18 (dk_at dksX1_steps_1 19 rfl rfl)
theorem dX1_steps_43 : decode cX1_steps 43 = .ok (.iload 4, 2) := dk_21 4 (dk_at dksX1_steps_1 22 rfl rfl)
theorem dX1_steps_45 : decode cX1_steps 45 = .ok (.aload_n 1, 1) := dk_43 (dk_at dksX1_steps_2 0 rfl rfl)
theorem dX1_steps_46 : decode cX1_steps 46 = .ok (.invokevirtual 160, 3) := dk_182 0 160 (dk_at dksX1_steps_2 1 rfl rfl)
theorem dX1_steps_49 : decode cX1_steps 49 = .ok (.if_icmp .ge 9, 3) := dk_162 0 9 (dk_at dksX1_steps_2 4 rfl rfl)
theorem dX1_steps_52 : decode cX1_steps 52 = .ok (.aload_n 2, 1) := dk_44 (dk_at dksX1_steps_2 7 rfl rfl)
theorem dX1_steps_53 : decode cX1_steps 53 = .ok (.iload 4, 2) := dk_21 4 (dk_at dksX1_steps_2 8 rfl rfl)
theorem dX1_steps_55 : decode cX1_steps 55 = .ok (.invokevirtual 368, 3) := dk_182 1 112 (dk_at dksX1_steps_2 10 rfl rfl)
theorem dX1_steps_58 : decode cX1_steps 58 = .ok (.iinc 3 1, 3) := dk_132 3 1 (dk_at dksX1_steps_2 13 rfl rfl)
theorem dX1_steps_61 : decode cX1_steps 61 = .ok (.goto (-51), 3) := dk_167 255 205 (dk_at dksX1_steps_2 16 rfl rfl)
theorem dX1_steps_64 : decode cX1_steps 64 = .ok (.aload_n 2, 1) := dk_44 (dk_at dksX1_steps_2 19 rfl rfl)
theorem dX1_steps_65 : decode cX1_steps 65 = .ok (.areturn, 1) := dk_176 (dk_at dksX1_steps_2 20 rfl rfl)
abbrev cX1_step : ByteArray := prog_1_method_71_code
def yX1_step : MethodName := ⟨RX1, "step", "(II)I"⟩
def dkwX1_step_2 : List UInt8 := [28, 156, 0, 7, 2, 167, 0, 5, 21, 4, 172]
abbrev dktX1_step_2 : List UInt8 := dkwX1_step_2 ++ []
def dkwX1_step_1 : List UInt8 := [162, 0, 24, 21, 4, 155, 0, 19, 45, 21, 4, 4, 96, 182, 1, 59, 54, 4, 132, 5, 1, 167, 255, 232]
abbrev dktX1_step_1 : List UInt8 := dkwX1_step_1 ++ dktX1_step_2
def dkwX1_step_0 : List UInt8 := [42, 42, 27, 182, 0, 178, 182, 1, 138, 78, 45, 3, 182, 1, 59, 54, 4, 3, 54, 5, 21, 5, 28]
abbrev dktX1_step_0 : List UInt8 := dkwX1_step_0 ++ dktX1_step_1
theorem dksX1_step_0 : cX1_step.data.toList.drop 0 = dktX1_step_0 := by decide +kernel
theorem dksX1_step_1 : cX1_step.data.toList.drop 23 = dktX1_step_1 := dk_seg dksX1_step_0 23 rfl rfl
theorem dksX1_step_2 : cX1_step.data.toList.drop 47 = dktX1_step_2 := dk_seg dksX1_step_1 24 rfl rfl
theorem dX1_step_0 : decode cX1_step 0 = .ok (.aload_n 0, 1) := dk_42 (dk_at dksX1_step_0 0 rfl rfl)
theorem dX1_step_1 : decode cX1_step 1 = .ok (.aload_n 0, 1) := dk_42 (dk_at dksX1_step_0 1 rfl rfl)
theorem dX1_step_2 : decode cX1_step 2 = .ok (.iload_n 1, 1) := dk_27 (dk_at dksX1_step_0 2 rfl rfl)
theorem dX1_step_3 : decode cX1_step 3 = .ok (.invokevirtual 178, 3) := dk_182 0 178 (dk_at dksX1_step_0 3 rfl rfl)
theorem dX1_step_6 : decode cX1_step 6 = .ok (.invokevirtual 394, 3) := dk_182 1 138 (dk_at dksX1_step_0 6 rfl rfl)
theorem dX1_step_9 : decode cX1_step 9 = .ok (.astore_n 3, 1) := dk_78 (dk_at dksX1_step_0 9 rfl rfl)
theorem dX1_step_10 : decode cX1_step 10 = .ok (.aload_n 3, 1) := dk_45 (dk_at dksX1_step_0 10 rfl rfl)
theorem dX1_step_11 : decode cX1_step 11 = .ok (.iconst 0, 1) := dk_3 (dk_at dksX1_step_0 11 rfl rfl)
theorem dX1_step_12 : decode cX1_step 12 = .ok (.invokevirtual 315, 3) := dk_182 1 59 (dk_at dksX1_step_0 12 rfl rfl)
theorem dX1_step_15 : decode cX1_step 15 = .ok (.istore 4, 2) := dk_54 4 (dk_at dksX1_step_0 15 rfl rfl)
theorem dX1_step_17 : decode cX1_step 17 = .ok (.iconst 0, 1) := dk_3 (dk_at dksX1_step_0 17 rfl rfl)
theorem dX1_step_18 : decode cX1_step 18 = .ok (.istore 5, 2) := dk_54 5 (dk_at dksX1_step_0 18 rfl rfl)
theorem dX1_step_20 : decode cX1_step 20 = .ok (.iload 5, 2) := dk_21 5 (dk_at dksX1_step_0 20 rfl rfl)
theorem dX1_step_22 : decode cX1_step 22 = .ok (.iload_n 2, 1) := dk_28 (dk_at dksX1_step_0 22 rfl rfl)
theorem dX1_step_23 : decode cX1_step 23 = .ok (.if_icmp .ge 24, 3) := dk_162 0 24 (dk_at dksX1_step_1 0 rfl rfl)
theorem dX1_step_26 : decode cX1_step 26 = .ok (.iload 4, 2) := dk_21 4 (dk_at dksX1_step_1 3 rfl rfl)
theorem dX1_step_28 : decode cX1_step 28 = .ok (.ifCond .lt 19, 3) := dk_155 0 19 (dk_at dksX1_step_1 5 rfl rfl)
theorem dX1_step_31 : decode cX1_step 31 = .ok (.aload_n 3, 1) := dk_45 (dk_at dksX1_step_1 8 rfl rfl)
theorem dX1_step_32 : decode cX1_step 32 = .ok (.iload 4, 2) := dk_21 4 (dk_at dksX1_step_1 9 rfl rfl)
theorem dX1_step_34 : decode cX1_step 34 = .ok (.iconst 1, 1) := dk_4 (dk_at dksX1_step_1 11 rfl rfl)
theorem dX1_step_35 : decode cX1_step 35 = .ok (.iadd, 1) := dk_96 (dk_at dksX1_step_1 12 rfl rfl)
theorem dX1_step_36 : decode cX1_step 36 = .ok (.invokevirtual 315, 3) := dk_182 1 59 (dk_at dksX1_step_1 13 rfl rfl)
theorem dX1_step_39 : decode cX1_step 39 = .ok (.istore 4, 2) := dk_54 4 (dk_at dksX1_step_1 16 rfl rfl)
theorem dX1_step_41 : decode cX1_step 41 = .ok (.iinc 5 1, 3) := dk_132 5 1 (dk_at dksX1_step_1 18 rfl rfl)
theorem dX1_step_44 : decode cX1_step 44 = .ok (.goto (-24), 3) := dk_167 255 232 (dk_at dksX1_step_1 21 rfl rfl)
theorem dX1_step_47 : decode cX1_step 47 = .ok (.iload_n 2, 1) := dk_28 (dk_at dksX1_step_2 0 rfl rfl)
theorem dX1_step_48 : decode cX1_step 48 = .ok (.ifCond .ge 7, 3) := dk_156 0 7 (dk_at dksX1_step_2 1 rfl rfl)
theorem dX1_step_51 : decode cX1_step 51 = .ok (.iconst (-1), 1) := dk_2 (dk_at dksX1_step_2 4 rfl rfl)
theorem dX1_step_52 : decode cX1_step 52 = .ok (.goto 5, 3) := dk_167 0 5 (dk_at dksX1_step_2 5 rfl rfl)
theorem dX1_step_55 : decode cX1_step 55 = .ok (.iload 4, 2) := dk_21 4 (dk_at dksX1_step_2 8 rfl rfl)
theorem dX1_step_57 : decode cX1_step 57 = .ok (.ireturn, 1) := dk_172 (dk_at dksX1_step_2 10 rfl rfl)
abbrev cX1_scaleTolls : ByteArray := prog_1_method_74_code
def yX1_scaleTolls : MethodName := ⟨RX1, "scaleTolls", "(I)I"⟩
def dkwX1_scaleTolls_5 : List UInt8 := [96, 61, 167, 255, 175, 28, 172]
abbrev dktX1_scaleTolls_5 : List UInt8 := dkwX1_scaleTolls_5 ++ []
def dkwX1_scaleTolls_4 : List UInt8 := [184, 0, 228, 79, 28, 42, 180, 0, 19, 25, 4, 182, 0, 191, 21, 5, 159, 0, 7, 4, 167, 0, 4, 3]
abbrev dktX1_scaleTolls_4 : List UInt8 := dkwX1_scaleTolls_4 ++ dktX1_scaleTolls_5
def dkwX1_scaleTolls_3 : List UInt8 := [180, 0, 19, 180, 0, 218, 25, 4, 182, 0, 225, 25, 4, 182, 0, 160, 21, 5, 27, 104, 16, 100, 108]
abbrev dktX1_scaleTolls_3 : List UInt8 := dkwX1_scaleTolls_3 ++ dktX1_scaleTolls_4
def dkwX1_scaleTolls_2 : List UInt8 := [185, 0, 157, 1, 0, 192, 0, 140, 58, 4, 42, 180, 0, 19, 25, 4, 182, 0, 191, 54, 5, 42]
abbrev dktX1_scaleTolls_2 : List UInt8 := dkwX1_scaleTolls_2 ++ dktX1_scaleTolls_3
def dkwX1_scaleTolls_1 : List UInt8 := [180, 0, 99, 180, 0, 103, 185, 0, 147, 1, 0, 78, 45, 185, 0, 151, 1, 0, 153, 0, 78, 45]
abbrev dktX1_scaleTolls_1 : List UInt8 := dkwX1_scaleTolls_1 ++ dktX1_scaleTolls_2
def dkwX1_scaleTolls_0 : List UInt8 := [27, 133, 9, 20, 1, 143, 184, 0, 121, 184, 0, 212, 42, 182, 0, 215, 3, 61, 42, 180, 0, 19]
abbrev dktX1_scaleTolls_0 : List UInt8 := dkwX1_scaleTolls_0 ++ dktX1_scaleTolls_1
theorem dksX1_scaleTolls_0 : cX1_scaleTolls.data.toList.drop 0 = dktX1_scaleTolls_0 := by decide +kernel
theorem dksX1_scaleTolls_1 : cX1_scaleTolls.data.toList.drop 22 = dktX1_scaleTolls_1 := dk_seg dksX1_scaleTolls_0 22 rfl rfl
theorem dksX1_scaleTolls_2 : cX1_scaleTolls.data.toList.drop 44 = dktX1_scaleTolls_2 := dk_seg dksX1_scaleTolls_1 22 rfl rfl
theorem dksX1_scaleTolls_3 : cX1_scaleTolls.data.toList.drop 66 = dktX1_scaleTolls_3 := dk_seg dksX1_scaleTolls_2 22 rfl rfl
theorem dksX1_scaleTolls_4 : cX1_scaleTolls.data.toList.drop 89 = dktX1_scaleTolls_4 := dk_seg dksX1_scaleTolls_3 23 rfl rfl
theorem dksX1_scaleTolls_5 : cX1_scaleTolls.data.toList.drop 113 = dktX1_scaleTolls_5 := dk_seg dksX1_scaleTolls_4 24 rfl rfl
theorem dX1_scaleTolls_0 : decode cX1_scaleTolls 0 = .ok (.iload_n 1, 1) := dk_27 (dk_at dksX1_scaleTolls_0 0 rfl rfl)
theorem dX1_scaleTolls_1 : decode cX1_scaleTolls 1 = .ok (.i2l, 1) := dk_133 (dk_at dksX1_scaleTolls_0 1 rfl rfl)
theorem dX1_scaleTolls_2 : decode cX1_scaleTolls 2 = .ok (.lconst 0, 1) := dk_9 (dk_at dksX1_scaleTolls_0 2 rfl rfl)
theorem dX1_scaleTolls_3 : decode cX1_scaleTolls 3 = .ok (.ldc2_w 399, 3) := dk_20 1 143 (dk_at dksX1_scaleTolls_0 3 rfl rfl)
theorem dX1_scaleTolls_6 : decode cX1_scaleTolls 6 = .ok (.invokestatic 121, 3) := dk_184 0 121 (dk_at dksX1_scaleTolls_0 6 rfl rfl)
theorem dX1_scaleTolls_9 : decode cX1_scaleTolls 9 = .ok (.invokestatic 212, 3) := dk_184 0 212 (dk_at dksX1_scaleTolls_0 9 rfl rfl)
theorem dX1_scaleTolls_12 : decode cX1_scaleTolls 12 = .ok (.aload_n 0, 1) := dk_42 (dk_at dksX1_scaleTolls_0 12 rfl rfl)
theorem dX1_scaleTolls_13 : decode cX1_scaleTolls 13 = .ok (.invokevirtual 215, 3) := dk_182 0 215 (dk_at dksX1_scaleTolls_0 13 rfl rfl)
theorem dX1_scaleTolls_16 : decode cX1_scaleTolls 16 = .ok (.iconst 0, 1) := dk_3 (dk_at dksX1_scaleTolls_0 16 rfl rfl)
theorem dX1_scaleTolls_17 : decode cX1_scaleTolls 17 = .ok (.istore_n 2, 1) := dk_61 (dk_at dksX1_scaleTolls_0 17 rfl rfl)
theorem dX1_scaleTolls_18 : decode cX1_scaleTolls 18 = .ok (.aload_n 0, 1) := dk_42 (dk_at dksX1_scaleTolls_0 18 rfl rfl)
theorem dX1_scaleTolls_19 : decode cX1_scaleTolls 19 = .ok (.getfield 19, 3) := dk_180 0 19 (dk_at dksX1_scaleTolls_0 19 rfl rfl)
theorem dX1_scaleTolls_22 : decode cX1_scaleTolls 22 = .ok (.getfield 99, 3) := dk_180 0 99 (dk_at dksX1_scaleTolls_1 0 rfl rfl)
theorem dX1_scaleTolls_25 : decode cX1_scaleTolls 25 = .ok (.getfield 103, 3) := dk_180 0 103 (dk_at dksX1_scaleTolls_1 3 rfl rfl)
theorem dX1_scaleTolls_28 : decode cX1_scaleTolls 28 = .ok (.invokeinterface 147 1, 5) := by decide +kernel
theorem dX1_scaleTolls_33 : decode cX1_scaleTolls 33 = .ok (.astore_n 3, 1) := dk_78 (dk_at dksX1_scaleTolls_1 11 rfl rfl)
theorem dX1_scaleTolls_34 : decode cX1_scaleTolls 34 = .ok (.aload_n 3, 1) := dk_45 (dk_at dksX1_scaleTolls_1 12 rfl rfl)
theorem dX1_scaleTolls_35 : decode cX1_scaleTolls 35 = .ok (.invokeinterface 151 1, 5) := by decide +kernel
theorem dX1_scaleTolls_40 : decode cX1_scaleTolls 40 = .ok (.ifCond .eq 78, 3) := dk_153 0 78 (dk_at dksX1_scaleTolls_1 18 rfl rfl)
theorem dX1_scaleTolls_43 : decode cX1_scaleTolls 43 = .ok (.aload_n 3, 1) := dk_45 (dk_at dksX1_scaleTolls_1 21 rfl rfl)
theorem dX1_scaleTolls_44 : decode cX1_scaleTolls 44 = .ok (.invokeinterface 157 1, 5) := by decide +kernel
theorem dX1_scaleTolls_49 : decode cX1_scaleTolls 49 = .ok (.checkcast 140, 3) := dk_192 0 140 (dk_at dksX1_scaleTolls_2 5 rfl rfl)
theorem dX1_scaleTolls_52 : decode cX1_scaleTolls 52 = .ok (.astore 4, 2) := dk_58 4 (dk_at dksX1_scaleTolls_2 8 rfl rfl)
theorem dX1_scaleTolls_54 : decode cX1_scaleTolls 54 = .ok (.aload_n 0, 1) := dk_42 (dk_at dksX1_scaleTolls_2 10 rfl rfl)
theorem dX1_scaleTolls_55 : decode cX1_scaleTolls 55 = .ok (.getfield 19, 3) := dk_180 0 19 (dk_at dksX1_scaleTolls_2 11 rfl rfl)
theorem dX1_scaleTolls_58 : decode cX1_scaleTolls 58 = .ok (.aload 4, 2) := dk_25 4 (dk_at dksX1_scaleTolls_2 14 rfl rfl)
theorem dX1_scaleTolls_60 : decode cX1_scaleTolls 60 = .ok (.invokevirtual 191, 3) := dk_182 0 191 (dk_at dksX1_scaleTolls_2 16 rfl rfl)
theorem dX1_scaleTolls_63 : decode cX1_scaleTolls 63 = .ok (.istore 5, 2) := dk_54 5 (dk_at dksX1_scaleTolls_2 19 rfl rfl)
theorem dX1_scaleTolls_65 : decode cX1_scaleTolls 65 = .ok (.aload_n 0, 1) := dk_42 (dk_at dksX1_scaleTolls_2 21 rfl rfl)
theorem dX1_scaleTolls_66 : decode cX1_scaleTolls 66 = .ok (.getfield 19, 3) := dk_180 0 19 (dk_at dksX1_scaleTolls_3 0 rfl rfl)
theorem dX1_scaleTolls_69 : decode cX1_scaleTolls 69 = .ok (.getfield 218, 3) := dk_180 0 218 (dk_at dksX1_scaleTolls_3 3 rfl rfl)
theorem dX1_scaleTolls_72 : decode cX1_scaleTolls 72 = .ok (.aload 4, 2) := dk_25 4 (dk_at dksX1_scaleTolls_3 6 rfl rfl)
theorem dX1_scaleTolls_74 : decode cX1_scaleTolls 74 = .ok (.invokevirtual 225, 3) := dk_182 0 225 (dk_at dksX1_scaleTolls_3 8 rfl rfl)
theorem dX1_scaleTolls_77 : decode cX1_scaleTolls 77 = .ok (.aload 4, 2) := dk_25 4 (dk_at dksX1_scaleTolls_3 11 rfl rfl)
theorem dX1_scaleTolls_79 : decode cX1_scaleTolls 79 = .ok (.invokevirtual 160, 3) := dk_182 0 160 (dk_at dksX1_scaleTolls_3 13 rfl rfl)
theorem dX1_scaleTolls_82 : decode cX1_scaleTolls 82 = .ok (.iload 5, 2) := dk_21 5 (dk_at dksX1_scaleTolls_3 16 rfl rfl)
theorem dX1_scaleTolls_84 : decode cX1_scaleTolls 84 = .ok (.iload_n 1, 1) := dk_27 (dk_at dksX1_scaleTolls_3 18 rfl rfl)
theorem dX1_scaleTolls_85 : decode cX1_scaleTolls 85 = .ok (.imul, 1) := dk_104 (dk_at dksX1_scaleTolls_3 19 rfl rfl)
theorem dX1_scaleTolls_86 : decode cX1_scaleTolls 86 = .ok (.bipush 100, 2) := dk_16 100 (dk_at dksX1_scaleTolls_3 20 rfl rfl)
theorem dX1_scaleTolls_88 : decode cX1_scaleTolls 88 = .ok (.idiv, 1) := dk_108 (dk_at dksX1_scaleTolls_3 22 rfl rfl)
theorem dX1_scaleTolls_89 : decode cX1_scaleTolls 89 = .ok (.invokestatic 228, 3) := dk_184 0 228 (dk_at dksX1_scaleTolls_4 0 rfl rfl)
theorem dX1_scaleTolls_92 : decode cX1_scaleTolls 92 = .ok (.iastore, 1) := dk_79 (dk_at dksX1_scaleTolls_4 3 rfl rfl)
theorem dX1_scaleTolls_93 : decode cX1_scaleTolls 93 = .ok (.iload_n 2, 1) := dk_28 (dk_at dksX1_scaleTolls_4 4 rfl rfl)
theorem dX1_scaleTolls_94 : decode cX1_scaleTolls 94 = .ok (.aload_n 0, 1) := dk_42 (dk_at dksX1_scaleTolls_4 5 rfl rfl)
theorem dX1_scaleTolls_95 : decode cX1_scaleTolls 95 = .ok (.getfield 19, 3) := dk_180 0 19 (dk_at dksX1_scaleTolls_4 6 rfl rfl)
theorem dX1_scaleTolls_98 : decode cX1_scaleTolls 98 = .ok (.aload 4, 2) := dk_25 4 (dk_at dksX1_scaleTolls_4 9 rfl rfl)
theorem dX1_scaleTolls_100 : decode cX1_scaleTolls 100 = .ok (.invokevirtual 191, 3) := dk_182 0 191 (dk_at dksX1_scaleTolls_4 11 rfl rfl)
theorem dX1_scaleTolls_103 : decode cX1_scaleTolls 103 = .ok (.iload 5, 2) := dk_21 5 (dk_at dksX1_scaleTolls_4 14 rfl rfl)
theorem dX1_scaleTolls_105 : decode cX1_scaleTolls 105 = .ok (.if_icmp .eq 7, 3) := dk_159 0 7 (dk_at dksX1_scaleTolls_4 16 rfl rfl)
theorem dX1_scaleTolls_108 : decode cX1_scaleTolls 108 = .ok (.iconst 1, 1) := dk_4 (dk_at dksX1_scaleTolls_4 19 rfl rfl)
theorem dX1_scaleTolls_109 : decode cX1_scaleTolls 109 = .ok (.goto 4, 3) := dk_167 0 4 (dk_at dksX1_scaleTolls_4 20 rfl rfl)
theorem dX1_scaleTolls_112 : decode cX1_scaleTolls 112 = .ok (.iconst 0, 1) := dk_3 (dk_at dksX1_scaleTolls_4 23 rfl rfl)
theorem dX1_scaleTolls_113 : decode cX1_scaleTolls 113 = .ok (.iadd, 1) := dk_96 (dk_at dksX1_scaleTolls_5 0 rfl rfl)
theorem dX1_scaleTolls_114 : decode cX1_scaleTolls 114 = .ok (.istore_n 2, 1) := dk_61 (dk_at dksX1_scaleTolls_5 1 rfl rfl)
theorem dX1_scaleTolls_115 : decode cX1_scaleTolls 115 = .ok (.goto (-81), 3) := dk_167 255 175 (dk_at dksX1_scaleTolls_5 2 rfl rfl)
theorem dX1_scaleTolls_118 : decode cX1_scaleTolls 118 = .ok (.iload_n 2, 1) := dk_28 (dk_at dksX1_scaleTolls_5 5 rfl rfl)
theorem dX1_scaleTolls_119 : decode cX1_scaleTolls 119 = .ok (.ireturn, 1) := dk_172 (dk_at dksX1_scaleTolls_5 6 rfl rfl)
abbrev cX1_swapTolls : ByteArray := prog_1_method_75_code
def yX1_swapTolls : MethodName := ⟨RX1, "swapTolls", "(II)Z"⟩
def dkwX1_swapTolls_5 : List UInt8 := [180, 0, 218, 28, 29, 79, 4, 172]
abbrev dktX1_swapTolls_5 : List UInt8 := dkwX1_swapTolls_5 ++ []
def dkwX1_swapTolls_4 : List UInt8 := [164, 0, 5, 3, 172, 42, 182, 0, 215, 42, 180, 0, 19, 180, 0, 218, 27, 21, 4, 79, 42, 180, 0, 19]
abbrev dktX1_swapTolls_4 : List UInt8 := dkwX1_swapTolls_4 ++ dktX1_swapTolls_5
def dkwX1_swapTolls_3 : List UInt8 := [29, 42, 180, 0, 19, 180, 0, 99, 180, 0, 103, 28, 185, 0, 136, 2, 0, 192, 0, 140, 182, 0, 160]
abbrev dktX1_swapTolls_3 : List UInt8 := dkwX1_swapTolls_3 ++ dktX1_swapTolls_4
def dkwX1_swapTolls_2 : List UInt8 := [180, 0, 19, 180, 0, 99, 180, 0, 103, 27, 185, 0, 136, 2, 0, 192, 0, 140, 182, 0, 160, 163, 0, 29]
abbrev dktX1_swapTolls_2 : List UInt8 := dkwX1_swapTolls_2 ++ dktX1_swapTolls_3
def dkwX1_swapTolls_1 : List UInt8 := [42, 180, 0, 19, 180, 0, 218, 27, 46, 62, 42, 180, 0, 19, 180, 0, 218, 28, 46, 54, 4, 21, 4, 42]
abbrev dktX1_swapTolls_1 : List UInt8 := dkwX1_swapTolls_1 ++ dktX1_swapTolls_2
def dkwX1_swapTolls_0 : List UInt8 := [42, 27, 182, 0, 128, 153, 0, 15, 42, 28, 182, 0, 128, 153, 0, 7, 4, 167, 0, 4, 3, 184, 0, 132]
abbrev dktX1_swapTolls_0 : List UInt8 := dkwX1_swapTolls_0 ++ dktX1_swapTolls_1
theorem dksX1_swapTolls_0 : cX1_swapTolls.data.toList.drop 0 = dktX1_swapTolls_0 := by decide +kernel
theorem dksX1_swapTolls_1 : cX1_swapTolls.data.toList.drop 24 = dktX1_swapTolls_1 := dk_seg dksX1_swapTolls_0 24 rfl rfl
theorem dksX1_swapTolls_2 : cX1_swapTolls.data.toList.drop 48 = dktX1_swapTolls_2 := dk_seg dksX1_swapTolls_1 24 rfl rfl
theorem dksX1_swapTolls_3 : cX1_swapTolls.data.toList.drop 72 = dktX1_swapTolls_3 := dk_seg dksX1_swapTolls_2 24 rfl rfl
theorem dksX1_swapTolls_4 : cX1_swapTolls.data.toList.drop 95 = dktX1_swapTolls_4 := dk_seg dksX1_swapTolls_3 23 rfl rfl
theorem dksX1_swapTolls_5 : cX1_swapTolls.data.toList.drop 119 = dktX1_swapTolls_5 := dk_seg dksX1_swapTolls_4 24 rfl rfl
theorem dX1_swapTolls_0 : decode cX1_swapTolls 0 = .ok (.aload_n 0, 1) := dk_42 (dk_at dksX1_swapTolls_0 0 rfl rfl)
theorem dX1_swapTolls_1 : decode cX1_swapTolls 1 = .ok (.iload_n 1, 1) := dk_27 (dk_at dksX1_swapTolls_0 1 rfl rfl)
theorem dX1_swapTolls_2 : decode cX1_swapTolls 2 = .ok (.invokevirtual 128, 3) := dk_182 0 128 (dk_at dksX1_swapTolls_0 2 rfl rfl)
theorem dX1_swapTolls_5 : decode cX1_swapTolls 5 = .ok (.ifCond .eq 15, 3) := dk_153 0 15 (dk_at dksX1_swapTolls_0 5 rfl rfl)
theorem dX1_swapTolls_8 : decode cX1_swapTolls 8 = .ok (.aload_n 0, 1) := dk_42 (dk_at dksX1_swapTolls_0 8 rfl rfl)
theorem dX1_swapTolls_9 : decode cX1_swapTolls 9 = .ok (.iload_n 2, 1) := dk_28 (dk_at dksX1_swapTolls_0 9 rfl rfl)
theorem dX1_swapTolls_10 : decode cX1_swapTolls 10 = .ok (.invokevirtual 128, 3) := dk_182 0 128 (dk_at dksX1_swapTolls_0 10 rfl rfl)
theorem dX1_swapTolls_13 : decode cX1_swapTolls 13 = .ok (.ifCond .eq 7, 3) := dk_153 0 7 (dk_at dksX1_swapTolls_0 13 rfl rfl)
theorem dX1_swapTolls_16 : decode cX1_swapTolls 16 = .ok (.iconst 1, 1) := dk_4 (dk_at dksX1_swapTolls_0 16 rfl rfl)
theorem dX1_swapTolls_17 : decode cX1_swapTolls 17 = .ok (.goto 4, 3) := dk_167 0 4 (dk_at dksX1_swapTolls_0 17 rfl rfl)
theorem dX1_swapTolls_20 : decode cX1_swapTolls 20 = .ok (.iconst 0, 1) := dk_3 (dk_at dksX1_swapTolls_0 20 rfl rfl)
theorem dX1_swapTolls_21 : decode cX1_swapTolls 21 = .ok (.invokestatic 132, 3) := dk_184 0 132 (dk_at dksX1_swapTolls_0 21 rfl rfl)
theorem dX1_swapTolls_24 : decode cX1_swapTolls 24 = .ok (.aload_n 0, 1) := dk_42 (dk_at dksX1_swapTolls_1 0 rfl rfl)
theorem dX1_swapTolls_25 : decode cX1_swapTolls 25 = .ok (.getfield 19, 3) := dk_180 0 19 (dk_at dksX1_swapTolls_1 1 rfl rfl)
theorem dX1_swapTolls_28 : decode cX1_swapTolls 28 = .ok (.getfield 218, 3) := dk_180 0 218 (dk_at dksX1_swapTolls_1 4 rfl rfl)
theorem dX1_swapTolls_31 : decode cX1_swapTolls 31 = .ok (.iload_n 1, 1) := dk_27 (dk_at dksX1_swapTolls_1 7 rfl rfl)
theorem dX1_swapTolls_32 : decode cX1_swapTolls 32 = .ok (.iaload, 1) := dk_46 (dk_at dksX1_swapTolls_1 8 rfl rfl)
theorem dX1_swapTolls_33 : decode cX1_swapTolls 33 = .ok (.istore_n 3, 1) := dk_62 (dk_at dksX1_swapTolls_1 9 rfl rfl)
theorem dX1_swapTolls_34 : decode cX1_swapTolls 34 = .ok (.aload_n 0, 1) := dk_42 (dk_at dksX1_swapTolls_1 10 rfl rfl)
theorem dX1_swapTolls_35 : decode cX1_swapTolls 35 = .ok (.getfield 19, 3) := dk_180 0 19 (dk_at dksX1_swapTolls_1 11 rfl rfl)
theorem dX1_swapTolls_38 : decode cX1_swapTolls 38 = .ok (.getfield 218, 3) := dk_180 0 218 (dk_at dksX1_swapTolls_1 14 rfl rfl)
theorem dX1_swapTolls_41 : decode cX1_swapTolls 41 = .ok (.iload_n 2, 1) := dk_28 (dk_at dksX1_swapTolls_1 17 rfl rfl)
theorem dX1_swapTolls_42 : decode cX1_swapTolls 42 = .ok (.iaload, 1) := dk_46 (dk_at dksX1_swapTolls_1 18 rfl rfl)
theorem dX1_swapTolls_43 : decode cX1_swapTolls 43 = .ok (.istore 4, 2) := dk_54 4 (dk_at dksX1_swapTolls_1 19 rfl rfl)
theorem dX1_swapTolls_45 : decode cX1_swapTolls 45 = .ok (.iload 4, 2) := dk_21 4 (dk_at dksX1_swapTolls_1 21 rfl rfl)
theorem dX1_swapTolls_47 : decode cX1_swapTolls 47 = .ok (.aload_n 0, 1) := dk_42 (dk_at dksX1_swapTolls_1 23 rfl rfl)
theorem dX1_swapTolls_48 : decode cX1_swapTolls 48 = .ok (.getfield 19, 3) := dk_180 0 19 (dk_at dksX1_swapTolls_2 0 rfl rfl)
theorem dX1_swapTolls_51 : decode cX1_swapTolls 51 = .ok (.getfield 99, 3) := dk_180 0 99 (dk_at dksX1_swapTolls_2 3 rfl rfl)
theorem dX1_swapTolls_54 : decode cX1_swapTolls 54 = .ok (.getfield 103, 3) := dk_180 0 103 (dk_at dksX1_swapTolls_2 6 rfl rfl)
theorem dX1_swapTolls_57 : decode cX1_swapTolls 57 = .ok (.iload_n 1, 1) := dk_27 (dk_at dksX1_swapTolls_2 9 rfl rfl)
theorem dX1_swapTolls_58 : decode cX1_swapTolls 58 = .ok (.invokeinterface 136 2, 5) := by decide +kernel
theorem dX1_swapTolls_63 : decode cX1_swapTolls 63 = .ok (.checkcast 140, 3) := dk_192 0 140 (dk_at dksX1_swapTolls_2 15 rfl rfl)
theorem dX1_swapTolls_66 : decode cX1_swapTolls 66 = .ok (.invokevirtual 160, 3) := dk_182 0 160 (dk_at dksX1_swapTolls_2 18 rfl rfl)
theorem dX1_swapTolls_69 : decode cX1_swapTolls 69 = .ok (.if_icmp .gt 29, 3) := dk_163 0 29 (dk_at dksX1_swapTolls_2 21 rfl rfl)
theorem dX1_swapTolls_72 : decode cX1_swapTolls 72 = .ok (.iload_n 3, 1) := dk_29 (dk_at dksX1_swapTolls_3 0 rfl rfl)
theorem dX1_swapTolls_73 : decode cX1_swapTolls 73 = .ok (.aload_n 0, 1) := dk_42 (dk_at dksX1_swapTolls_3 1 rfl rfl)
theorem dX1_swapTolls_74 : decode cX1_swapTolls 74 = .ok (.getfield 19, 3) := dk_180 0 19 (dk_at dksX1_swapTolls_3 2 rfl rfl)
theorem dX1_swapTolls_77 : decode cX1_swapTolls 77 = .ok (.getfield 99, 3) := dk_180 0 99 (dk_at dksX1_swapTolls_3 5 rfl rfl)
theorem dX1_swapTolls_80 : decode cX1_swapTolls 80 = .ok (.getfield 103, 3) := dk_180 0 103 (dk_at dksX1_swapTolls_3 8 rfl rfl)
theorem dX1_swapTolls_83 : decode cX1_swapTolls 83 = .ok (.iload_n 2, 1) := dk_28 (dk_at dksX1_swapTolls_3 11 rfl rfl)
theorem dX1_swapTolls_84 : decode cX1_swapTolls 84 = .ok (.invokeinterface 136 2, 5) := by decide +kernel
theorem dX1_swapTolls_89 : decode cX1_swapTolls 89 = .ok (.checkcast 140, 3) := dk_192 0 140 (dk_at dksX1_swapTolls_3 17 rfl rfl)
theorem dX1_swapTolls_92 : decode cX1_swapTolls 92 = .ok (.invokevirtual 160, 3) := dk_182 0 160 (dk_at dksX1_swapTolls_3 20 rfl rfl)
theorem dX1_swapTolls_95 : decode cX1_swapTolls 95 = .ok (.if_icmp .le 5, 3) := dk_164 0 5 (dk_at dksX1_swapTolls_4 0 rfl rfl)
theorem dX1_swapTolls_98 : decode cX1_swapTolls 98 = .ok (.iconst 0, 1) := dk_3 (dk_at dksX1_swapTolls_4 3 rfl rfl)
theorem dX1_swapTolls_99 : decode cX1_swapTolls 99 = .ok (.ireturn, 1) := dk_172 (dk_at dksX1_swapTolls_4 4 rfl rfl)
theorem dX1_swapTolls_100 : decode cX1_swapTolls 100 = .ok (.aload_n 0, 1) := dk_42 (dk_at dksX1_swapTolls_4 5 rfl rfl)
theorem dX1_swapTolls_101 : decode cX1_swapTolls 101 = .ok (.invokevirtual 215, 3) := dk_182 0 215 (dk_at dksX1_swapTolls_4 6 rfl rfl)
theorem dX1_swapTolls_104 : decode cX1_swapTolls 104 = .ok (.aload_n 0, 1) := dk_42 (dk_at dksX1_swapTolls_4 9 rfl rfl)
theorem dX1_swapTolls_105 : decode cX1_swapTolls 105 = .ok (.getfield 19, 3) := dk_180 0 19 (dk_at dksX1_swapTolls_4 10 rfl rfl)
theorem dX1_swapTolls_108 : decode cX1_swapTolls 108 = .ok (.getfield 218, 3) := dk_180 0 218 (dk_at dksX1_swapTolls_4 13 rfl rfl)
theorem dX1_swapTolls_111 : decode cX1_swapTolls 111 = .ok (.iload_n 1, 1) := dk_27 (dk_at dksX1_swapTolls_4 16 rfl rfl)
theorem dX1_swapTolls_112 : decode cX1_swapTolls 112 = .ok (.iload 4, 2) := dk_21 4 (dk_at dksX1_swapTolls_4 17 rfl rfl)
theorem dX1_swapTolls_114 : decode cX1_swapTolls 114 = .ok (.iastore, 1) := dk_79 (dk_at dksX1_swapTolls_4 19 rfl rfl)
theorem dX1_swapTolls_115 : decode cX1_swapTolls 115 = .ok (.aload_n 0, 1) := dk_42 (dk_at dksX1_swapTolls_4 20 rfl rfl)
theorem dX1_swapTolls_116 : decode cX1_swapTolls 116 = .ok (.getfield 19, 3) := dk_180 0 19 (dk_at dksX1_swapTolls_4 21 rfl rfl)
theorem dX1_swapTolls_119 : decode cX1_swapTolls 119 = .ok (.getfield 218, 3) := dk_180 0 218 (dk_at dksX1_swapTolls_5 0 rfl rfl)
theorem dX1_swapTolls_122 : decode cX1_swapTolls 122 = .ok (.iload_n 2, 1) := dk_28 (dk_at dksX1_swapTolls_5 3 rfl rfl)
theorem dX1_swapTolls_123 : decode cX1_swapTolls 123 = .ok (.iload_n 3, 1) := dk_29 (dk_at dksX1_swapTolls_5 4 rfl rfl)
theorem dX1_swapTolls_124 : decode cX1_swapTolls 124 = .ok (.iastore, 1) := dk_79 (dk_at dksX1_swapTolls_5 5 rfl rfl)
theorem dX1_swapTolls_125 : decode cX1_swapTolls 125 = .ok (.iconst 1, 1) := dk_4 (dk_at dksX1_swapTolls_5 6 rfl rfl)
theorem dX1_swapTolls_126 : decode cX1_swapTolls 126 = .ok (.ireturn, 1) := dk_172 (dk_at dksX1_swapTolls_5 7 rfl rfl)
abbrev cX1_worth : ByteArray := prog_1_method_77_code
def yX1_worth : MethodName := ⟨RX1, "worth", "(I)J"⟩
def dkwX1_worth_2 : List UInt8 := [180, 0, 169, 27, 21, 4, 182, 0, 241, 32, 22, 5, 101, 173]
abbrev dktX1_worth_2 : List UInt8 := dkwX1_worth_2 ++ []
def dkwX1_worth_1 : List UInt8 := [54, 4, 42, 180, 0, 19, 180, 0, 169, 27, 182, 1, 112, 42, 182, 1, 73, 55, 5, 42, 180, 0, 19]
abbrev dktX1_worth_1 : List UInt8 := dkwX1_worth_1 ++ dktX1_worth_2
def dkwX1_worth_0 : List UInt8 := [42, 27, 182, 0, 128, 184, 0, 132, 42, 182, 1, 73, 65, 42, 180, 0, 19, 180, 0, 169, 27, 182, 0, 239]
abbrev dktX1_worth_0 : List UInt8 := dkwX1_worth_0 ++ dktX1_worth_1
theorem dksX1_worth_0 : cX1_worth.data.toList.drop 0 = dktX1_worth_0 := by decide +kernel
theorem dksX1_worth_1 : cX1_worth.data.toList.drop 24 = dktX1_worth_1 := dk_seg dksX1_worth_0 24 rfl rfl
theorem dksX1_worth_2 : cX1_worth.data.toList.drop 47 = dktX1_worth_2 := dk_seg dksX1_worth_1 23 rfl rfl
theorem dX1_worth_0 : decode cX1_worth 0 = .ok (.aload_n 0, 1) := dk_42 (dk_at dksX1_worth_0 0 rfl rfl)
theorem dX1_worth_1 : decode cX1_worth 1 = .ok (.iload_n 1, 1) := dk_27 (dk_at dksX1_worth_0 1 rfl rfl)
theorem dX1_worth_2 : decode cX1_worth 2 = .ok (.invokevirtual 128, 3) := dk_182 0 128 (dk_at dksX1_worth_0 2 rfl rfl)
theorem dX1_worth_5 : decode cX1_worth 5 = .ok (.invokestatic 132, 3) := dk_184 0 132 (dk_at dksX1_worth_0 5 rfl rfl)
theorem dX1_worth_8 : decode cX1_worth 8 = .ok (.aload_n 0, 1) := dk_42 (dk_at dksX1_worth_0 8 rfl rfl)
theorem dX1_worth_9 : decode cX1_worth 9 = .ok (.invokevirtual 329, 3) := dk_182 1 73 (dk_at dksX1_worth_0 9 rfl rfl)
theorem dX1_worth_12 : decode cX1_worth 12 = .ok (.lstore_n 2, 1) := dk_65 (dk_at dksX1_worth_0 12 rfl rfl)
theorem dX1_worth_13 : decode cX1_worth 13 = .ok (.aload_n 0, 1) := dk_42 (dk_at dksX1_worth_0 13 rfl rfl)
theorem dX1_worth_14 : decode cX1_worth 14 = .ok (.getfield 19, 3) := dk_180 0 19 (dk_at dksX1_worth_0 14 rfl rfl)
theorem dX1_worth_17 : decode cX1_worth 17 = .ok (.getfield 169, 3) := dk_180 0 169 (dk_at dksX1_worth_0 17 rfl rfl)
theorem dX1_worth_20 : decode cX1_worth 20 = .ok (.iload_n 1, 1) := dk_27 (dk_at dksX1_worth_0 20 rfl rfl)
theorem dX1_worth_21 : decode cX1_worth 21 = .ok (.invokevirtual 239, 3) := dk_182 0 239 (dk_at dksX1_worth_0 21 rfl rfl)
theorem dX1_worth_24 : decode cX1_worth 24 = .ok (.istore 4, 2) := dk_54 4 (dk_at dksX1_worth_1 0 rfl rfl)
theorem dX1_worth_26 : decode cX1_worth 26 = .ok (.aload_n 0, 1) := dk_42 (dk_at dksX1_worth_1 2 rfl rfl)
theorem dX1_worth_27 : decode cX1_worth 27 = .ok (.getfield 19, 3) := dk_180 0 19 (dk_at dksX1_worth_1 3 rfl rfl)
theorem dX1_worth_30 : decode cX1_worth 30 = .ok (.getfield 169, 3) := dk_180 0 169 (dk_at dksX1_worth_1 6 rfl rfl)
theorem dX1_worth_33 : decode cX1_worth 33 = .ok (.iload_n 1, 1) := dk_27 (dk_at dksX1_worth_1 9 rfl rfl)
theorem dX1_worth_34 : decode cX1_worth 34 = .ok (.invokevirtual 368, 3) := dk_182 1 112 (dk_at dksX1_worth_1 10 rfl rfl)
theorem dX1_worth_37 : decode cX1_worth 37 = .ok (.aload_n 0, 1) := dk_42 (dk_at dksX1_worth_1 13 rfl rfl)
theorem dX1_worth_38 : decode cX1_worth 38 = .ok (.invokevirtual 329, 3) := dk_182 1 73 (dk_at dksX1_worth_1 14 rfl rfl)
theorem dX1_worth_41 : decode cX1_worth 41 = .ok (.lstore 5, 2) := dk_55 5 (dk_at dksX1_worth_1 17 rfl rfl)
theorem dX1_worth_43 : decode cX1_worth 43 = .ok (.aload_n 0, 1) := dk_42 (dk_at dksX1_worth_1 19 rfl rfl)
theorem dX1_worth_44 : decode cX1_worth 44 = .ok (.getfield 19, 3) := dk_180 0 19 (dk_at dksX1_worth_1 20 rfl rfl)
theorem dX1_worth_47 : decode cX1_worth 47 = .ok (.getfield 169, 3) := dk_180 0 169 (dk_at dksX1_worth_2 0 rfl rfl)
theorem dX1_worth_50 : decode cX1_worth 50 = .ok (.iload_n 1, 1) := dk_27 (dk_at dksX1_worth_2 3 rfl rfl)
theorem dX1_worth_51 : decode cX1_worth 51 = .ok (.iload 4, 2) := dk_21 4 (dk_at dksX1_worth_2 4 rfl rfl)
theorem dX1_worth_53 : decode cX1_worth 53 = .ok (.invokevirtual 241, 3) := dk_182 0 241 (dk_at dksX1_worth_2 6 rfl rfl)
theorem dX1_worth_56 : decode cX1_worth 56 = .ok (.lload_n 2, 1) := dk_32 (dk_at dksX1_worth_2 9 rfl rfl)
theorem dX1_worth_57 : decode cX1_worth 57 = .ok (.lload 5, 2) := dk_22 5 (dk_at dksX1_worth_2 10 rfl rfl)
theorem dX1_worth_59 : decode cX1_worth 59 = .ok (.lsub, 1) := dk_101 (dk_at dksX1_worth_2 12 rfl rfl)
theorem dX1_worth_60 : decode cX1_worth 60 = .ok (.lreturn, 1) := dk_173 (dk_at dksX1_worth_2 13 rfl rfl)
abbrev cX1_writePath : ByteArray := prog_1_method_78_code
def yX1_writePath : MethodName := ⟨RX1, "writePath", "(I)I"⟩
def dkwX1_writePath_6 : List UInt8 := [182, 1, 154, 172]
abbrev dktX1_writePath_6 : List UInt8 := dkwX1_writePath_6 ++ []
def dkwX1_writePath_5 : List UInt8 := [180, 0, 54, 16, 62, 182, 1, 163, 25, 4, 182, 0, 185, 182, 1, 159, 87, 167, 255, 184, 42, 180, 0, 54]
abbrev dktX1_writePath_5 : List UInt8 := dkwX1_writePath_5 ++ dktX1_writePath_6
def dkwX1_writePath_4 : List UInt8 := [180, 0, 54, 16, 61, 182, 1, 163, 42, 180, 0, 19, 25, 4, 182, 0, 191, 182, 1, 159, 87, 42]
abbrev dktX1_writePath_4 : List UInt8 := dkwX1_writePath_4 ++ dktX1_writePath_5
def dkwX1_writePath_3 : List UInt8 := [45, 185, 0, 157, 1, 0, 192, 0, 140, 58, 4, 42, 180, 0, 19, 25, 4, 182, 0, 191, 158, 0, 25, 42]
abbrev dktX1_writePath_3 : List UInt8 := dkwX1_writePath_3 ++ dktX1_writePath_4
def dkwX1_writePath_2 : List UInt8 := [192, 0, 140, 182, 0, 182, 182, 1, 159, 87, 44, 182, 1, 162, 78, 45, 185, 0, 151, 1, 0, 153, 0, 69]
abbrev dktX1_writePath_2 : List UInt8 := dkwX1_writePath_2 ++ dktX1_writePath_3
def dkwX1_writePath_1 : List UInt8 := [19, 1, 148, 182, 1, 150, 87, 42, 180, 0, 54, 182, 1, 154, 172, 42, 180, 0, 54, 44, 182, 1, 156]
abbrev dktX1_writePath_1 : List UInt8 := dkwX1_writePath_1 ++ dktX1_writePath_2
def dkwX1_writePath_0 : List UInt8 := [42, 27, 182, 1, 13, 77, 42, 180, 0, 54, 3, 182, 1, 145, 44, 199, 0, 22, 42, 180, 0, 54]
abbrev dktX1_writePath_0 : List UInt8 := dkwX1_writePath_0 ++ dktX1_writePath_1
theorem dksX1_writePath_0 : cX1_writePath.data.toList.drop 0 = dktX1_writePath_0 := by decide +kernel
theorem dksX1_writePath_1 : cX1_writePath.data.toList.drop 22 = dktX1_writePath_1 := dk_seg dksX1_writePath_0 22 rfl rfl
theorem dksX1_writePath_2 : cX1_writePath.data.toList.drop 45 = dktX1_writePath_2 := dk_seg dksX1_writePath_1 23 rfl rfl
theorem dksX1_writePath_3 : cX1_writePath.data.toList.drop 69 = dktX1_writePath_3 := dk_seg dksX1_writePath_2 24 rfl rfl
theorem dksX1_writePath_4 : cX1_writePath.data.toList.drop 93 = dktX1_writePath_4 := dk_seg dksX1_writePath_3 24 rfl rfl
theorem dksX1_writePath_5 : cX1_writePath.data.toList.drop 115 = dktX1_writePath_5 := dk_seg dksX1_writePath_4 22 rfl rfl
theorem dksX1_writePath_6 : cX1_writePath.data.toList.drop 139 = dktX1_writePath_6 := dk_seg dksX1_writePath_5 24 rfl rfl
theorem dX1_writePath_0 : decode cX1_writePath 0 = .ok (.aload_n 0, 1) := dk_42 (dk_at dksX1_writePath_0 0 rfl rfl)
theorem dX1_writePath_1 : decode cX1_writePath 1 = .ok (.iload_n 1, 1) := dk_27 (dk_at dksX1_writePath_0 1 rfl rfl)
theorem dX1_writePath_2 : decode cX1_writePath 2 = .ok (.invokevirtual 269, 3) := dk_182 1 13 (dk_at dksX1_writePath_0 2 rfl rfl)
theorem dX1_writePath_5 : decode cX1_writePath 5 = .ok (.astore_n 2, 1) := dk_77 (dk_at dksX1_writePath_0 5 rfl rfl)
theorem dX1_writePath_6 : decode cX1_writePath 6 = .ok (.aload_n 0, 1) := dk_42 (dk_at dksX1_writePath_0 6 rfl rfl)
theorem dX1_writePath_7 : decode cX1_writePath 7 = .ok (.getfield 54, 3) := dk_180 0 54 (dk_at dksX1_writePath_0 7 rfl rfl)
theorem dX1_writePath_10 : decode cX1_writePath 10 = .ok (.iconst 0, 1) := dk_3 (dk_at dksX1_writePath_0 10 rfl rfl)
theorem dX1_writePath_11 : decode cX1_writePath 11 = .ok (.invokevirtual 401, 3) := dk_182 1 145 (dk_at dksX1_writePath_0 11 rfl rfl)
theorem dX1_writePath_14 : decode cX1_writePath 14 = .ok (.aload_n 2, 1) := dk_44 (dk_at dksX1_writePath_0 14 rfl rfl)
theorem dX1_writePath_15 : decode cX1_writePath 15 = .ok (.ifnonnull 22, 3) := dk_199 0 22 (dk_at dksX1_writePath_0 15 rfl rfl)
theorem dX1_writePath_18 : decode cX1_writePath 18 = .ok (.aload_n 0, 1) := dk_42 (dk_at dksX1_writePath_0 18 rfl rfl)
theorem dX1_writePath_19 : decode cX1_writePath 19 = .ok (.getfield 54, 3) := dk_180 0 54 (dk_at dksX1_writePath_0 19 rfl rfl)
theorem dX1_writePath_22 : decode cX1_writePath 22 = .ok (.ldc_w 404, 3) := dk_19 1 148 (dk_at dksX1_writePath_1 0 rfl rfl)
theorem dX1_writePath_25 : decode cX1_writePath 25 = .ok (.invokevirtual 406, 3) := dk_182 1 150 (dk_at dksX1_writePath_1 3 rfl rfl)
theorem dX1_writePath_28 : decode cX1_writePath 28 = .ok (.pop, 1) := dk_87 (dk_at dksX1_writePath_1 6 rfl rfl)
theorem dX1_writePath_29 : decode cX1_writePath 29 = .ok (.aload_n 0, 1) := dk_42 (dk_at dksX1_writePath_1 7 rfl rfl)
theorem dX1_writePath_30 : decode cX1_writePath 30 = .ok (.getfield 54, 3) := dk_180 0 54 (dk_at dksX1_writePath_1 8 rfl rfl)
theorem dX1_writePath_33 : decode cX1_writePath 33 = .ok (.invokevirtual 410, 3) := dk_182 1 154 (dk_at dksX1_writePath_1 11 rfl rfl)
theorem dX1_writePath_36 : decode cX1_writePath 36 = .ok (.ireturn, 1) := dk_172 (dk_at dksX1_writePath_1 14 rfl rfl)
theorem dX1_writePath_37 : decode cX1_writePath 37 = .ok (.aload_n 0, 1) := dk_42 (dk_at dksX1_writePath_1 15 rfl rfl)
theorem dX1_writePath_38 : decode cX1_writePath 38 = .ok (.getfield 54, 3) := dk_180 0 54 (dk_at dksX1_writePath_1 16 rfl rfl)
theorem dX1_writePath_41 : decode cX1_writePath 41 = .ok (.aload_n 2, 1) := dk_44 (dk_at dksX1_writePath_1 19 rfl rfl)
theorem dX1_writePath_42 : decode cX1_writePath 42 = .ok (.invokevirtual 412, 3) := dk_182 1 156 (dk_at dksX1_writePath_1 20 rfl rfl)
theorem dX1_writePath_45 : decode cX1_writePath 45 = .ok (.checkcast 140, 3) := dk_192 0 140 (dk_at dksX1_writePath_2 0 rfl rfl)
theorem dX1_writePath_48 : decode cX1_writePath 48 = .ok (.invokevirtual 182, 3) := dk_182 0 182 (dk_at dksX1_writePath_2 3 rfl rfl)
theorem dX1_writePath_51 : decode cX1_writePath 51 = .ok (.invokevirtual 415, 3) := dk_182 1 159 (dk_at dksX1_writePath_2 6 rfl rfl)
theorem dX1_writePath_54 : decode cX1_writePath 54 = .ok (.pop, 1) := dk_87 (dk_at dksX1_writePath_2 9 rfl rfl)
theorem dX1_writePath_55 : decode cX1_writePath 55 = .ok (.aload_n 2, 1) := dk_44 (dk_at dksX1_writePath_2 10 rfl rfl)
theorem dX1_writePath_56 : decode cX1_writePath 56 = .ok (.invokevirtual 418, 3) := dk_182 1 162 (dk_at dksX1_writePath_2 11 rfl rfl)
theorem dX1_writePath_59 : decode cX1_writePath 59 = .ok (.astore_n 3, 1) := dk_78 (dk_at dksX1_writePath_2 14 rfl rfl)
theorem dX1_writePath_60 : decode cX1_writePath 60 = .ok (.aload_n 3, 1) := dk_45 (dk_at dksX1_writePath_2 15 rfl rfl)
theorem dX1_writePath_61 : decode cX1_writePath 61 = .ok (.invokeinterface 151 1, 5) := by decide +kernel
theorem dX1_writePath_66 : decode cX1_writePath 66 = .ok (.ifCond .eq 69, 3) := dk_153 0 69 (dk_at dksX1_writePath_2 21 rfl rfl)
theorem dX1_writePath_69 : decode cX1_writePath 69 = .ok (.aload_n 3, 1) := dk_45 (dk_at dksX1_writePath_3 0 rfl rfl)
theorem dX1_writePath_70 : decode cX1_writePath 70 = .ok (.invokeinterface 157 1, 5) := by decide +kernel
theorem dX1_writePath_75 : decode cX1_writePath 75 = .ok (.checkcast 140, 3) := dk_192 0 140 (dk_at dksX1_writePath_3 6 rfl rfl)
theorem dX1_writePath_78 : decode cX1_writePath 78 = .ok (.astore 4, 2) := dk_58 4 (dk_at dksX1_writePath_3 9 rfl rfl)
theorem dX1_writePath_80 : decode cX1_writePath 80 = .ok (.aload_n 0, 1) := dk_42 (dk_at dksX1_writePath_3 11 rfl rfl)
theorem dX1_writePath_81 : decode cX1_writePath 81 = .ok (.getfield 19, 3) := dk_180 0 19 (dk_at dksX1_writePath_3 12 rfl rfl)
theorem dX1_writePath_84 : decode cX1_writePath 84 = .ok (.aload 4, 2) := dk_25 4 (dk_at dksX1_writePath_3 15 rfl rfl)
theorem dX1_writePath_86 : decode cX1_writePath 86 = .ok (.invokevirtual 191, 3) := dk_182 0 191 (dk_at dksX1_writePath_3 17 rfl rfl)
theorem dX1_writePath_89 : decode cX1_writePath 89 = .ok (.ifCond .le 25, 3) := dk_158 0 25 (dk_at dksX1_writePath_3 20 rfl rfl)
theorem dX1_writePath_92 : decode cX1_writePath 92 = .ok (.aload_n 0, 1) := dk_42 (dk_at dksX1_writePath_3 23 rfl rfl)
theorem dX1_writePath_93 : decode cX1_writePath 93 = .ok (.getfield 54, 3) := dk_180 0 54 (dk_at dksX1_writePath_4 0 rfl rfl)
theorem dX1_writePath_96 : decode cX1_writePath 96 = .ok (.bipush 61, 2) := dk_16 61 (dk_at dksX1_writePath_4 3 rfl rfl)
theorem dX1_writePath_98 : decode cX1_writePath 98 = .ok (.invokevirtual 419, 3) := dk_182 1 163 (dk_at dksX1_writePath_4 5 rfl rfl)
theorem dX1_writePath_101 : decode cX1_writePath 101 = .ok (.aload_n 0, 1) := dk_42 (dk_at dksX1_writePath_4 8 rfl rfl)
theorem dX1_writePath_102 : decode cX1_writePath 102 = .ok (.getfield 19, 3) := dk_180 0 19 (dk_at dksX1_writePath_4 9 rfl rfl)
theorem dX1_writePath_105 : decode cX1_writePath 105 = .ok (.aload 4, 2) := dk_25 4 (dk_at dksX1_writePath_4 12 rfl rfl)
theorem dX1_writePath_107 : decode cX1_writePath 107 = .ok (.invokevirtual 191, 3) := dk_182 0 191 (dk_at dksX1_writePath_4 14 rfl rfl)
theorem dX1_writePath_110 : decode cX1_writePath 110 = .ok (.invokevirtual 415, 3) := dk_182 1 159 (dk_at dksX1_writePath_4 17 rfl rfl)
theorem dX1_writePath_113 : decode cX1_writePath 113 = .ok (.pop, 1) := dk_87 (dk_at dksX1_writePath_4 20 rfl rfl)
theorem dX1_writePath_114 : decode cX1_writePath 114 = .ok (.aload_n 0, 1) := dk_42 (dk_at dksX1_writePath_4 21 rfl rfl)
theorem dX1_writePath_115 : decode cX1_writePath 115 = .ok (.getfield 54, 3) := dk_180 0 54 (dk_at dksX1_writePath_5 0 rfl rfl)
theorem dX1_writePath_118 : decode cX1_writePath 118 = .ok (.bipush 62, 2) := dk_16 62 (dk_at dksX1_writePath_5 3 rfl rfl)
theorem dX1_writePath_120 : decode cX1_writePath 120 = .ok (.invokevirtual 419, 3) := dk_182 1 163 (dk_at dksX1_writePath_5 5 rfl rfl)
theorem dX1_writePath_123 : decode cX1_writePath 123 = .ok (.aload 4, 2) := dk_25 4 (dk_at dksX1_writePath_5 8 rfl rfl)
theorem dX1_writePath_125 : decode cX1_writePath 125 = .ok (.invokevirtual 185, 3) := dk_182 0 185 (dk_at dksX1_writePath_5 10 rfl rfl)
theorem dX1_writePath_128 : decode cX1_writePath 128 = .ok (.invokevirtual 415, 3) := dk_182 1 159 (dk_at dksX1_writePath_5 13 rfl rfl)
theorem dX1_writePath_131 : decode cX1_writePath 131 = .ok (.pop, 1) := dk_87 (dk_at dksX1_writePath_5 16 rfl rfl)
theorem dX1_writePath_132 : decode cX1_writePath 132 = .ok (.goto (-72), 3) := dk_167 255 184 (dk_at dksX1_writePath_5 17 rfl rfl)
theorem dX1_writePath_135 : decode cX1_writePath 135 = .ok (.aload_n 0, 1) := dk_42 (dk_at dksX1_writePath_5 20 rfl rfl)
theorem dX1_writePath_136 : decode cX1_writePath 136 = .ok (.getfield 54, 3) := dk_180 0 54 (dk_at dksX1_writePath_5 21 rfl rfl)
theorem dX1_writePath_139 : decode cX1_writePath 139 = .ok (.invokevirtual 410, 3) := dk_182 1 154 (dk_at dksX1_writePath_6 0 rfl rfl)
theorem dX1_writePath_142 : decode cX1_writePath 142 = .ok (.ireturn, 1) := dk_172 (dk_at dksX1_writePath_6 3 rfl rfl)
abbrev cX1_saveSnapshot : ByteArray := prog_1_method_82_code
def yX1_saveSnapshot : MethodName := ⟨RX1, "saveSnapshot", "(I)I"⟩
def dkwX1_saveSnapshot_1 : List UInt8 := [180, 0, 19, 180, 0, 99, 180, 0, 103, 185, 0, 107, 1, 0, 172]
abbrev dktX1_saveSnapshot_1 : List UInt8 := dkwX1_saveSnapshot_1 ++ []
def dkwX1_saveSnapshot_0 : List UInt8 := [27, 184, 1, 170, 42, 180, 0, 39, 27, 187, 0, 9, 89, 42, 180, 0, 19, 183, 0, 72, 83, 42]
abbrev dktX1_saveSnapshot_0 : List UInt8 := dkwX1_saveSnapshot_0 ++ dktX1_saveSnapshot_1
theorem dksX1_saveSnapshot_0 : cX1_saveSnapshot.data.toList.drop 0 = dktX1_saveSnapshot_0 := by decide +kernel
theorem dksX1_saveSnapshot_1 : cX1_saveSnapshot.data.toList.drop 22 = dktX1_saveSnapshot_1 := dk_seg dksX1_saveSnapshot_0 22 rfl rfl
theorem dX1_saveSnapshot_0 : decode cX1_saveSnapshot 0 = .ok (.iload_n 1, 1) := dk_27 (dk_at dksX1_saveSnapshot_0 0 rfl rfl)
theorem dX1_saveSnapshot_1 : decode cX1_saveSnapshot 1 = .ok (.invokestatic 426, 3) := dk_184 1 170 (dk_at dksX1_saveSnapshot_0 1 rfl rfl)
theorem dX1_saveSnapshot_4 : decode cX1_saveSnapshot 4 = .ok (.aload_n 0, 1) := dk_42 (dk_at dksX1_saveSnapshot_0 4 rfl rfl)
theorem dX1_saveSnapshot_5 : decode cX1_saveSnapshot 5 = .ok (.getfield 39, 3) := dk_180 0 39 (dk_at dksX1_saveSnapshot_0 5 rfl rfl)
theorem dX1_saveSnapshot_8 : decode cX1_saveSnapshot 8 = .ok (.iload_n 1, 1) := dk_27 (dk_at dksX1_saveSnapshot_0 8 rfl rfl)
theorem dX1_saveSnapshot_9 : decode cX1_saveSnapshot 9 = .ok (.new 9, 3) := dk_187 0 9 (dk_at dksX1_saveSnapshot_0 9 rfl rfl)
theorem dX1_saveSnapshot_12 : decode cX1_saveSnapshot 12 = .ok (.dup, 1) := dk_89 (dk_at dksX1_saveSnapshot_0 12 rfl rfl)
theorem dX1_saveSnapshot_13 : decode cX1_saveSnapshot 13 = .ok (.aload_n 0, 1) := dk_42 (dk_at dksX1_saveSnapshot_0 13 rfl rfl)
theorem dX1_saveSnapshot_14 : decode cX1_saveSnapshot 14 = .ok (.getfield 19, 3) := dk_180 0 19 (dk_at dksX1_saveSnapshot_0 14 rfl rfl)
theorem dX1_saveSnapshot_17 : decode cX1_saveSnapshot 17 = .ok (.invokespecial 72, 3) := dk_183 0 72 (dk_at dksX1_saveSnapshot_0 17 rfl rfl)
theorem dX1_saveSnapshot_20 : decode cX1_saveSnapshot 20 = .ok (.aastore, 1) := dk_83 (dk_at dksX1_saveSnapshot_0 20 rfl rfl)
theorem dX1_saveSnapshot_21 : decode cX1_saveSnapshot 21 = .ok (.aload_n 0, 1) := dk_42 (dk_at dksX1_saveSnapshot_0 21 rfl rfl)
theorem dX1_saveSnapshot_22 : decode cX1_saveSnapshot 22 = .ok (.getfield 19, 3) := dk_180 0 19 (dk_at dksX1_saveSnapshot_1 0 rfl rfl)
theorem dX1_saveSnapshot_25 : decode cX1_saveSnapshot 25 = .ok (.getfield 99, 3) := dk_180 0 99 (dk_at dksX1_saveSnapshot_1 3 rfl rfl)
theorem dX1_saveSnapshot_28 : decode cX1_saveSnapshot 28 = .ok (.getfield 103, 3) := dk_180 0 103 (dk_at dksX1_saveSnapshot_1 6 rfl rfl)
theorem dX1_saveSnapshot_31 : decode cX1_saveSnapshot 31 = .ok (.invokeinterface 107 1, 5) := by decide +kernel
theorem dX1_saveSnapshot_36 : decode cX1_saveSnapshot 36 = .ok (.ireturn, 1) := dk_172 (dk_at dksX1_saveSnapshot_1 14 rfl rfl)
abbrev cX1_requireSlot : ByteArray := prog_1_method_81_code
def yX1_requireSlot : MethodName := ⟨RX1, "requireSlot", "(I)V"⟩
def dkwX1_requireSlot_0 : List UInt8 := [26, 133, 9, 10, 184, 0, 121, 184, 0, 212, 177]
abbrev dktX1_requireSlot_0 : List UInt8 := dkwX1_requireSlot_0 ++ []
theorem dksX1_requireSlot_0 : cX1_requireSlot.data.toList.drop 0 = dktX1_requireSlot_0 := by decide +kernel
theorem dX1_requireSlot_0 : decode cX1_requireSlot 0 = .ok (.iload_n 0, 1) := dk_26 (dk_at dksX1_requireSlot_0 0 rfl rfl)
theorem dX1_requireSlot_1 : decode cX1_requireSlot 1 = .ok (.i2l, 1) := dk_133 (dk_at dksX1_requireSlot_0 1 rfl rfl)
theorem dX1_requireSlot_2 : decode cX1_requireSlot 2 = .ok (.lconst 0, 1) := dk_9 (dk_at dksX1_requireSlot_0 2 rfl rfl)
theorem dX1_requireSlot_3 : decode cX1_requireSlot 3 = .ok (.lconst 1, 1) := dk_10 (dk_at dksX1_requireSlot_0 3 rfl rfl)
theorem dX1_requireSlot_4 : decode cX1_requireSlot 4 = .ok (.invokestatic 121, 3) := dk_184 0 121 (dk_at dksX1_requireSlot_0 4 rfl rfl)
theorem dX1_requireSlot_7 : decode cX1_requireSlot 7 = .ok (.invokestatic 212, 3) := dk_184 0 212 (dk_at dksX1_requireSlot_0 7 rfl rfl)
theorem dX1_requireSlot_10 : decode cX1_requireSlot 10 = .ok (.return_, 1) := dk_177 (dk_at dksX1_requireSlot_0 10 rfl rfl)
abbrev cX1_restoreSnapshot : ByteArray := prog_1_method_83_code
def yX1_restoreSnapshot : MethodName := ⟨RX1, "restoreSnapshot", "(I)I"⟩
def dkwX1_restoreSnapshot_2 : List UInt8 := [180, 0, 103, 185, 0, 107, 1, 0, 172]
abbrev dktX1_restoreSnapshot_2 : List UInt8 := dkwX1_restoreSnapshot_2 ++ []
def dkwX1_restoreSnapshot_1 : List UInt8 := [27, 50, 183, 0, 72, 181, 0, 19, 42, 180, 0, 35, 182, 0, 96, 42, 180, 0, 19, 180, 0, 99]
abbrev dktX1_restoreSnapshot_1 : List UInt8 := dkwX1_restoreSnapshot_1 ++ dktX1_restoreSnapshot_2
def dkwX1_restoreSnapshot_0 : List UInt8 := [27, 184, 1, 170, 42, 180, 0, 39, 27, 50, 199, 0, 5, 2, 172, 42, 187, 0, 9, 89, 42, 180, 0, 39]
abbrev dktX1_restoreSnapshot_0 : List UInt8 := dkwX1_restoreSnapshot_0 ++ dktX1_restoreSnapshot_1
theorem dksX1_restoreSnapshot_0 : cX1_restoreSnapshot.data.toList.drop 0 = dktX1_restoreSnapshot_0 := by decide +kernel
theorem dksX1_restoreSnapshot_1 : cX1_restoreSnapshot.data.toList.drop 24 = dktX1_restoreSnapshot_1 := dk_seg dksX1_restoreSnapshot_0 24 rfl rfl
theorem dksX1_restoreSnapshot_2 : cX1_restoreSnapshot.data.toList.drop 46 = dktX1_restoreSnapshot_2 := dk_seg dksX1_restoreSnapshot_1 22 rfl rfl
theorem dX1_restoreSnapshot_0 : decode cX1_restoreSnapshot 0 = .ok (.iload_n 1, 1) := dk_27 (dk_at dksX1_restoreSnapshot_0 0 rfl rfl)
theorem dX1_restoreSnapshot_1 : decode cX1_restoreSnapshot 1 = .ok (.invokestatic 426, 3) := dk_184 1 170 (dk_at dksX1_restoreSnapshot_0 1 rfl rfl)
theorem dX1_restoreSnapshot_4 : decode cX1_restoreSnapshot 4 = .ok (.aload_n 0, 1) := dk_42 (dk_at dksX1_restoreSnapshot_0 4 rfl rfl)
theorem dX1_restoreSnapshot_5 : decode cX1_restoreSnapshot 5 = .ok (.getfield 39, 3) := dk_180 0 39 (dk_at dksX1_restoreSnapshot_0 5 rfl rfl)
theorem dX1_restoreSnapshot_8 : decode cX1_restoreSnapshot 8 = .ok (.iload_n 1, 1) := dk_27 (dk_at dksX1_restoreSnapshot_0 8 rfl rfl)
theorem dX1_restoreSnapshot_9 : decode cX1_restoreSnapshot 9 = .ok (.aaload, 1) := dk_50 (dk_at dksX1_restoreSnapshot_0 9 rfl rfl)
theorem dX1_restoreSnapshot_10 : decode cX1_restoreSnapshot 10 = .ok (.ifnonnull 5, 3) := dk_199 0 5 (dk_at dksX1_restoreSnapshot_0 10 rfl rfl)
theorem dX1_restoreSnapshot_13 : decode cX1_restoreSnapshot 13 = .ok (.iconst (-1), 1) := dk_2 (dk_at dksX1_restoreSnapshot_0 13 rfl rfl)
theorem dX1_restoreSnapshot_14 : decode cX1_restoreSnapshot 14 = .ok (.ireturn, 1) := dk_172 (dk_at dksX1_restoreSnapshot_0 14 rfl rfl)
theorem dX1_restoreSnapshot_15 : decode cX1_restoreSnapshot 15 = .ok (.aload_n 0, 1) := dk_42 (dk_at dksX1_restoreSnapshot_0 15 rfl rfl)
theorem dX1_restoreSnapshot_16 : decode cX1_restoreSnapshot 16 = .ok (.new 9, 3) := dk_187 0 9 (dk_at dksX1_restoreSnapshot_0 16 rfl rfl)
theorem dX1_restoreSnapshot_19 : decode cX1_restoreSnapshot 19 = .ok (.dup, 1) := dk_89 (dk_at dksX1_restoreSnapshot_0 19 rfl rfl)
theorem dX1_restoreSnapshot_20 : decode cX1_restoreSnapshot 20 = .ok (.aload_n 0, 1) := dk_42 (dk_at dksX1_restoreSnapshot_0 20 rfl rfl)
theorem dX1_restoreSnapshot_21 : decode cX1_restoreSnapshot 21 = .ok (.getfield 39, 3) := dk_180 0 39 (dk_at dksX1_restoreSnapshot_0 21 rfl rfl)
theorem dX1_restoreSnapshot_24 : decode cX1_restoreSnapshot 24 = .ok (.iload_n 1, 1) := dk_27 (dk_at dksX1_restoreSnapshot_1 0 rfl rfl)
theorem dX1_restoreSnapshot_25 : decode cX1_restoreSnapshot 25 = .ok (.aaload, 1) := dk_50 (dk_at dksX1_restoreSnapshot_1 1 rfl rfl)
theorem dX1_restoreSnapshot_26 : decode cX1_restoreSnapshot 26 = .ok (.invokespecial 72, 3) := dk_183 0 72 (dk_at dksX1_restoreSnapshot_1 2 rfl rfl)
theorem dX1_restoreSnapshot_29 : decode cX1_restoreSnapshot 29 = .ok (.putfield 19, 3) := dk_181 0 19 (dk_at dksX1_restoreSnapshot_1 5 rfl rfl)
theorem dX1_restoreSnapshot_32 : decode cX1_restoreSnapshot 32 = .ok (.aload_n 0, 1) := dk_42 (dk_at dksX1_restoreSnapshot_1 8 rfl rfl)
theorem dX1_restoreSnapshot_33 : decode cX1_restoreSnapshot 33 = .ok (.getfield 35, 3) := dk_180 0 35 (dk_at dksX1_restoreSnapshot_1 9 rfl rfl)
theorem dX1_restoreSnapshot_36 : decode cX1_restoreSnapshot 36 = .ok (.invokevirtual 96, 3) := dk_182 0 96 (dk_at dksX1_restoreSnapshot_1 12 rfl rfl)
theorem dX1_restoreSnapshot_39 : decode cX1_restoreSnapshot 39 = .ok (.aload_n 0, 1) := dk_42 (dk_at dksX1_restoreSnapshot_1 15 rfl rfl)
theorem dX1_restoreSnapshot_40 : decode cX1_restoreSnapshot 40 = .ok (.getfield 19, 3) := dk_180 0 19 (dk_at dksX1_restoreSnapshot_1 16 rfl rfl)
theorem dX1_restoreSnapshot_43 : decode cX1_restoreSnapshot 43 = .ok (.getfield 99, 3) := dk_180 0 99 (dk_at dksX1_restoreSnapshot_1 19 rfl rfl)
theorem dX1_restoreSnapshot_46 : decode cX1_restoreSnapshot 46 = .ok (.getfield 103, 3) := dk_180 0 103 (dk_at dksX1_restoreSnapshot_2 0 rfl rfl)
theorem dX1_restoreSnapshot_49 : decode cX1_restoreSnapshot 49 = .ok (.invokeinterface 107 1, 5) := by decide +kernel
theorem dX1_restoreSnapshot_54 : decode cX1_restoreSnapshot 54 = .ok (.ireturn, 1) := dk_172 (dk_at dksX1_restoreSnapshot_2 8 rfl rfl)
theorem q112 : (Jvm.Cond.initialized "TollLeader") ∈ lw_all := lw_g (lw_at lw_m1 1 rfl) rfl
theorem q163 : (Jvm.Cond.instantiable "TollLeader" (9 : Nat)) ∈ lw_all := lw_g (lw_at lw_m1 52 rfl) rfl
theorem q165 : (Jvm.Cond.instanceMethod ({ cls := "TollLeader", name := "<init>", desc := "()V" } : Jvm.MethodName)) ∈ lw_all := lw_g (lw_at lw_m1 54 rfl) rfl
theorem q166 : (Jvm.Cond.code ({ cls := "TollLeader", name := "<init>", desc := "()V" } : Jvm.MethodName) prog_1_method_1_code (1 : Nat) (Option.none : Option Jvm.ClassFile.FieldType)) ∈ lw_all := lw_g (lw_at lw_m1 55 rfl) rfl
theorem q167 : (Jvm.Cond.methodLink "TollLeader" (3 : Nat) ({ cls := "java/lang/Object", name := "<init>", desc := "()V" } : Jvm.MethodName)) ∈ lw_all := lw_g (lw_at lw_m1 56 rfl) rfl
theorem q170 : (Jvm.Cond.classLink "TollLeader" (9 : Nat) "TollLeader$State") ∈ lw_all := lw_g (lw_at lw_m1 59 rfl) rfl
theorem q172 : (Jvm.Cond.classLink "TollLeader" (11 : Nat) "TollLeader$Net") ∈ lw_all := lw_g (lw_at lw_m1 61 rfl) rfl
theorem q174 : (Jvm.Cond.methodLink "TollLeader" (13 : Nat) ({ cls := "TollLeader$Net", name := "<init>", desc := "(I)V" } : Jvm.MethodName)) ∈ lw_all := lw_g (lw_at lw_m1 63 rfl) rfl
theorem q534 : (Jvm.Cond.fieldLinkNest "TollLeader" (163 : Nat) "TollLeader$Net" "nodes" "I" "TollLeader") ∈ lw_tbl := lw_at lw_m2 183 rfl
theorem q538 : (Jvm.Cond.fieldLinkNest "TollLeader" (103 : Nat) "TollLeader$Net" "arcs" "Ljava/util/List;" "TollLeader") ∈ lw_tbl := lw_at lw_m2 187 rfl
theorem q543 : (Jvm.Cond.fieldLinkNest "TollLeader" (125 : Nat) "TollLeader$Net" "trips" "Ljava/util/List;" "TollLeader") ∈ lw_tbl := lw_at lw_m2 192 rfl
theorem q557 : (Jvm.Cond.methodLink "TollLeader" (16 : Nat) ({ cls := "TollLeader$State", name := "<init>", desc := "(LTollLeader$Net;)V" } : Jvm.MethodName)) ∈ lw_all := lw_g (lw_at lw_m2 206 rfl) rfl
theorem q589 : (Jvm.Cond.fieldLinkNest "TollLeader" (99 : Nat) "TollLeader$State" "net" "LTollLeader$Net;" "TollLeader") ∈ lw_tbl := lw_at lw_m2 238 rfl
theorem q593 : (Jvm.Cond.fieldLinkNest "TollLeader" (218 : Nat) "TollLeader$State" "tolls" "[I" "TollLeader") ∈ lw_tbl := lw_at lw_m3 2 rfl
theorem q595 : (Jvm.Cond.fieldLinkNest "TollLeader" (205 : Nat) "TollLeader$State" "demands" "[I" "TollLeader") ∈ lw_tbl := lw_at lw_m3 4 rfl
theorem q597 : (Jvm.Cond.fieldLinkNest "TollLeader" (169 : Nat) "TollLeader$State" "closed" "Ljava/util/BitSet;" "TollLeader") ∈ lw_tbl := lw_at lw_m3 6 rfl
theorem q600 : (Jvm.Cond.fieldLinkNest "TollLeader" (245 : Nat) "TollLeader$State" "isFor" "Z" "TollLeader") ∈ lw_tbl := lw_at lw_m3 9 rfl
theorem q612 : (Jvm.Cond.classLink "TollLeader" (25 : Nat) "TollLeader$Finder") ∈ lw_all := lw_g (lw_at lw_m3 21 rfl) rfl
theorem q614 : (Jvm.Cond.methodLinkNest "TollLeader" (27 : Nat) ({ cls := "TollLeader$Finder", name := "<init>", desc := "()V" } : Jvm.MethodName) "TollLeader") ∈ lw_tbl := lw_at lw_m3 23 rfl
theorem q621 : (Jvm.Cond.fieldLinkNest "TollLeader" (263 : Nat) "TollLeader$Finder" "path" "[I" "TollLeader") ∈ lw_tbl := lw_at lw_m3 30 rfl
theorem q625 : (Jvm.Cond.fieldLinkNest "TollLeader" (262 : Nat) "TollLeader$Finder" "length" "I" "TollLeader") ∈ lw_tbl := lw_at lw_m3 34 rfl
theorem q639 : (Jvm.Cond.classLink "TollLeader" (32 : Nat) "java/util/ArrayDeque") ∈ lw_all := lw_g (lw_at lw_m3 48 rfl) rfl
theorem q641 : (Jvm.Cond.methodLink "TollLeader" (34 : Nat) ({ cls := "java/util/ArrayDeque", name := "<init>", desc := "(I)V" } : Jvm.MethodName)) ∈ lw_all := lw_g (lw_at lw_m3 50 rfl) rfl
theorem q660 : (Jvm.Cond.classLink "TollLeader" (51 : Nat) "java/lang/StringBuilder") ∈ lw_all := lw_g (lw_at lw_m3 69 rfl) rfl
theorem q661 : (Jvm.Cond.methodLink "TollLeader" (53 : Nat) ({ cls := "java/lang/StringBuilder", name := "<init>", desc := "()V" } : Jvm.MethodName)) ∈ lw_all := lw_g (lw_at lw_m3 70 rfl) rfl
theorem q662 : (Jvm.Cond.fieldLink "TollLeader" (19 : Nat) "TollLeader" "state" "LTollLeader$State;") ∈ lw_all := lw_g (lw_at lw_m3 71 rfl) rfl
theorem q664 : (Jvm.Cond.fieldLink "TollLeader" (28 : Nat) "TollLeader" "finder" "LTollLeader$Finder;") ∈ lw_all := lw_g (lw_at lw_m3 73 rfl) rfl
theorem q665 : (Jvm.Cond.fieldLink "TollLeader" (35 : Nat) "TollLeader" "past" "Ljava/util/ArrayDeque;") ∈ lw_all := lw_g (lw_at lw_m3 74 rfl) rfl
theorem q666 : (Jvm.Cond.fieldLink "TollLeader" (39 : Nat) "TollLeader" "snapshots" "[LTollLeader$State;") ∈ lw_all := lw_g (lw_at lw_m3 75 rfl) rfl
theorem q667 : (Jvm.Cond.fieldLink "TollLeader" (43 : Nat) "TollLeader" "text" "[B") ∈ lw_all := lw_g (lw_at lw_m3 76 rfl) rfl
theorem q670 : (Jvm.Cond.fieldLink "TollLeader" (81 : Nat) "TollLeader" "length" "I") ∈ lw_all := lw_g (lw_at lw_m3 79 rfl) rfl
theorem q671 : (Jvm.Cond.fieldLink "TollLeader" (84 : Nat) "TollLeader" "error" "I") ∈ lw_all := lw_g (lw_at lw_m3 80 rfl) rfl
theorem q672 : (Jvm.Cond.fieldLink "TollLeader" (47 : Nat) "TollLeader" "errorStatement" "I") ∈ lw_all := lw_g (lw_at lw_m3 81 rfl) rfl
theorem q673 : (Jvm.Cond.fieldLink "TollLeader" (54 : Nat) "TollLeader" "output" "Ljava/lang/StringBuilder;") ∈ lw_all := lw_g (lw_at lw_m3 82 rfl) rfl
theorem q674 : (Jvm.Cond.lays "TollLeader" "TollLeader" "state" "LTollLeader$State;") ∈ lw_all := lw_g (lw_at lw_m3 83 rfl) rfl
theorem q675 : (Jvm.Cond.soleField "TollLeader" "state") ∈ lw_all := lw_g (lw_at lw_m3 84 rfl) rfl
theorem q676 : (Jvm.Cond.laysFinal "TollLeader" "TollLeader" "finder" "LTollLeader$Finder;") ∈ lw_all := lw_g (lw_at lw_m3 85 rfl) rfl
theorem q677 : (Jvm.Cond.soleField "TollLeader" "finder") ∈ lw_all := lw_g (lw_at lw_m3 86 rfl) rfl
theorem q678 : (Jvm.Cond.laysFinal "TollLeader" "TollLeader" "past" "Ljava/util/ArrayDeque;") ∈ lw_all := lw_g (lw_at lw_m3 87 rfl) rfl
theorem q679 : (Jvm.Cond.soleField "TollLeader" "past") ∈ lw_all := lw_g (lw_at lw_m3 88 rfl) rfl
theorem q680 : (Jvm.Cond.laysFinal "TollLeader" "TollLeader" "snapshots" "[LTollLeader$State;") ∈ lw_all := lw_g (lw_at lw_m3 89 rfl) rfl
theorem q681 : (Jvm.Cond.soleField "TollLeader" "snapshots") ∈ lw_all := lw_g (lw_at lw_m3 90 rfl) rfl
theorem q682 : (Jvm.Cond.laysFinal "TollLeader" "TollLeader" "text" "[B") ∈ lw_all := lw_g (lw_at lw_m3 91 rfl) rfl
theorem q683 : (Jvm.Cond.soleField "TollLeader" "text") ∈ lw_all := lw_g (lw_at lw_m3 92 rfl) rfl
theorem q684 : (Jvm.Cond.lays "TollLeader" "TollLeader" "length" "I") ∈ lw_all := lw_g (lw_at lw_m3 93 rfl) rfl
theorem q685 : (Jvm.Cond.soleField "TollLeader" "length") ∈ lw_all := lw_g (lw_at lw_m3 94 rfl) rfl
theorem q686 : (Jvm.Cond.lays "TollLeader" "TollLeader" "error" "I") ∈ lw_all := lw_g (lw_at lw_m3 95 rfl) rfl
theorem q687 : (Jvm.Cond.soleField "TollLeader" "error") ∈ lw_all := lw_g (lw_at lw_m3 96 rfl) rfl
theorem q688 : (Jvm.Cond.lays "TollLeader" "TollLeader" "errorStatement" "I") ∈ lw_all := lw_g (lw_at lw_m3 97 rfl) rfl
theorem q689 : (Jvm.Cond.soleField "TollLeader" "errorStatement") ∈ lw_all := lw_g (lw_at lw_m3 98 rfl) rfl
theorem q690 : (Jvm.Cond.laysFinal "TollLeader" "TollLeader" "output" "Ljava/lang/StringBuilder;") ∈ lw_all := lw_g (lw_at lw_m3 99 rfl) rfl
theorem q691 : (Jvm.Cond.soleField "TollLeader" "output") ∈ lw_all := lw_g (lw_at lw_m3 100 rfl) rfl
theorem q692 : (Jvm.Cond.superclass "TollLeader" "java/lang/Object") ∈ lw_all := lw_g (lw_at lw_m3 101 rfl) rfl
theorem q694 : (Jvm.Cond.instanceMethod ({ cls := "TollLeader", name := "append", desc := "(J)I" } : Jvm.MethodName)) ∈ lw_all := lw_g (lw_at lw_m3 103 rfl) rfl
theorem q695 : (Jvm.Cond.selects "TollLeader" ({ cls := "TollLeader", name := "append", desc := "(J)I" } : Jvm.MethodName) ({ cls := "TollLeader", name := "append", desc := "(J)I" } : Jvm.MethodName)) ∈ lw_all := lw_g (lw_at lw_m3 104 rfl) rfl
theorem q696 : (Jvm.Cond.code ({ cls := "TollLeader", name := "append", desc := "(J)I" } : Jvm.MethodName) prog_1_method_6_code (6 : Nat) (Option.some Jvm.ClassFile.FieldType.int)) ∈ lw_all := lw_g (lw_at lw_m3 105 rfl) rfl
theorem q697 : (Jvm.Cond.constantLong "TollLeader" (79 : Nat) (255 : Int64)) ∈ lw_all := lw_g (lw_at lw_m3 106 rfl) rfl
theorem q699 : (Jvm.Cond.instanceMethod ({ cls := "TollLeader", name := "load", desc := "()I" } : Jvm.MethodName)) ∈ lw_all := lw_g (lw_at lw_m3 108 rfl) rfl
theorem q700 : (Jvm.Cond.selects "TollLeader" ({ cls := "TollLeader", name := "load", desc := "()I" } : Jvm.MethodName) ({ cls := "TollLeader", name := "load", desc := "()I" } : Jvm.MethodName)) ∈ lw_all := lw_g (lw_at lw_m3 109 rfl) rfl
theorem q701 : (Jvm.Cond.codeWith ({ cls := "TollLeader", name := "load", desc := "()I" } : Jvm.MethodName) prog_1_method_7_code (5 : Nat) (Option.some Jvm.ClassFile.FieldType.int) [((19 : Nat), (57 : Nat), (64 : Nat), (110 : Nat)), ((19 : Nat), (57 : Nat), (96 : Nat), (0 : Nat)), ((64 : Nat), (89 : Nat), (96 : Nat), (0 : Nat)), ((96 : Nat), (98 : Nat), (96 : Nat), (0 : Nat))]) ∈ lw_all := lw_g (lw_at lw_m3 110 rfl) rfl
theorem q702 : (Jvm.Cond.classLink "TollLeader" (110 : Nat) "TollLeader$Fault") ∈ lw_all := lw_g (lw_at lw_m3 111 rfl) rfl
theorem q703 : (Jvm.Cond.classLink "TollLeader" (87 : Nat) "TollLeader$Parser") ∈ lw_all := lw_g (lw_at lw_m3 112 rfl) rfl
theorem q705 : (Jvm.Cond.methodLinkNest "TollLeader" (89 : Nat) ({ cls := "TollLeader$Parser", name := "<init>", desc := "(LTollLeader;)V" } : Jvm.MethodName) "TollLeader") ∈ lw_tbl := lw_at lw_m3 114 rfl
theorem q714 : (Jvm.Cond.fieldLinkNest "TollLeader" (115 : Nat) "TollLeader$Parser" "statement" "I" "TollLeader") ∈ lw_tbl := lw_at lw_m3 123 rfl
theorem q728 : (Jvm.Cond.methodLink "TollLeader" (92 : Nat) ({ cls := "TollLeader$Parser", name := "parse", desc := "()LTollLeader$Net;" } : Jvm.MethodName)) ∈ lw_all := lw_g (lw_at lw_m3 137 rfl) rfl
theorem q743 : (Jvm.Cond.static ({ cls := "TollLeader", name := "inRange", desc := "(JJJ)Z" } : Jvm.MethodName)) ∈ lw_all := lw_g (lw_at lw_m3 152 rfl) rfl
theorem q744 : (Jvm.Cond.code ({ cls := "TollLeader", name := "inRange", desc := "(JJJ)Z" } : Jvm.MethodName) prog_1_method_2_code (6 : Nat) (Option.some Jvm.ClassFile.FieldType.boolean)) ∈ lw_all := lw_g (lw_at lw_m3 153 rfl) rfl
theorem q768 : (Jvm.Cond.fieldLinkNest "TollLeader" (112 : Nat) "TollLeader$Fault" "kind" "I" "TollLeader") ∈ lw_tbl := lw_at lw_m3 177 rfl
theorem q770 : (Jvm.Cond.fieldLinkNest "TollLeader" (118 : Nat) "TollLeader$Fault" "position" "I" "TollLeader") ∈ lw_tbl := lw_at lw_m3 179 rfl
theorem q978 : (Jvm.Cond.selects "TollLeader" ({ cls := "java/lang/Object", name := "getClass", desc := "()Ljava/lang/Class;" } : Jvm.MethodName) ({ cls := "java/lang/Object", name := "getClass", desc := "()Ljava/lang/Class;" } : Jvm.MethodName)) ∈ lw_all := lw_g (lw_at lw_m4 147 rfl) rfl
theorem q1068 : (Jvm.Cond.methodLink "TollLeader" (96 : Nat) ({ cls := "java/util/ArrayDeque", name := "clear", desc := "()V" } : Jvm.MethodName)) ∈ lw_all := lw_g (lw_at lw_m4 237 rfl) rfl
theorem q1075 : (Jvm.Cond.interfaceEntry "TollLeader" (107 : Nat)) ∈ lw_tbl := lw_at lw_m5 4 rfl
theorem q1076 : (Jvm.Cond.methodLink "TollLeader" (107 : Nat) ({ cls := "java/util/List", name := "size", desc := "()I" } : Jvm.MethodName)) ∈ lw_all := lw_g (lw_at lw_m5 5 rfl) rfl
theorem q1078 : (Jvm.Cond.instanceMethod ({ cls := "TollLeader", name := "loadError", desc := "()I" } : Jvm.MethodName)) ∈ lw_all := lw_g (lw_at lw_m5 7 rfl) rfl
theorem q1079 : (Jvm.Cond.selects "TollLeader" ({ cls := "TollLeader", name := "loadError", desc := "()I" } : Jvm.MethodName) ({ cls := "TollLeader", name := "loadError", desc := "()I" } : Jvm.MethodName)) ∈ lw_all := lw_g (lw_at lw_m5 8 rfl) rfl
theorem q1080 : (Jvm.Cond.code ({ cls := "TollLeader", name := "loadError", desc := "()I" } : Jvm.MethodName) prog_1_method_8_code (1 : Nat) (Option.some Jvm.ClassFile.FieldType.int)) ∈ lw_all := lw_g (lw_at lw_m5 9 rfl) rfl
theorem q1082 : (Jvm.Cond.instanceMethod ({ cls := "TollLeader", name := "loadStatement", desc := "()I" } : Jvm.MethodName)) ∈ lw_all := lw_g (lw_at lw_m5 11 rfl) rfl
theorem q1083 : (Jvm.Cond.selects "TollLeader" ({ cls := "TollLeader", name := "loadStatement", desc := "()I" } : Jvm.MethodName) ({ cls := "TollLeader", name := "loadStatement", desc := "()I" } : Jvm.MethodName)) ∈ lw_all := lw_g (lw_at lw_m5 12 rfl) rfl
theorem q1084 : (Jvm.Cond.code ({ cls := "TollLeader", name := "loadStatement", desc := "()I" } : Jvm.MethodName) prog_1_method_9_code (1 : Nat) (Option.some Jvm.ClassFile.FieldType.int)) ∈ lw_all := lw_g (lw_at lw_m5 13 rfl) rfl
theorem q1086 : (Jvm.Cond.instanceMethod ({ cls := "TollLeader", name := "clearTolls", desc := "()I" } : Jvm.MethodName)) ∈ lw_all := lw_g (lw_at lw_m5 15 rfl) rfl
theorem q1087 : (Jvm.Cond.selects "TollLeader" ({ cls := "TollLeader", name := "clearTolls", desc := "()I" } : Jvm.MethodName) ({ cls := "TollLeader", name := "clearTolls", desc := "()I" } : Jvm.MethodName)) ∈ lw_all := lw_g (lw_at lw_m5 16 rfl) rfl
theorem q1088 : (Jvm.Cond.code ({ cls := "TollLeader", name := "clearTolls", desc := "()I" } : Jvm.MethodName) prog_1_method_20_code (3 : Nat) (Option.some Jvm.ClassFile.FieldType.int)) ∈ lw_all := lw_g (lw_at lw_m5 17 rfl) rfl
theorem q1089 : (Jvm.Cond.methodLink "TollLeader" (215 : Nat) ({ cls := "TollLeader", name := "act", desc := "()V" } : Jvm.MethodName)) ∈ lw_all := lw_g (lw_at lw_m5 18 rfl) rfl
theorem q1090 : (Jvm.Cond.privateMethod ({ cls := "TollLeader", name := "act", desc := "()V" } : Jvm.MethodName)) ∈ lw_tbl := lw_at lw_m5 19 rfl
theorem q1091 : (Jvm.Cond.instanceMethod ({ cls := "TollLeader", name := "act", desc := "()V" } : Jvm.MethodName)) ∈ lw_all := lw_g (lw_at lw_m5 20 rfl) rfl
theorem q1092 : (Jvm.Cond.code ({ cls := "TollLeader", name := "act", desc := "()V" } : Jvm.MethodName) prog_1_method_5_code (2 : Nat) (Option.none : Option Jvm.ClassFile.FieldType)) ∈ lw_all := lw_g (lw_at lw_m5 21 rfl) rfl
theorem q1093 : (Jvm.Cond.methodLink "TollLeader" (64 : Nat) ({ cls := "java/util/ArrayDeque", name := "size", desc := "()I" } : Jvm.MethodName)) ∈ lw_all := lw_g (lw_at lw_m5 22 rfl) rfl
theorem q1100 : (Jvm.Cond.methodLink "TollLeader" (68 : Nat) ({ cls := "java/util/ArrayDeque", name := "removeFirst", desc := "()Ljava/lang/Object;" } : Jvm.MethodName)) ∈ lw_all := lw_g (lw_at lw_m5 29 rfl) rfl
theorem q1114 : (Jvm.Cond.methodLink "TollLeader" (72 : Nat) ({ cls := "TollLeader$State", name := "<init>", desc := "(LTollLeader$State;)V" } : Jvm.MethodName)) ∈ lw_all := lw_g (lw_at lw_m5 43 rfl) rfl
theorem q1142 : (Jvm.Cond.methodLink "TollLeader" (75 : Nat) ({ cls := "java/util/ArrayDeque", name := "addLast", desc := "(Ljava/lang/Object;)V" } : Jvm.MethodName)) ∈ lw_all := lw_g (lw_at lw_m5 71 rfl) rfl
theorem q1158 : (Jvm.Cond.instanceMethod ({ cls := "TollLeader", name := "setTies", desc := "(Z)Z" } : Jvm.MethodName)) ∈ lw_all := lw_g (lw_at lw_m5 87 rfl) rfl
theorem q1159 : (Jvm.Cond.selects "TollLeader" ({ cls := "TollLeader", name := "setTies", desc := "(Z)Z" } : Jvm.MethodName) ({ cls := "TollLeader", name := "setTies", desc := "(Z)Z" } : Jvm.MethodName)) ∈ lw_all := lw_g (lw_at lw_m5 88 rfl) rfl
theorem q1160 : (Jvm.Cond.code ({ cls := "TollLeader", name := "setTies", desc := "(Z)Z" } : Jvm.MethodName) prog_1_method_23_code (3 : Nat) (Option.some Jvm.ClassFile.FieldType.boolean)) ∈ lw_all := lw_g (lw_at lw_m5 89 rfl) rfl
theorem q1162 : (Jvm.Cond.instanceMethod ({ cls := "TollLeader", name := "tiesForLeader", desc := "()Z" } : Jvm.MethodName)) ∈ lw_all := lw_g (lw_at lw_m5 91 rfl) rfl
theorem q1163 : (Jvm.Cond.selects "TollLeader" ({ cls := "TollLeader", name := "tiesForLeader", desc := "()Z" } : Jvm.MethodName) ({ cls := "TollLeader", name := "tiesForLeader", desc := "()Z" } : Jvm.MethodName)) ∈ lw_all := lw_g (lw_at lw_m5 92 rfl) rfl
theorem q1164 : (Jvm.Cond.code ({ cls := "TollLeader", name := "tiesForLeader", desc := "()Z" } : Jvm.MethodName) prog_1_method_24_code (1 : Nat) (Option.some Jvm.ClassFile.FieldType.boolean)) ∈ lw_all := lw_g (lw_at lw_m5 93 rfl) rfl
theorem q1166 : (Jvm.Cond.instanceMethod ({ cls := "TollLeader", name := "undo", desc := "()I" } : Jvm.MethodName)) ∈ lw_all := lw_g (lw_at lw_m5 95 rfl) rfl
theorem q1167 : (Jvm.Cond.selects "TollLeader" ({ cls := "TollLeader", name := "undo", desc := "()I" } : Jvm.MethodName) ({ cls := "TollLeader", name := "undo", desc := "()I" } : Jvm.MethodName)) ∈ lw_all := lw_g (lw_at lw_m5 96 rfl) rfl
theorem q1168 : (Jvm.Cond.code ({ cls := "TollLeader", name := "undo", desc := "()I" } : Jvm.MethodName) prog_1_method_25_code (1 : Nat) (Option.some Jvm.ClassFile.FieldType.int)) ∈ lw_all := lw_g (lw_at lw_m5 97 rfl) rfl
theorem q1169 : (Jvm.Cond.methodLink "TollLeader" (249 : Nat) ({ cls := "java/util/ArrayDeque", name := "isEmpty", desc := "()Z" } : Jvm.MethodName)) ∈ lw_all := lw_g (lw_at lw_m5 98 rfl) rfl
theorem q1173 : (Jvm.Cond.methodLink "TollLeader" (252 : Nat) ({ cls := "java/util/ArrayDeque", name := "removeLast", desc := "()Ljava/lang/Object;" } : Jvm.MethodName)) ∈ lw_all := lw_g (lw_at lw_m5 102 rfl) rfl
theorem q1185 : (Jvm.Cond.instanceMethod ({ cls := "TollLeader", name := "undoCount", desc := "()I" } : Jvm.MethodName)) ∈ lw_all := lw_g (lw_at lw_m5 114 rfl) rfl
theorem q1186 : (Jvm.Cond.selects "TollLeader" ({ cls := "TollLeader", name := "undoCount", desc := "()I" } : Jvm.MethodName) ({ cls := "TollLeader", name := "undoCount", desc := "()I" } : Jvm.MethodName)) ∈ lw_all := lw_g (lw_at lw_m5 115 rfl) rfl
theorem q1187 : (Jvm.Cond.code ({ cls := "TollLeader", name := "undoCount", desc := "()I" } : Jvm.MethodName) prog_1_method_26_code (1 : Nat) (Option.some Jvm.ClassFile.FieldType.int)) ∈ lw_all := lw_g (lw_at lw_m5 116 rfl) rfl
theorem q1189 : (Jvm.Cond.instanceMethod ({ cls := "TollLeader", name := "busiest", desc := "()I" } : Jvm.MethodName)) ∈ lw_all := lw_g (lw_at lw_m5 118 rfl) rfl
theorem q1190 : (Jvm.Cond.selects "TollLeader" ({ cls := "TollLeader", name := "busiest", desc := "()I" } : Jvm.MethodName) ({ cls := "TollLeader", name := "busiest", desc := "()I" } : Jvm.MethodName)) ∈ lw_all := lw_g (lw_at lw_m5 119 rfl) rfl
theorem q1191 : (Jvm.Cond.code ({ cls := "TollLeader", name := "busiest", desc := "()I" } : Jvm.MethodName) prog_1_method_41_code (5 : Nat) (Option.some Jvm.ClassFile.FieldType.int)) ∈ lw_all := lw_g (lw_at lw_m5 120 rfl) rfl
theorem q1192 : (Jvm.Cond.methodLink "TollLeader" (306 : Nat) ({ cls := "TollLeader", name := "flowOf", desc := "(I)I" } : Jvm.MethodName)) ∈ lw_all := lw_g (lw_at lw_m5 121 rfl) rfl
theorem q1193 : (Jvm.Cond.privateMethod ({ cls := "TollLeader", name := "flowOf", desc := "(I)I" } : Jvm.MethodName)) ∈ lw_tbl := lw_at lw_m5 122 rfl
theorem q1194 : (Jvm.Cond.instanceMethod ({ cls := "TollLeader", name := "flowOf", desc := "(I)I" } : Jvm.MethodName)) ∈ lw_all := lw_g (lw_at lw_m5 123 rfl) rfl
theorem q1195 : (Jvm.Cond.code ({ cls := "TollLeader", name := "flowOf", desc := "(I)I" } : Jvm.MethodName) prog_1_method_39_code (5 : Nat) (Option.some Jvm.ClassFile.FieldType.int)) ∈ lw_all := lw_g (lw_at lw_m5 124 rfl) rfl
theorem q1196 : (Jvm.Cond.methodLink "TollLeader" (302 : Nat) ({ cls := "TollLeader", name := "usersOf", desc := "(I)I" } : Jvm.MethodName)) ∈ lw_all := lw_g (lw_at lw_m5 125 rfl) rfl
theorem q1197 : (Jvm.Cond.privateMethod ({ cls := "TollLeader", name := "usersOf", desc := "(I)I" } : Jvm.MethodName)) ∈ lw_tbl := lw_at lw_m5 126 rfl
theorem q1198 : (Jvm.Cond.instanceMethod ({ cls := "TollLeader", name := "usersOf", desc := "(I)I" } : Jvm.MethodName)) ∈ lw_all := lw_g (lw_at lw_m5 127 rfl) rfl
theorem q1199 : (Jvm.Cond.code ({ cls := "TollLeader", name := "usersOf", desc := "(I)I" } : Jvm.MethodName) prog_1_method_37_code (4 : Nat) (Option.some Jvm.ClassFile.FieldType.int)) ∈ lw_all := lw_g (lw_at lw_m5 128 rfl) rfl
theorem q1200 : (Jvm.Cond.methodLink "TollLeader" (298 : Nat) ({ cls := "TollLeader", name := "usesIt", desc := "(II)Z" } : Jvm.MethodName)) ∈ lw_all := lw_g (lw_at lw_m5 129 rfl) rfl
theorem q1201 : (Jvm.Cond.privateMethod ({ cls := "TollLeader", name := "usesIt", desc := "(II)Z" } : Jvm.MethodName)) ∈ lw_tbl := lw_at lw_m5 130 rfl
theorem q1202 : (Jvm.Cond.instanceMethod ({ cls := "TollLeader", name := "usesIt", desc := "(II)Z" } : Jvm.MethodName)) ∈ lw_all := lw_g (lw_at lw_m5 131 rfl) rfl
theorem q1203 : (Jvm.Cond.code ({ cls := "TollLeader", name := "usesIt", desc := "(II)Z" } : Jvm.MethodName) prog_1_method_35_code (3 : Nat) (Option.some Jvm.ClassFile.FieldType.boolean)) ∈ lw_all := lw_g (lw_at lw_m5 132 rfl) rfl
theorem q1204 : (Jvm.Cond.interfaceEntry "TollLeader" (136 : Nat)) ∈ lw_tbl := lw_at lw_m5 133 rfl
theorem q1205 : (Jvm.Cond.methodLink "TollLeader" (136 : Nat) ({ cls := "java/util/List", name := "get", desc := "(I)Ljava/lang/Object;" } : Jvm.MethodName)) ∈ lw_all := lw_g (lw_at lw_m5 134 rfl) rfl
theorem q1265 : (Jvm.Cond.classLink "TollLeader" (145 : Nat) "TollLeader$Trip") ∈ lw_all := lw_g (lw_at lw_m5 194 rfl) rfl
theorem q1266 : (Jvm.Cond.methodLink "TollLeader" (255 : Nat) ({ cls := "TollLeader$Finder", name := "walk", desc := "(LTollLeader$State;LTollLeader$Trip;)Z" } : Jvm.MethodName)) ∈ lw_all := lw_g (lw_at lw_m5 195 rfl) rfl
theorem q1271 : (Jvm.Cond.laysStatic "TollLeader" "WHOLE" "LTollLeader$Weight;") ∈ lw_tbl := lw_at lw_m5 200 rfl
theorem q1404 : (Jvm.Cond.methodLink "TollLeader" (295 : Nat) ({ cls := "TollLeader$Finder", name := "has", desc := "(I)Z" } : Jvm.MethodName)) ∈ lw_all := lw_g (lw_at lw_m6 93 rfl) rfl
theorem q1408 : (Jvm.Cond.methodLink "TollLeader" (234 : Nat) ({ cls := "java/lang/Math", name := "max", desc := "(II)I" } : Jvm.MethodName)) ∈ lw_all := lw_g (lw_at lw_m6 97 rfl) rfl
theorem q1410 : (Jvm.Cond.instanceMethod ({ cls := "TollLeader", name := "unused", desc := "()I" } : Jvm.MethodName)) ∈ lw_all := lw_g (lw_at lw_m6 99 rfl) rfl
theorem q1411 : (Jvm.Cond.selects "TollLeader" ({ cls := "TollLeader", name := "unused", desc := "()I" } : Jvm.MethodName) ({ cls := "TollLeader", name := "unused", desc := "()I" } : Jvm.MethodName)) ∈ lw_all := lw_g (lw_at lw_m6 100 rfl) rfl
theorem q1412 : (Jvm.Cond.code ({ cls := "TollLeader", name := "unused", desc := "()I" } : Jvm.MethodName) prog_1_method_42_code (5 : Nat) (Option.some Jvm.ClassFile.FieldType.int)) ∈ lw_all := lw_g (lw_at lw_m6 101 rfl) rfl
theorem q1413 : (Jvm.Cond.classLink "TollLeader" (174 : Nat) "java/util/BitSet") ∈ lw_all := lw_g (lw_at lw_m6 102 rfl) rfl
theorem q1414 : (Jvm.Cond.methodLink "TollLeader" (309 : Nat) ({ cls := "java/util/BitSet", name := "<init>", desc := "(I)V" } : Jvm.MethodName)) ∈ lw_all := lw_g (lw_at lw_m6 103 rfl) rfl
theorem q1415 : (Jvm.Cond.methodLink "TollLeader" (310 : Nat) ({ cls := "java/util/BitSet", name := "set", desc := "(II)V" } : Jvm.MethodName)) ∈ lw_all := lw_g (lw_at lw_m6 104 rfl) rfl
theorem q1431 : (Jvm.Cond.interfaceEntry "TollLeader" (147 : Nat)) ∈ lw_tbl := lw_at lw_m6 120 rfl
theorem q1432 : (Jvm.Cond.methodLink "TollLeader" (147 : Nat) ({ cls := "java/util/List", name := "iterator", desc := "()Ljava/util/Iterator;" } : Jvm.MethodName)) ∈ lw_all := lw_g (lw_at lw_m6 121 rfl) rfl
theorem q1539 : (Jvm.Cond.interfaceEntry "TollLeader" (151 : Nat)) ∈ lw_tbl := lw_at lw_m6 228 rfl
theorem q1540 : (Jvm.Cond.methodLink "TollLeader" (151 : Nat) ({ cls := "java/util/Iterator", name := "hasNext", desc := "()Z" } : Jvm.MethodName)) ∈ lw_all := lw_g (lw_at lw_m6 229 rfl) rfl
theorem q1583 : (Jvm.Cond.interfaceEntry "TollLeader" (157 : Nat)) ∈ lw_tbl := lw_at lw_m7 32 rfl
theorem q1584 : (Jvm.Cond.methodLink "TollLeader" (157 : Nat) ({ cls := "java/util/Iterator", name := "next", desc := "()Ljava/lang/Object;" } : Jvm.MethodName)) ∈ lw_all := lw_g (lw_at lw_m7 33 rfl) rfl
theorem q1704 : (Jvm.Cond.methodLink "TollLeader" (313 : Nat) ({ cls := "java/util/BitSet", name := "clear", desc := "(I)V" } : Jvm.MethodName)) ∈ lw_all := lw_g (lw_at lw_m7 153 rfl) rfl
theorem q1712 : (Jvm.Cond.methodLink "TollLeader" (315 : Nat) ({ cls := "java/util/BitSet", name := "nextSetBit", desc := "(I)I" } : Jvm.MethodName)) ∈ lw_all := lw_g (lw_at lw_m7 161 rfl) rfl
theorem q1724 : (Jvm.Cond.instanceMethod ({ cls := "TollLeader", name := "revenue", desc := "()J" } : Jvm.MethodName)) ∈ lw_all := lw_g (lw_at lw_m7 173 rfl) rfl
theorem q1725 : (Jvm.Cond.selects "TollLeader" ({ cls := "TollLeader", name := "revenue", desc := "()J" } : Jvm.MethodName) ({ cls := "TollLeader", name := "revenue", desc := "()J" } : Jvm.MethodName)) ∈ lw_all := lw_g (lw_at lw_m7 174 rfl) rfl
theorem q1726 : (Jvm.Cond.code ({ cls := "TollLeader", name := "revenue", desc := "()J" } : Jvm.MethodName) prog_1_method_47_code (1 : Nat) (Option.some Jvm.ClassFile.FieldType.long)) ∈ lw_all := lw_g (lw_at lw_m7 175 rfl) rfl
theorem q1727 : (Jvm.Cond.methodLink "TollLeader" (329 : Nat) ({ cls := "TollLeader", name := "brought", desc := "()J" } : Jvm.MethodName)) ∈ lw_all := lw_g (lw_at lw_m7 176 rfl) rfl
theorem q1728 : (Jvm.Cond.privateMethod ({ cls := "TollLeader", name := "brought", desc := "()J" } : Jvm.MethodName)) ∈ lw_tbl := lw_at lw_m7 177 rfl
theorem q1729 : (Jvm.Cond.instanceMethod ({ cls := "TollLeader", name := "brought", desc := "()J" } : Jvm.MethodName)) ∈ lw_all := lw_g (lw_at lw_m7 178 rfl) rfl
theorem q1730 : (Jvm.Cond.code ({ cls := "TollLeader", name := "brought", desc := "()J" } : Jvm.MethodName) prog_1_method_46_code (4 : Nat) (Option.some Jvm.ClassFile.FieldType.long)) ∈ lw_all := lw_g (lw_at lw_m7 179 rfl) rfl
theorem q1731 : (Jvm.Cond.methodLink "TollLeader" (325 : Nat) ({ cls := "TollLeader", name := "brings", desc := "(I)J" } : Jvm.MethodName)) ∈ lw_all := lw_g (lw_at lw_m7 180 rfl) rfl
theorem q1732 : (Jvm.Cond.privateMethod ({ cls := "TollLeader", name := "brings", desc := "(I)J" } : Jvm.MethodName)) ∈ lw_tbl := lw_at lw_m7 181 rfl
theorem q1733 : (Jvm.Cond.instanceMethod ({ cls := "TollLeader", name := "brings", desc := "(I)J" } : Jvm.MethodName)) ∈ lw_all := lw_g (lw_at lw_m7 182 rfl) rfl
theorem q1734 : (Jvm.Cond.code ({ cls := "TollLeader", name := "brings", desc := "(I)J" } : Jvm.MethodName) prog_1_method_45_code (2 : Nat) (Option.some Jvm.ClassFile.FieldType.long)) ∈ lw_all := lw_g (lw_at lw_m7 183 rfl) rfl
theorem q1735 : (Jvm.Cond.methodLink "TollLeader" (279 : Nat) ({ cls := "TollLeader$Finder", name := "tolls", desc := "(LTollLeader$State;)I" } : Jvm.MethodName)) ∈ lw_all := lw_g (lw_at lw_m7 184 rfl) rfl
theorem q1740 : (Jvm.Cond.instanceMethod ({ cls := "TollLeader", name := "bound", desc := "()J" } : Jvm.MethodName)) ∈ lw_all := lw_g (lw_at lw_m7 189 rfl) rfl
theorem q1741 : (Jvm.Cond.selects "TollLeader" ({ cls := "TollLeader", name := "bound", desc := "()J" } : Jvm.MethodName) ({ cls := "TollLeader", name := "bound", desc := "()J" } : Jvm.MethodName)) ∈ lw_all := lw_g (lw_at lw_m7 190 rfl) rfl
theorem q1742 : (Jvm.Cond.code ({ cls := "TollLeader", name := "bound", desc := "()J" } : Jvm.MethodName) prog_1_method_52_code (6 : Nat) (Option.some Jvm.ClassFile.FieldType.long)) ∈ lw_all := lw_g (lw_at lw_m7 191 rfl) rfl
theorem q1743 : (Jvm.Cond.methodLink "TollLeader" (289 : Nat) ({ cls := "TollLeader", name := "feltBy", desc := "(LTollLeader$Trip;)J" } : Jvm.MethodName)) ∈ lw_all := lw_g (lw_at lw_m7 192 rfl) rfl
theorem q1744 : (Jvm.Cond.privateMethod ({ cls := "TollLeader", name := "feltBy", desc := "(LTollLeader$Trip;)J" } : Jvm.MethodName)) ∈ lw_tbl := lw_at lw_m7 193 rfl
theorem q1745 : (Jvm.Cond.instanceMethod ({ cls := "TollLeader", name := "feltBy", desc := "(LTollLeader$Trip;)J" } : Jvm.MethodName)) ∈ lw_all := lw_g (lw_at lw_m7 194 rfl) rfl
theorem q1746 : (Jvm.Cond.code ({ cls := "TollLeader", name := "feltBy", desc := "(LTollLeader$Trip;)J" } : Jvm.MethodName) prog_1_method_33_code (2 : Nat) (Option.some Jvm.ClassFile.FieldType.long)) ∈ lw_all := lw_g (lw_at lw_m7 195 rfl) rfl
theorem q1747 : (Jvm.Cond.fieldLink "TollLeader" (281 : Nat) "TollLeader" "PLAIN" "LTollLeader$Weight;") ∈ lw_all := lw_g (lw_at lw_m7 196 rfl) rfl
theorem q1748 : (Jvm.Cond.laysStatic "TollLeader" "PLAIN" "LTollLeader$Weight;") ∈ lw_tbl := lw_at lw_m7 197 rfl
theorem q1749 : (Jvm.Cond.methodLink "TollLeader" (285 : Nat) ({ cls := "TollLeader$Finder", name := "measure", desc := "(LTollLeader$State;LTollLeader$Trip;LTollLeader$Weight;)J" } : Jvm.MethodName)) ∈ lw_all := lw_g (lw_at lw_m7 198 rfl) rfl
theorem q1750 : (Jvm.Cond.constantLong "TollLeader" (293 : Nat) (2305843009213693951 : Int64)) ∈ lw_all := lw_g (lw_at lw_m7 199 rfl) rfl
theorem q1751 : (Jvm.Cond.methodLink "TollLeader" (341 : Nat) ({ cls := "TollLeader", name := "pledged", desc := "(I)J" } : Jvm.MethodName)) ∈ lw_all := lw_g (lw_at lw_m7 200 rfl) rfl
theorem q1752 : (Jvm.Cond.privateMethod ({ cls := "TollLeader", name := "pledged", desc := "(I)J" } : Jvm.MethodName)) ∈ lw_tbl := lw_at lw_m7 201 rfl
theorem q1753 : (Jvm.Cond.instanceMethod ({ cls := "TollLeader", name := "pledged", desc := "(I)J" } : Jvm.MethodName)) ∈ lw_all := lw_g (lw_at lw_m7 202 rfl) rfl
theorem q1754 : (Jvm.Cond.code ({ cls := "TollLeader", name := "pledged", desc := "(I)J" } : Jvm.MethodName) prog_1_method_50_code (5 : Nat) (Option.some Jvm.ClassFile.FieldType.long)) ∈ lw_all := lw_g (lw_at lw_m7 203 rfl) rfl
theorem q1755 : (Jvm.Cond.fieldLink "TollLeader" (333 : Nat) "TollLeader" "WITHOUT" "LTollLeader$Weight;") ∈ lw_all := lw_g (lw_at lw_m7 204 rfl) rfl
theorem q1756 : (Jvm.Cond.laysStatic "TollLeader" "WITHOUT" "LTollLeader$Weight;") ∈ lw_tbl := lw_at lw_m7 205 rfl
theorem q1757 : (Jvm.Cond.constantLong "TollLeader" (336 : Nat) (-1 : Int64)) ∈ lw_all := lw_g (lw_at lw_m7 206 rfl) rfl
theorem q1758 : (Jvm.Cond.fieldLink "TollLeader" (338 : Nat) "TollLeader" "AT_ALL" "LTollLeader$Weight;") ∈ lw_all := lw_g (lw_at lw_m7 207 rfl) rfl
theorem q1759 : (Jvm.Cond.laysStatic "TollLeader" "AT_ALL" "LTollLeader$Weight;") ∈ lw_tbl := lw_at lw_m7 208 rfl
theorem q1761 : (Jvm.Cond.instanceMethod ({ cls := "TollLeader", name := "improve", desc := "()I" } : Jvm.MethodName)) ∈ lw_all := lw_g (lw_at lw_m7 210 rfl) rfl
theorem q1762 : (Jvm.Cond.selects "TollLeader" ({ cls := "TollLeader", name := "improve", desc := "()I" } : Jvm.MethodName) ({ cls := "TollLeader", name := "improve", desc := "()I" } : Jvm.MethodName)) ∈ lw_all := lw_g (lw_at lw_m7 211 rfl) rfl
theorem q1763 : (Jvm.Cond.code ({ cls := "TollLeader", name := "improve", desc := "()I" } : Jvm.MethodName) prog_1_method_58_code (1 : Nat) (Option.some Jvm.ClassFile.FieldType.int)) ∈ lw_all := lw_g (lw_at lw_m7 212 rfl) rfl
theorem q1764 : (Jvm.Cond.methodLink "TollLeader" (363 : Nat) ({ cls := "TollLeader", name := "improved", desc := "()I" } : Jvm.MethodName)) ∈ lw_all := lw_g (lw_at lw_m7 213 rfl) rfl
theorem q1765 : (Jvm.Cond.privateMethod ({ cls := "TollLeader", name := "improved", desc := "()I" } : Jvm.MethodName)) ∈ lw_tbl := lw_at lw_m7 214 rfl
theorem q1766 : (Jvm.Cond.instanceMethod ({ cls := "TollLeader", name := "improved", desc := "()I" } : Jvm.MethodName)) ∈ lw_all := lw_g (lw_at lw_m7 215 rfl) rfl
theorem q1767 : (Jvm.Cond.code ({ cls := "TollLeader", name := "improved", desc := "()I" } : Jvm.MethodName) prog_1_method_57_code (5 : Nat) (Option.some Jvm.ClassFile.FieldType.int)) ∈ lw_all := lw_g (lw_at lw_m7 216 rfl) rfl
theorem q1768 : (Jvm.Cond.classLink "TollLeader" (140 : Nat) "TollLeader$Arc") ∈ lw_all := lw_g (lw_at lw_m7 217 rfl) rfl
theorem q1769 : (Jvm.Cond.methodLink "TollLeader" (160 : Nat) ({ cls := "TollLeader$Arc", name := "most", desc := "()I" } : Jvm.MethodName)) ∈ lw_all := lw_g (lw_at lw_m7 218 rfl) rfl
theorem q1770 : (Jvm.Cond.classLink "TollLeader" (352 : Nat) "TollLeader$Trial") ∈ lw_all := lw_g (lw_at lw_m7 219 rfl) rfl
theorem q1772 : (Jvm.Cond.methodLink "TollLeader" (354 : Nat) ({ cls := "TollLeader$Trial", name := "<init>", desc := "(LTollLeader;LTollLeader$Arc;)V" } : Jvm.MethodName)) ∈ lw_all := lw_g (lw_at lw_m7 221 rfl) rfl
theorem q1788 : (Jvm.Cond.privateMethod ({ cls := "TollLeader", name := "kept", desc := "(ILTollLeader$Arc;)I" } : Jvm.MethodName)) ∈ lw_tbl := lw_at lw_m7 237 rfl
theorem q1789 : (Jvm.Cond.instanceMethod ({ cls := "TollLeader", name := "kept", desc := "(ILTollLeader$Arc;)I" } : Jvm.MethodName)) ∈ lw_all := lw_g (lw_at lw_m7 238 rfl) rfl
theorem q1790 : (Jvm.Cond.code ({ cls := "TollLeader", name := "kept", desc := "(ILTollLeader$Arc;)I" } : Jvm.MethodName) prog_1_method_54_code (6 : Nat) (Option.some Jvm.ClassFile.FieldType.int)) ∈ lw_all := lw_g (lw_at lw_m7 239 rfl) rfl
theorem q1791 : (Jvm.Cond.methodLink "TollLeader" (225 : Nat) ({ cls := "TollLeader$Arc", name := "number", desc := "()I" } : Jvm.MethodName)) ∈ lw_all := lw_g (lw_at lw_m8 0 rfl) rfl
theorem q1792 : (Jvm.Cond.methodLink "TollLeader" (344 : Nat) ({ cls := "TollLeader", name := "usesWith", desc := "(III)Z" } : Jvm.MethodName)) ∈ lw_all := lw_g (lw_at lw_m8 1 rfl) rfl
theorem q1793 : (Jvm.Cond.privateMethod ({ cls := "TollLeader", name := "usesWith", desc := "(III)Z" } : Jvm.MethodName)) ∈ lw_tbl := lw_at lw_m8 2 rfl
theorem q1794 : (Jvm.Cond.instanceMethod ({ cls := "TollLeader", name := "usesWith", desc := "(III)Z" } : Jvm.MethodName)) ∈ lw_all := lw_g (lw_at lw_m8 3 rfl) rfl
theorem q1795 : (Jvm.Cond.code ({ cls := "TollLeader", name := "usesWith", desc := "(III)Z" } : Jvm.MethodName) prog_1_method_53_code (6 : Nat) (Option.some Jvm.ClassFile.FieldType.boolean)) ∈ lw_all := lw_g (lw_at lw_m8 4 rfl) rfl
theorem q1798 : (Jvm.Cond.fieldLinkNest "TollLeader" (357 : Nat) "TollLeader$Trial" "best" "I" "TollLeader") ∈ lw_tbl := lw_at lw_m8 7 rfl
theorem q1800 : (Jvm.Cond.fieldLinkNest "TollLeader" (360 : Nat) "TollLeader$Trial" "most" "J" "TollLeader") ∈ lw_tbl := lw_at lw_m8 9 rfl
theorem q1812 : (Jvm.Cond.instanceMethod ({ cls := "TollLeader", name := "burden", desc := "()J" } : Jvm.MethodName)) ∈ lw_all := lw_g (lw_at lw_m8 21 rfl) rfl
theorem q1813 : (Jvm.Cond.selects "TollLeader" ({ cls := "TollLeader", name := "burden", desc := "()J" } : Jvm.MethodName) ({ cls := "TollLeader", name := "burden", desc := "()J" } : Jvm.MethodName)) ∈ lw_all := lw_g (lw_at lw_m8 22 rfl) rfl
theorem q1814 : (Jvm.Cond.code ({ cls := "TollLeader", name := "burden", desc := "()J" } : Jvm.MethodName) prog_1_method_72_code (6 : Nat) (Option.some Jvm.ClassFile.FieldType.long)) ∈ lw_all := lw_g (lw_at lw_m8 23 rfl) rfl
theorem q1816 : (Jvm.Cond.instanceMethod ({ cls := "TollLeader", name := "dearest", desc := "()I" } : Jvm.MethodName)) ∈ lw_all := lw_g (lw_at lw_m8 25 rfl) rfl
theorem q1817 : (Jvm.Cond.selects "TollLeader" ({ cls := "TollLeader", name := "dearest", desc := "()I" } : Jvm.MethodName) ({ cls := "TollLeader", name := "dearest", desc := "()I" } : Jvm.MethodName)) ∈ lw_all := lw_g (lw_at lw_m8 26 rfl) rfl
theorem q1818 : (Jvm.Cond.code ({ cls := "TollLeader", name := "dearest", desc := "()I" } : Jvm.MethodName) prog_1_method_73_code (11 : Nat) (Option.some Jvm.ClassFile.FieldType.int)) ∈ lw_all := lw_g (lw_at lw_m8 27 rfl) rfl
theorem q1820 : (Jvm.Cond.instanceMethod ({ cls := "TollLeader", name := "improvable", desc := "()I" } : Jvm.MethodName)) ∈ lw_all := lw_g (lw_at lw_m8 29 rfl) rfl
theorem q1821 : (Jvm.Cond.selects "TollLeader" ({ cls := "TollLeader", name := "improvable", desc := "()I" } : Jvm.MethodName) ({ cls := "TollLeader", name := "improvable", desc := "()I" } : Jvm.MethodName)) ∈ lw_all := lw_g (lw_at lw_m8 30 rfl) rfl
theorem q1822 : (Jvm.Cond.code ({ cls := "TollLeader", name := "improvable", desc := "()I" } : Jvm.MethodName) prog_1_method_76_code (6 : Nat) (Option.some Jvm.ClassFile.FieldType.int)) ∈ lw_all := lw_g (lw_at lw_m8 31 rfl) rfl
theorem q1824 : (Jvm.Cond.instanceMethod ({ cls := "TollLeader", name := "writeTolls", desc := "()I" } : Jvm.MethodName)) ∈ lw_all := lw_g (lw_at lw_m8 33 rfl) rfl
theorem q1825 : (Jvm.Cond.selects "TollLeader" ({ cls := "TollLeader", name := "writeTolls", desc := "()I" } : Jvm.MethodName) ({ cls := "TollLeader", name := "writeTolls", desc := "()I" } : Jvm.MethodName)) ∈ lw_all := lw_g (lw_at lw_m8 34 rfl) rfl
theorem q1826 : (Jvm.Cond.code ({ cls := "TollLeader", name := "writeTolls", desc := "()I" } : Jvm.MethodName) prog_1_method_79_code (3 : Nat) (Option.some Jvm.ClassFile.FieldType.int)) ∈ lw_all := lw_g (lw_at lw_m8 35 rfl) rfl
theorem q1827 : (Jvm.Cond.methodLink "TollLeader" (401 : Nat) ({ cls := "java/lang/StringBuilder", name := "setLength", desc := "(I)V" } : Jvm.MethodName)) ∈ lw_all := lw_g (lw_at lw_m8 36 rfl) rfl
theorem q1892 : (Jvm.Cond.methodLink "TollLeader" (191 : Nat) ({ cls := "TollLeader$State", name := "toll", desc := "(LTollLeader$Arc;)I" } : Jvm.MethodName)) ∈ lw_all := lw_g (lw_at lw_m8 101 rfl) rfl
theorem q1893 : (Jvm.Cond.methodLink "TollLeader" (410 : Nat) ({ cls := "java/lang/StringBuilder", name := "length", desc := "()I" } : Jvm.MethodName)) ∈ lw_all := lw_g (lw_at lw_m8 102 rfl) rfl
theorem q1894 : (Jvm.Cond.methodLink "TollLeader" (419 : Nat) ({ cls := "java/lang/StringBuilder", name := "append", desc := "(C)Ljava/lang/StringBuilder;" } : Jvm.MethodName)) ∈ lw_all := lw_g (lw_at lw_m8 103 rfl) rfl
theorem q1895 : (Jvm.Cond.methodLink "TollLeader" (415 : Nat) ({ cls := "java/lang/StringBuilder", name := "append", desc := "(I)Ljava/lang/StringBuilder;" } : Jvm.MethodName)) ∈ lw_all := lw_g (lw_at lw_m8 104 rfl) rfl
theorem q1897 : (Jvm.Cond.instanceMethod ({ cls := "TollLeader", name := "outputByte", desc := "(I)I" } : Jvm.MethodName)) ∈ lw_all := lw_g (lw_at lw_m8 106 rfl) rfl
theorem q1898 : (Jvm.Cond.selects "TollLeader" ({ cls := "TollLeader", name := "outputByte", desc := "(I)I" } : Jvm.MethodName) ({ cls := "TollLeader", name := "outputByte", desc := "(I)I" } : Jvm.MethodName)) ∈ lw_all := lw_g (lw_at lw_m8 107 rfl) rfl
theorem q1899 : (Jvm.Cond.code ({ cls := "TollLeader", name := "outputByte", desc := "(I)I" } : Jvm.MethodName) prog_1_method_80_code (2 : Nat) (Option.some Jvm.ClassFile.FieldType.int)) ∈ lw_all := lw_g (lw_at lw_m8 108 rfl) rfl
theorem q1900 : (Jvm.Cond.methodLink "TollLeader" (121 : Nat) ({ cls := "TollLeader", name := "inRange", desc := "(JJJ)Z" } : Jvm.MethodName)) ∈ lw_all := lw_g (lw_at lw_m8 109 rfl) rfl
theorem q1901 : (Jvm.Cond.methodLink "TollLeader" (422 : Nat) ({ cls := "java/lang/StringBuilder", name := "charAt", desc := "(I)C" } : Jvm.MethodName)) ∈ lw_all := lw_g (lw_at lw_m8 110 rfl) rfl
theorem q1916 : (Jvm.Cond.instanceMethod ({ cls := "TollLeader", name := "count", desc := "(I)I" } : Jvm.MethodName)) ∈ lw_all := lw_g (lw_at lw_m8 125 rfl) rfl
theorem q1917 : (Jvm.Cond.selects "TollLeader" ({ cls := "TollLeader", name := "count", desc := "(I)I" } : Jvm.MethodName) ({ cls := "TollLeader", name := "count", desc := "(I)I" } : Jvm.MethodName)) ∈ lw_all := lw_g (lw_at lw_m8 126 rfl) rfl
theorem q1918 : (Jvm.Cond.code ({ cls := "TollLeader", name := "count", desc := "(I)I" } : Jvm.MethodName) prog_1_method_15_code (2 : Nat) (Option.some Jvm.ClassFile.FieldType.int)) ∈ lw_all := lw_g (lw_at lw_m8 127 rfl) rfl
theorem q1919 : (Jvm.Cond.methodLink "TollLeader" (166 : Nat) ({ cls := "TollLeader", name := "tollable", desc := "()I" } : Jvm.MethodName)) ∈ lw_all := lw_g (lw_at lw_m8 128 rfl) rfl
theorem q1920 : (Jvm.Cond.privateMethod ({ cls := "TollLeader", name := "tollable", desc := "()I" } : Jvm.MethodName)) ∈ lw_tbl := lw_at lw_m8 129 rfl
theorem q1921 : (Jvm.Cond.instanceMethod ({ cls := "TollLeader", name := "tollable", desc := "()I" } : Jvm.MethodName)) ∈ lw_all := lw_g (lw_at lw_m8 130 rfl) rfl
theorem q1922 : (Jvm.Cond.code ({ cls := "TollLeader", name := "tollable", desc := "()I" } : Jvm.MethodName) prog_1_method_14_code (4 : Nat) (Option.some Jvm.ClassFile.FieldType.int)) ∈ lw_all := lw_g (lw_at lw_m8 131 rfl) rfl
theorem q1923 : (Jvm.Cond.methodLink "TollLeader" (173 : Nat) ({ cls := "java/util/BitSet", name := "cardinality", desc := "()I" } : Jvm.MethodName)) ∈ lw_all := lw_g (lw_at lw_m8 132 rfl) rfl
theorem q1933 : (Jvm.Cond.classLink "TollLeader" (61 : Nat) "java/lang/IllegalArgumentException") ∈ lw_all := lw_g (lw_at lw_m8 142 rfl) rfl
theorem q1934 : (Jvm.Cond.methodLink "TollLeader" (63 : Nat) ({ cls := "java/lang/IllegalArgumentException", name := "<init>", desc := "()V" } : Jvm.MethodName)) ∈ lw_all := lw_g (lw_at lw_m8 143 rfl) rfl
theorem q1945 : (Jvm.Cond.instanceMethod ({ cls := "TollLeader", name := "arcValue", desc := "(II)I" } : Jvm.MethodName)) ∈ lw_all := lw_g (lw_at lw_m8 154 rfl) rfl
theorem q1946 : (Jvm.Cond.selects "TollLeader" ({ cls := "TollLeader", name := "arcValue", desc := "(II)I" } : Jvm.MethodName) ({ cls := "TollLeader", name := "arcValue", desc := "(II)I" } : Jvm.MethodName)) ∈ lw_all := lw_g (lw_at lw_m8 155 rfl) rfl
theorem q1947 : (Jvm.Cond.code ({ cls := "TollLeader", name := "arcValue", desc := "(II)I" } : Jvm.MethodName) prog_1_method_16_code (4 : Nat) (Option.some Jvm.ClassFile.FieldType.int)) ∈ lw_all := lw_g (lw_at lw_m8 156 rfl) rfl
theorem q1948 : (Jvm.Cond.methodLink "TollLeader" (178 : Nat) ({ cls := "TollLeader", name := "arcAt", desc := "(I)LTollLeader$Arc;" } : Jvm.MethodName)) ∈ lw_all := lw_g (lw_at lw_m8 157 rfl) rfl
theorem q1949 : (Jvm.Cond.privateMethod ({ cls := "TollLeader", name := "arcAt", desc := "(I)LTollLeader$Arc;" } : Jvm.MethodName)) ∈ lw_tbl := lw_at lw_m8 158 rfl
theorem q1950 : (Jvm.Cond.instanceMethod ({ cls := "TollLeader", name := "arcAt", desc := "(I)LTollLeader$Arc;" } : Jvm.MethodName)) ∈ lw_all := lw_g (lw_at lw_m8 159 rfl) rfl
theorem q1951 : (Jvm.Cond.code ({ cls := "TollLeader", name := "arcAt", desc := "(I)LTollLeader$Arc;" } : Jvm.MethodName) prog_1_method_12_code (2 : Nat) (Option.some (Jvm.ClassFile.FieldType.object "TollLeader$Arc"))) ∈ lw_all := lw_g (lw_at lw_m8 160 rfl) rfl
theorem q1952 : (Jvm.Cond.methodLink "TollLeader" (128 : Nat) ({ cls := "TollLeader", name := "isArc", desc := "(I)Z" } : Jvm.MethodName)) ∈ lw_all := lw_g (lw_at lw_m8 161 rfl) rfl
theorem q1953 : (Jvm.Cond.privateMethod ({ cls := "TollLeader", name := "isArc", desc := "(I)Z" } : Jvm.MethodName)) ∈ lw_tbl := lw_at lw_m8 162 rfl
theorem q1954 : (Jvm.Cond.instanceMethod ({ cls := "TollLeader", name := "isArc", desc := "(I)Z" } : Jvm.MethodName)) ∈ lw_all := lw_g (lw_at lw_m8 163 rfl) rfl
theorem q1955 : (Jvm.Cond.code ({ cls := "TollLeader", name := "isArc", desc := "(I)Z" } : Jvm.MethodName) prog_1_method_10_code (2 : Nat) (Option.some Jvm.ClassFile.FieldType.boolean)) ∈ lw_all := lw_g (lw_at lw_m8 164 rfl) rfl
theorem q1956 : (Jvm.Cond.methodLink "TollLeader" (132 : Nat) ({ cls := "TollLeader", name := "requireIndex", desc := "(Z)V" } : Jvm.MethodName)) ∈ lw_all := lw_g (lw_at lw_m8 165 rfl) rfl
theorem q1957 : (Jvm.Cond.static ({ cls := "TollLeader", name := "requireIndex", desc := "(Z)V" } : Jvm.MethodName)) ∈ lw_all := lw_g (lw_at lw_m8 166 rfl) rfl
theorem q1958 : (Jvm.Cond.code ({ cls := "TollLeader", name := "requireIndex", desc := "(Z)V" } : Jvm.MethodName) prog_1_method_3_code (1 : Nat) (Option.none : Option Jvm.ClassFile.FieldType)) ∈ lw_all := lw_g (lw_at lw_m8 167 rfl) rfl
theorem q1959 : (Jvm.Cond.classLink "TollLeader" (58 : Nat) "java/lang/IndexOutOfBoundsException") ∈ lw_all := lw_g (lw_at lw_m8 168 rfl) rfl
theorem q1960 : (Jvm.Cond.methodLink "TollLeader" (60 : Nat) ({ cls := "java/lang/IndexOutOfBoundsException", name := "<init>", desc := "()V" } : Jvm.MethodName)) ∈ lw_all := lw_g (lw_at lw_m8 169 rfl) rfl
theorem q1964 : (Jvm.Cond.methodLink "TollLeader" (182 : Nat) ({ cls := "TollLeader$Arc", name := "from", desc := "()I" } : Jvm.MethodName)) ∈ lw_all := lw_g (lw_at lw_m8 173 rfl) rfl
theorem q1965 : (Jvm.Cond.methodLink "TollLeader" (185 : Nat) ({ cls := "TollLeader$Arc", name := "to", desc := "()I" } : Jvm.MethodName)) ∈ lw_all := lw_g (lw_at lw_m8 174 rfl) rfl
theorem q1966 : (Jvm.Cond.methodLink "TollLeader" (188 : Nat) ({ cls := "TollLeader$Arc", name := "cost", desc := "()I" } : Jvm.MethodName)) ∈ lw_all := lw_g (lw_at lw_m8 175 rfl) rfl
theorem q1967 : (Jvm.Cond.methodLink "TollLeader" (195 : Nat) ({ cls := "TollLeader$State", name := "isOpen", desc := "(LTollLeader$Arc;)Z" } : Jvm.MethodName)) ∈ lw_all := lw_g (lw_at lw_m8 176 rfl) rfl
theorem q1972 : (Jvm.Cond.instanceMethod ({ cls := "TollLeader", name := "tripValue", desc := "(II)I" } : Jvm.MethodName)) ∈ lw_all := lw_g (lw_at lw_m8 181 rfl) rfl
theorem q1973 : (Jvm.Cond.selects "TollLeader" ({ cls := "TollLeader", name := "tripValue", desc := "(II)I" } : Jvm.MethodName) ({ cls := "TollLeader", name := "tripValue", desc := "(II)I" } : Jvm.MethodName)) ∈ lw_all := lw_g (lw_at lw_m8 182 rfl) rfl
theorem q1974 : (Jvm.Cond.code ({ cls := "TollLeader", name := "tripValue", desc := "(II)I" } : Jvm.MethodName) prog_1_method_17_code (4 : Nat) (Option.some Jvm.ClassFile.FieldType.int)) ∈ lw_all := lw_g (lw_at lw_m8 183 rfl) rfl
theorem q1975 : (Jvm.Cond.methodLink "TollLeader" (199 : Nat) ({ cls := "TollLeader", name := "tripAt", desc := "(I)LTollLeader$Trip;" } : Jvm.MethodName)) ∈ lw_all := lw_g (lw_at lw_m8 184 rfl) rfl
theorem q1976 : (Jvm.Cond.privateMethod ({ cls := "TollLeader", name := "tripAt", desc := "(I)LTollLeader$Trip;" } : Jvm.MethodName)) ∈ lw_tbl := lw_at lw_m8 185 rfl
theorem q1977 : (Jvm.Cond.instanceMethod ({ cls := "TollLeader", name := "tripAt", desc := "(I)LTollLeader$Trip;" } : Jvm.MethodName)) ∈ lw_all := lw_g (lw_at lw_m8 186 rfl) rfl
theorem q1978 : (Jvm.Cond.code ({ cls := "TollLeader", name := "tripAt", desc := "(I)LTollLeader$Trip;" } : Jvm.MethodName) prog_1_method_13_code (2 : Nat) (Option.some (Jvm.ClassFile.FieldType.object "TollLeader$Trip"))) ∈ lw_all := lw_g (lw_at lw_m8 187 rfl) rfl
theorem q1979 : (Jvm.Cond.methodLink "TollLeader" (142 : Nat) ({ cls := "TollLeader", name := "isTrip", desc := "(I)Z" } : Jvm.MethodName)) ∈ lw_all := lw_g (lw_at lw_m8 188 rfl) rfl
theorem q1980 : (Jvm.Cond.privateMethod ({ cls := "TollLeader", name := "isTrip", desc := "(I)Z" } : Jvm.MethodName)) ∈ lw_tbl := lw_at lw_m8 189 rfl
theorem q1981 : (Jvm.Cond.instanceMethod ({ cls := "TollLeader", name := "isTrip", desc := "(I)Z" } : Jvm.MethodName)) ∈ lw_all := lw_g (lw_at lw_m8 190 rfl) rfl
theorem q1982 : (Jvm.Cond.code ({ cls := "TollLeader", name := "isTrip", desc := "(I)Z" } : Jvm.MethodName) prog_1_method_11_code (2 : Nat) (Option.some Jvm.ClassFile.FieldType.boolean)) ∈ lw_all := lw_g (lw_at lw_m8 191 rfl) rfl
theorem q1983 : (Jvm.Cond.methodLink "TollLeader" (203 : Nat) ({ cls := "TollLeader$Trip", name := "from", desc := "()I" } : Jvm.MethodName)) ∈ lw_all := lw_g (lw_at lw_m8 192 rfl) rfl
theorem q1984 : (Jvm.Cond.methodLink "TollLeader" (204 : Nat) ({ cls := "TollLeader$Trip", name := "to", desc := "()I" } : Jvm.MethodName)) ∈ lw_all := lw_g (lw_at lw_m8 193 rfl) rfl
theorem q1985 : (Jvm.Cond.methodLink "TollLeader" (209 : Nat) ({ cls := "TollLeader$Trip", name := "value", desc := "()I" } : Jvm.MethodName)) ∈ lw_all := lw_g (lw_at lw_m8 194 rfl) rfl
theorem q1990 : (Jvm.Cond.instanceMethod ({ cls := "TollLeader", name := "setToll", desc := "(II)I" } : Jvm.MethodName)) ∈ lw_all := lw_g (lw_at lw_m8 199 rfl) rfl
theorem q1991 : (Jvm.Cond.selects "TollLeader" ({ cls := "TollLeader", name := "setToll", desc := "(II)I" } : Jvm.MethodName) ({ cls := "TollLeader", name := "setToll", desc := "(II)I" } : Jvm.MethodName)) ∈ lw_all := lw_g (lw_at lw_m8 200 rfl) rfl
theorem q1992 : (Jvm.Cond.code ({ cls := "TollLeader", name := "setToll", desc := "(II)I" } : Jvm.MethodName) prog_1_method_18_code (4 : Nat) (Option.some Jvm.ClassFile.FieldType.int)) ∈ lw_all := lw_g (lw_at lw_m8 201 rfl) rfl
theorem q1993 : (Jvm.Cond.methodLink "TollLeader" (212 : Nat) ({ cls := "TollLeader", name := "requireArgument", desc := "(Z)V" } : Jvm.MethodName)) ∈ lw_all := lw_g (lw_at lw_m8 202 rfl) rfl
theorem q1994 : (Jvm.Cond.static ({ cls := "TollLeader", name := "requireArgument", desc := "(Z)V" } : Jvm.MethodName)) ∈ lw_all := lw_g (lw_at lw_m8 203 rfl) rfl
theorem q1995 : (Jvm.Cond.code ({ cls := "TollLeader", name := "requireArgument", desc := "(Z)V" } : Jvm.MethodName) prog_1_method_4_code (1 : Nat) (Option.none : Option Jvm.ClassFile.FieldType)) ∈ lw_all := lw_g (lw_at lw_m8 204 rfl) rfl
theorem q2000 : (Jvm.Cond.instanceMethod ({ cls := "TollLeader", name := "addTolls", desc := "(I)I" } : Jvm.MethodName)) ∈ lw_all := lw_g (lw_at lw_m8 209 rfl) rfl
theorem q2001 : (Jvm.Cond.selects "TollLeader" ({ cls := "TollLeader", name := "addTolls", desc := "(I)I" } : Jvm.MethodName) ({ cls := "TollLeader", name := "addTolls", desc := "(I)I" } : Jvm.MethodName)) ∈ lw_all := lw_g (lw_at lw_m8 210 rfl) rfl
theorem q2002 : (Jvm.Cond.code ({ cls := "TollLeader", name := "addTolls", desc := "(I)I" } : Jvm.MethodName) prog_1_method_19_code (6 : Nat) (Option.some Jvm.ClassFile.FieldType.int)) ∈ lw_all := lw_g (lw_at lw_m8 211 rfl) rfl
theorem q2003 : (Jvm.Cond.constantLong "TollLeader" (221 : Nat) (-9999 : Int64)) ∈ lw_all := lw_g (lw_at lw_m8 212 rfl) rfl
theorem q2004 : (Jvm.Cond.constantLong "TollLeader" (223 : Nat) (9999 : Int64)) ∈ lw_all := lw_g (lw_at lw_m8 213 rfl) rfl
theorem q2005 : (Jvm.Cond.methodLink "TollLeader" (228 : Nat) ({ cls := "java/lang/Math", name := "min", desc := "(II)I" } : Jvm.MethodName)) ∈ lw_all := lw_g (lw_at lw_m8 214 rfl) rfl
theorem q2010 : (Jvm.Cond.instanceMethod ({ cls := "TollLeader", name := "setDemand", desc := "(II)I" } : Jvm.MethodName)) ∈ lw_all := lw_g (lw_at lw_m8 219 rfl) rfl
theorem q2011 : (Jvm.Cond.selects "TollLeader" ({ cls := "TollLeader", name := "setDemand", desc := "(II)I" } : Jvm.MethodName) ({ cls := "TollLeader", name := "setDemand", desc := "(II)I" } : Jvm.MethodName)) ∈ lw_all := lw_g (lw_at lw_m8 220 rfl) rfl
theorem q2012 : (Jvm.Cond.code ({ cls := "TollLeader", name := "setDemand", desc := "(II)I" } : Jvm.MethodName) prog_1_method_21_code (4 : Nat) (Option.some Jvm.ClassFile.FieldType.int)) ∈ lw_all := lw_g (lw_at lw_m8 221 rfl) rfl
theorem q2013 : (Jvm.Cond.constantLong "TollLeader" (237 : Nat) (999 : Int64)) ∈ lw_all := lw_g (lw_at lw_m8 222 rfl) rfl
theorem q2018 : (Jvm.Cond.instanceMethod ({ cls := "TollLeader", name := "close", desc := "(IZ)Z" } : Jvm.MethodName)) ∈ lw_all := lw_g (lw_at lw_m8 227 rfl) rfl
theorem q2019 : (Jvm.Cond.selects "TollLeader" ({ cls := "TollLeader", name := "close", desc := "(IZ)Z" } : Jvm.MethodName) ({ cls := "TollLeader", name := "close", desc := "(IZ)Z" } : Jvm.MethodName)) ∈ lw_all := lw_g (lw_at lw_m8 228 rfl) rfl
theorem q2020 : (Jvm.Cond.code ({ cls := "TollLeader", name := "close", desc := "(IZ)Z" } : Jvm.MethodName) prog_1_method_22_code (4 : Nat) (Option.some Jvm.ClassFile.FieldType.boolean)) ∈ lw_all := lw_g (lw_at lw_m8 229 rfl) rfl
theorem q2021 : (Jvm.Cond.methodLink "TollLeader" (239 : Nat) ({ cls := "java/util/BitSet", name := "get", desc := "(I)Z" } : Jvm.MethodName)) ∈ lw_all := lw_g (lw_at lw_m8 230 rfl) rfl
theorem q2022 : (Jvm.Cond.methodLink "TollLeader" (241 : Nat) ({ cls := "java/util/BitSet", name := "set", desc := "(IZ)V" } : Jvm.MethodName)) ∈ lw_all := lw_g (lw_at lw_m8 231 rfl) rfl
theorem q2035 : (Jvm.Cond.instanceMethod ({ cls := "TollLeader", name := "hasPath", desc := "(I)Z" } : Jvm.MethodName)) ∈ lw_all := lw_g (lw_at lw_m9 4 rfl) rfl
theorem q2036 : (Jvm.Cond.selects "TollLeader" ({ cls := "TollLeader", name := "hasPath", desc := "(I)Z" } : Jvm.MethodName) ({ cls := "TollLeader", name := "hasPath", desc := "(I)Z" } : Jvm.MethodName)) ∈ lw_all := lw_g (lw_at lw_m9 5 rfl) rfl
theorem q2037 : (Jvm.Cond.code ({ cls := "TollLeader", name := "hasPath", desc := "(I)Z" } : Jvm.MethodName) prog_1_method_28_code (2 : Nat) (Option.some Jvm.ClassFile.FieldType.boolean)) ∈ lw_all := lw_g (lw_at lw_m9 6 rfl) rfl
theorem q2042 : (Jvm.Cond.instanceMethod ({ cls := "TollLeader", name := "pathLength", desc := "(I)I" } : Jvm.MethodName)) ∈ lw_all := lw_g (lw_at lw_m9 11 rfl) rfl
theorem q2043 : (Jvm.Cond.selects "TollLeader" ({ cls := "TollLeader", name := "pathLength", desc := "(I)I" } : Jvm.MethodName) ({ cls := "TollLeader", name := "pathLength", desc := "(I)I" } : Jvm.MethodName)) ∈ lw_all := lw_g (lw_at lw_m9 12 rfl) rfl
theorem q2044 : (Jvm.Cond.code ({ cls := "TollLeader", name := "pathLength", desc := "(I)I" } : Jvm.MethodName) prog_1_method_29_code (3 : Nat) (Option.some Jvm.ClassFile.FieldType.int)) ∈ lw_all := lw_g (lw_at lw_m9 13 rfl) rfl
theorem q2045 : (Jvm.Cond.methodLink "TollLeader" (269 : Nat) ({ cls := "TollLeader", name := "pathOf", desc := "(I)Ljava/util/LinkedList;" } : Jvm.MethodName)) ∈ lw_all := lw_g (lw_at lw_m9 14 rfl) rfl
theorem q2046 : (Jvm.Cond.privateMethod ({ cls := "TollLeader", name := "pathOf", desc := "(I)Ljava/util/LinkedList;" } : Jvm.MethodName)) ∈ lw_tbl := lw_at lw_m9 15 rfl
theorem q2047 : (Jvm.Cond.instanceMethod ({ cls := "TollLeader", name := "pathOf", desc := "(I)Ljava/util/LinkedList;" } : Jvm.MethodName)) ∈ lw_all := lw_g (lw_at lw_m9 16 rfl) rfl
theorem q2048 : (Jvm.Cond.code ({ cls := "TollLeader", name := "pathOf", desc := "(I)Ljava/util/LinkedList;" } : Jvm.MethodName) prog_1_method_27_code (4 : Nat) (Option.some (Jvm.ClassFile.FieldType.object "java/util/LinkedList"))) ∈ lw_all := lw_g (lw_at lw_m9 17 rfl) rfl
theorem q2049 : (Jvm.Cond.classLink "TollLeader" (259 : Nat) "java/util/LinkedList") ∈ lw_all := lw_g (lw_at lw_m9 18 rfl) rfl
theorem q2050 : (Jvm.Cond.methodLink "TollLeader" (261 : Nat) ({ cls := "java/util/LinkedList", name := "<init>", desc := "()V" } : Jvm.MethodName)) ∈ lw_all := lw_g (lw_at lw_m9 19 rfl) rfl
theorem q2069 : (Jvm.Cond.methodLink "TollLeader" (266 : Nat) ({ cls := "java/util/LinkedList", name := "addFirst", desc := "(Ljava/lang/Object;)V" } : Jvm.MethodName)) ∈ lw_all := lw_g (lw_at lw_m9 38 rfl) rfl
theorem q2077 : (Jvm.Cond.methodLink "TollLeader" (273 : Nat) ({ cls := "java/util/LinkedList", name := "size", desc := "()I" } : Jvm.MethodName)) ∈ lw_all := lw_g (lw_at lw_m9 46 rfl) rfl
theorem q2082 : (Jvm.Cond.instanceMethod ({ cls := "TollLeader", name := "pathArc", desc := "(II)I" } : Jvm.MethodName)) ∈ lw_all := lw_g (lw_at lw_m9 51 rfl) rfl
theorem q2083 : (Jvm.Cond.selects "TollLeader" ({ cls := "TollLeader", name := "pathArc", desc := "(II)I" } : Jvm.MethodName) ({ cls := "TollLeader", name := "pathArc", desc := "(II)I" } : Jvm.MethodName)) ∈ lw_all := lw_g (lw_at lw_m9 52 rfl) rfl
theorem q2084 : (Jvm.Cond.code ({ cls := "TollLeader", name := "pathArc", desc := "(II)I" } : Jvm.MethodName) prog_1_method_30_code (4 : Nat) (Option.some Jvm.ClassFile.FieldType.int)) ∈ lw_all := lw_g (lw_at lw_m9 53 rfl) rfl
theorem q2085 : (Jvm.Cond.methodLink "TollLeader" (274 : Nat) ({ cls := "java/util/LinkedList", name := "get", desc := "(I)Ljava/lang/Object;" } : Jvm.MethodName)) ∈ lw_all := lw_g (lw_at lw_m9 54 rfl) rfl
theorem q2090 : (Jvm.Cond.instanceMethod ({ cls := "TollLeader", name := "pathCost", desc := "(I)I" } : Jvm.MethodName)) ∈ lw_all := lw_g (lw_at lw_m9 59 rfl) rfl
theorem q2091 : (Jvm.Cond.selects "TollLeader" ({ cls := "TollLeader", name := "pathCost", desc := "(I)I" } : Jvm.MethodName) ({ cls := "TollLeader", name := "pathCost", desc := "(I)I" } : Jvm.MethodName)) ∈ lw_all := lw_g (lw_at lw_m9 60 rfl) rfl
theorem q2092 : (Jvm.Cond.code ({ cls := "TollLeader", name := "pathCost", desc := "(I)I" } : Jvm.MethodName) prog_1_method_31_code (2 : Nat) (Option.some Jvm.ClassFile.FieldType.int)) ∈ lw_all := lw_g (lw_at lw_m9 61 rfl) rfl
theorem q2093 : (Jvm.Cond.methodLink "TollLeader" (275 : Nat) ({ cls := "TollLeader$Finder", name := "costs", desc := "(LTollLeader$State;)I" } : Jvm.MethodName)) ∈ lw_all := lw_g (lw_at lw_m9 62 rfl) rfl
theorem q2102 : (Jvm.Cond.instanceMethod ({ cls := "TollLeader", name := "pathToll", desc := "(I)I" } : Jvm.MethodName)) ∈ lw_all := lw_g (lw_at lw_m9 71 rfl) rfl
theorem q2103 : (Jvm.Cond.selects "TollLeader" ({ cls := "TollLeader", name := "pathToll", desc := "(I)I" } : Jvm.MethodName) ({ cls := "TollLeader", name := "pathToll", desc := "(I)I" } : Jvm.MethodName)) ∈ lw_all := lw_g (lw_at lw_m9 72 rfl) rfl
theorem q2104 : (Jvm.Cond.code ({ cls := "TollLeader", name := "pathToll", desc := "(I)I" } : Jvm.MethodName) prog_1_method_32_code (2 : Nat) (Option.some Jvm.ClassFile.FieldType.int)) ∈ lw_all := lw_g (lw_at lw_m9 73 rfl) rfl
theorem q2109 : (Jvm.Cond.instanceMethod ({ cls := "TollLeader", name := "felt", desc := "(I)I" } : Jvm.MethodName)) ∈ lw_all := lw_g (lw_at lw_m9 78 rfl) rfl
theorem q2110 : (Jvm.Cond.selects "TollLeader" ({ cls := "TollLeader", name := "felt", desc := "(I)I" } : Jvm.MethodName) ({ cls := "TollLeader", name := "felt", desc := "(I)I" } : Jvm.MethodName)) ∈ lw_all := lw_g (lw_at lw_m9 79 rfl) rfl
theorem q2111 : (Jvm.Cond.code ({ cls := "TollLeader", name := "felt", desc := "(I)I" } : Jvm.MethodName) prog_1_method_34_code (4 : Nat) (Option.some Jvm.ClassFile.FieldType.int)) ∈ lw_all := lw_g (lw_at lw_m9 80 rfl) rfl
theorem q2116 : (Jvm.Cond.instanceMethod ({ cls := "TollLeader", name := "uses", desc := "(II)Z" } : Jvm.MethodName)) ∈ lw_all := lw_g (lw_at lw_m9 85 rfl) rfl
theorem q2117 : (Jvm.Cond.selects "TollLeader" ({ cls := "TollLeader", name := "uses", desc := "(II)Z" } : Jvm.MethodName) ({ cls := "TollLeader", name := "uses", desc := "(II)Z" } : Jvm.MethodName)) ∈ lw_all := lw_g (lw_at lw_m9 86 rfl) rfl
theorem q2118 : (Jvm.Cond.code ({ cls := "TollLeader", name := "uses", desc := "(II)Z" } : Jvm.MethodName) prog_1_method_36_code (3 : Nat) (Option.some Jvm.ClassFile.FieldType.boolean)) ∈ lw_all := lw_g (lw_at lw_m9 87 rfl) rfl
theorem q2123 : (Jvm.Cond.instanceMethod ({ cls := "TollLeader", name := "users", desc := "(I)I" } : Jvm.MethodName)) ∈ lw_all := lw_g (lw_at lw_m9 92 rfl) rfl
theorem q2124 : (Jvm.Cond.selects "TollLeader" ({ cls := "TollLeader", name := "users", desc := "(I)I" } : Jvm.MethodName) ({ cls := "TollLeader", name := "users", desc := "(I)I" } : Jvm.MethodName)) ∈ lw_all := lw_g (lw_at lw_m9 93 rfl) rfl
theorem q2125 : (Jvm.Cond.code ({ cls := "TollLeader", name := "users", desc := "(I)I" } : Jvm.MethodName) prog_1_method_38_code (2 : Nat) (Option.some Jvm.ClassFile.FieldType.int)) ∈ lw_all := lw_g (lw_at lw_m9 94 rfl) rfl
theorem q2130 : (Jvm.Cond.instanceMethod ({ cls := "TollLeader", name := "flow", desc := "(I)I" } : Jvm.MethodName)) ∈ lw_all := lw_g (lw_at lw_m9 99 rfl) rfl
theorem q2131 : (Jvm.Cond.selects "TollLeader" ({ cls := "TollLeader", name := "flow", desc := "(I)I" } : Jvm.MethodName) ({ cls := "TollLeader", name := "flow", desc := "(I)I" } : Jvm.MethodName)) ∈ lw_all := lw_g (lw_at lw_m9 100 rfl) rfl
theorem q2132 : (Jvm.Cond.code ({ cls := "TollLeader", name := "flow", desc := "(I)I" } : Jvm.MethodName) prog_1_method_40_code (2 : Nat) (Option.some Jvm.ClassFile.FieldType.int)) ∈ lw_all := lw_g (lw_at lw_m9 101 rfl) rfl
theorem q2137 : (Jvm.Cond.instanceMethod ({ cls := "TollLeader", name := "ties", desc := "(I)J" } : Jvm.MethodName)) ∈ lw_all := lw_g (lw_at lw_m9 106 rfl) rfl
theorem q2138 : (Jvm.Cond.selects "TollLeader" ({ cls := "TollLeader", name := "ties", desc := "(I)J" } : Jvm.MethodName) ({ cls := "TollLeader", name := "ties", desc := "(I)J" } : Jvm.MethodName)) ∈ lw_all := lw_g (lw_at lw_m9 107 rfl) rfl
theorem q2139 : (Jvm.Cond.code ({ cls := "TollLeader", name := "ties", desc := "(I)J" } : Jvm.MethodName) prog_1_method_43_code (2 : Nat) (Option.some Jvm.ClassFile.FieldType.long)) ∈ lw_all := lw_g (lw_at lw_m9 108 rfl) rfl
theorem q2140 : (Jvm.Cond.methodLink "TollLeader" (318 : Nat) ({ cls := "TollLeader$Finder", name := "count", desc := "(LTollLeader$State;LTollLeader$Trip;)J" } : Jvm.MethodName)) ∈ lw_all := lw_g (lw_at lw_m9 109 rfl) rfl
theorem q2157 : (Jvm.Cond.instanceMethod ({ cls := "TollLeader", name := "tieSpan", desc := "(I)I" } : Jvm.MethodName)) ∈ lw_all := lw_g (lw_at lw_m9 126 rfl) rfl
theorem q2158 : (Jvm.Cond.selects "TollLeader" ({ cls := "TollLeader", name := "tieSpan", desc := "(I)I" } : Jvm.MethodName) ({ cls := "TollLeader", name := "tieSpan", desc := "(I)I" } : Jvm.MethodName)) ∈ lw_all := lw_g (lw_at lw_m9 127 rfl) rfl
theorem q2159 : (Jvm.Cond.code ({ cls := "TollLeader", name := "tieSpan", desc := "(I)I" } : Jvm.MethodName) prog_1_method_44_code (3 : Nat) (Option.some Jvm.ClassFile.FieldType.int)) ∈ lw_all := lw_g (lw_at lw_m9 128 rfl) rfl
theorem q2160 : (Jvm.Cond.methodLink "TollLeader" (322 : Nat) ({ cls := "TollLeader$Finder", name := "span", desc := "(I)I" } : Jvm.MethodName)) ∈ lw_all := lw_g (lw_at lw_m9 129 rfl) rfl
theorem q2168 : (Jvm.Cond.instanceMethod ({ cls := "TollLeader", name := "revenueOf", desc := "(I)J" } : Jvm.MethodName)) ∈ lw_all := lw_g (lw_at lw_m9 137 rfl) rfl
theorem q2169 : (Jvm.Cond.selects "TollLeader" ({ cls := "TollLeader", name := "revenueOf", desc := "(I)J" } : Jvm.MethodName) ({ cls := "TollLeader", name := "revenueOf", desc := "(I)J" } : Jvm.MethodName)) ∈ lw_all := lw_g (lw_at lw_m9 138 rfl) rfl
theorem q2170 : (Jvm.Cond.code ({ cls := "TollLeader", name := "revenueOf", desc := "(I)J" } : Jvm.MethodName) prog_1_method_48_code (2 : Nat) (Option.some Jvm.ClassFile.FieldType.long)) ∈ lw_all := lw_g (lw_at lw_m9 139 rfl) rfl
theorem q2175 : (Jvm.Cond.instanceMethod ({ cls := "TollLeader", name := "arcRevenue", desc := "(I)J" } : Jvm.MethodName)) ∈ lw_all := lw_g (lw_at lw_m9 144 rfl) rfl
theorem q2176 : (Jvm.Cond.selects "TollLeader" ({ cls := "TollLeader", name := "arcRevenue", desc := "(I)J" } : Jvm.MethodName) ({ cls := "TollLeader", name := "arcRevenue", desc := "(I)J" } : Jvm.MethodName)) ∈ lw_all := lw_g (lw_at lw_m9 145 rfl) rfl
theorem q2177 : (Jvm.Cond.code ({ cls := "TollLeader", name := "arcRevenue", desc := "(I)J" } : Jvm.MethodName) prog_1_method_49_code (2 : Nat) (Option.some Jvm.ClassFile.FieldType.long)) ∈ lw_all := lw_g (lw_at lw_m9 146 rfl) rfl
theorem q2182 : (Jvm.Cond.instanceMethod ({ cls := "TollLeader", name := "pledge", desc := "(I)J" } : Jvm.MethodName)) ∈ lw_all := lw_g (lw_at lw_m9 151 rfl) rfl
theorem q2183 : (Jvm.Cond.selects "TollLeader" ({ cls := "TollLeader", name := "pledge", desc := "(I)J" } : Jvm.MethodName) ({ cls := "TollLeader", name := "pledge", desc := "(I)J" } : Jvm.MethodName)) ∈ lw_all := lw_g (lw_at lw_m9 152 rfl) rfl
theorem q2184 : (Jvm.Cond.code ({ cls := "TollLeader", name := "pledge", desc := "(I)J" } : Jvm.MethodName) prog_1_method_51_code (2 : Nat) (Option.some Jvm.ClassFile.FieldType.long)) ∈ lw_all := lw_g (lw_at lw_m9 153 rfl) rfl
theorem q2189 : (Jvm.Cond.instanceMethod ({ cls := "TollLeader", name := "keepToll", desc := "(II)I" } : Jvm.MethodName)) ∈ lw_all := lw_g (lw_at lw_m9 158 rfl) rfl
theorem q2190 : (Jvm.Cond.selects "TollLeader" ({ cls := "TollLeader", name := "keepToll", desc := "(II)I" } : Jvm.MethodName) ({ cls := "TollLeader", name := "keepToll", desc := "(II)I" } : Jvm.MethodName)) ∈ lw_all := lw_g (lw_at lw_m9 159 rfl) rfl
theorem q2191 : (Jvm.Cond.code ({ cls := "TollLeader", name := "keepToll", desc := "(II)I" } : Jvm.MethodName) prog_1_method_55_code (3 : Nat) (Option.some Jvm.ClassFile.FieldType.int)) ∈ lw_all := lw_g (lw_at lw_m9 160 rfl) rfl
theorem q2192 : (Jvm.Cond.methodLink "TollLeader" (348 : Nat) ({ cls := "TollLeader", name := "kept", desc := "(ILTollLeader$Arc;)I" } : Jvm.MethodName)) ∈ lw_all := lw_g (lw_at lw_m9 161 rfl) rfl
theorem q2197 : (Jvm.Cond.instanceMethod ({ cls := "TollLeader", name := "bestToll", desc := "(I)I" } : Jvm.MethodName)) ∈ lw_all := lw_g (lw_at lw_m9 166 rfl) rfl
theorem q2198 : (Jvm.Cond.selects "TollLeader" ({ cls := "TollLeader", name := "bestToll", desc := "(I)I" } : Jvm.MethodName) ({ cls := "TollLeader", name := "bestToll", desc := "(I)I" } : Jvm.MethodName)) ∈ lw_all := lw_g (lw_at lw_m9 167 rfl) rfl
theorem q2199 : (Jvm.Cond.code ({ cls := "TollLeader", name := "bestToll", desc := "(I)I" } : Jvm.MethodName) prog_1_method_56_code (2 : Nat) (Option.some Jvm.ClassFile.FieldType.int)) ∈ lw_all := lw_g (lw_at lw_m9 168 rfl) rfl
theorem q2204 : (Jvm.Cond.instanceMethod ({ cls := "TollLeader", name := "optimize", desc := "(I)I" } : Jvm.MethodName)) ∈ lw_all := lw_g (lw_at lw_m9 173 rfl) rfl
theorem q2205 : (Jvm.Cond.selects "TollLeader" ({ cls := "TollLeader", name := "optimize", desc := "(I)I" } : Jvm.MethodName) ({ cls := "TollLeader", name := "optimize", desc := "(I)I" } : Jvm.MethodName)) ∈ lw_all := lw_g (lw_at lw_m9 174 rfl) rfl
theorem q2206 : (Jvm.Cond.code ({ cls := "TollLeader", name := "optimize", desc := "(I)I" } : Jvm.MethodName) prog_1_method_59_code (3 : Nat) (Option.some Jvm.ClassFile.FieldType.int)) ∈ lw_all := lw_g (lw_at lw_m9 175 rfl) rfl
theorem q2207 : (Jvm.Cond.constantLong "TollLeader" (366 : Nat) (10 : Int64)) ∈ lw_all := lw_g (lw_at lw_m9 176 rfl) rfl
theorem q2212 : (Jvm.Cond.instanceMethod ({ cls := "TollLeader", name := "bestPair", desc := "(III)I" } : Jvm.MethodName)) ∈ lw_all := lw_g (lw_at lw_m9 181 rfl) rfl
theorem q2213 : (Jvm.Cond.selects "TollLeader" ({ cls := "TollLeader", name := "bestPair", desc := "(III)I" } : Jvm.MethodName) ({ cls := "TollLeader", name := "bestPair", desc := "(III)I" } : Jvm.MethodName)) ∈ lw_all := lw_g (lw_at lw_m9 182 rfl) rfl
theorem q2214 : (Jvm.Cond.code ({ cls := "TollLeader", name := "bestPair", desc := "(III)I" } : Jvm.MethodName) prog_1_method_60_code (13 : Nat) (Option.some Jvm.ClassFile.FieldType.int)) ∈ lw_all := lw_g (lw_at lw_m9 183 rfl) rfl
theorem q2219 : (Jvm.Cond.instanceMethod ({ cls := "TollLeader", name := "detour", desc := "(II)I" } : Jvm.MethodName)) ∈ lw_all := lw_g (lw_at lw_m9 188 rfl) rfl
theorem q2220 : (Jvm.Cond.selects "TollLeader" ({ cls := "TollLeader", name := "detour", desc := "(II)I" } : Jvm.MethodName) ({ cls := "TollLeader", name := "detour", desc := "(II)I" } : Jvm.MethodName)) ∈ lw_all := lw_g (lw_at lw_m9 189 rfl) rfl
theorem q2221 : (Jvm.Cond.code ({ cls := "TollLeader", name := "detour", desc := "(II)I" } : Jvm.MethodName) prog_1_method_62_code (6 : Nat) (Option.some Jvm.ClassFile.FieldType.int)) ∈ lw_all := lw_g (lw_at lw_m9 190 rfl) rfl
theorem q2222 : (Jvm.Cond.methodLink "TollLeader" (370 : Nat) ({ cls := "TollLeader", name := "feltWithout", desc := "(LTollLeader$Trip;I)J" } : Jvm.MethodName)) ∈ lw_all := lw_g (lw_at lw_m9 191 rfl) rfl
theorem q2223 : (Jvm.Cond.privateMethod ({ cls := "TollLeader", name := "feltWithout", desc := "(LTollLeader$Trip;I)J" } : Jvm.MethodName)) ∈ lw_tbl := lw_at lw_m9 192 rfl
theorem q2224 : (Jvm.Cond.instanceMethod ({ cls := "TollLeader", name := "feltWithout", desc := "(LTollLeader$Trip;I)J" } : Jvm.MethodName)) ∈ lw_all := lw_g (lw_at lw_m9 193 rfl) rfl
theorem q2225 : (Jvm.Cond.code ({ cls := "TollLeader", name := "feltWithout", desc := "(LTollLeader$Trip;I)J" } : Jvm.MethodName) prog_1_method_61_code (6 : Nat) (Option.some Jvm.ClassFile.FieldType.long)) ∈ lw_all := lw_g (lw_at lw_m9 194 rfl) rfl
theorem q2226 : (Jvm.Cond.methodLink "TollLeader" (368 : Nat) ({ cls := "java/util/BitSet", name := "set", desc := "(I)V" } : Jvm.MethodName)) ∈ lw_all := lw_g (lw_at lw_m9 195 rfl) rfl
theorem q2231 : (Jvm.Cond.instanceMethod ({ cls := "TollLeader", name := "captives", desc := "(I)I" } : Jvm.MethodName)) ∈ lw_all := lw_g (lw_at lw_m9 200 rfl) rfl
theorem q2232 : (Jvm.Cond.selects "TollLeader" ({ cls := "TollLeader", name := "captives", desc := "(I)I" } : Jvm.MethodName) ({ cls := "TollLeader", name := "captives", desc := "(I)I" } : Jvm.MethodName)) ∈ lw_all := lw_g (lw_at lw_m9 201 rfl) rfl
theorem q2233 : (Jvm.Cond.code ({ cls := "TollLeader", name := "captives", desc := "(I)I" } : Jvm.MethodName) prog_1_method_63_code (5 : Nat) (Option.some Jvm.ClassFile.FieldType.int)) ∈ lw_all := lw_g (lw_at lw_m9 202 rfl) rfl
theorem q2238 : (Jvm.Cond.instanceMethod ({ cls := "TollLeader", name := "reachable", desc := "(I)I" } : Jvm.MethodName)) ∈ lw_all := lw_g (lw_at lw_m9 207 rfl) rfl
theorem q2239 : (Jvm.Cond.selects "TollLeader" ({ cls := "TollLeader", name := "reachable", desc := "(I)I" } : Jvm.MethodName) ({ cls := "TollLeader", name := "reachable", desc := "(I)I" } : Jvm.MethodName)) ∈ lw_all := lw_g (lw_at lw_m9 208 rfl) rfl
theorem q2240 : (Jvm.Cond.code ({ cls := "TollLeader", name := "reachable", desc := "(I)I" } : Jvm.MethodName) prog_1_method_64_code (6 : Nat) (Option.some Jvm.ClassFile.FieldType.int)) ∈ lw_all := lw_g (lw_at lw_m9 209 rfl) rfl
theorem q2241 : (Jvm.Cond.methodLink "TollLeader" (374 : Nat) ({ cls := "TollLeader$Net", name := "from", desc := "(Ljava/util/BitSet;)Ljava/lang/Iterable;" } : Jvm.MethodName)) ∈ lw_all := lw_g (lw_at lw_m9 210 rfl) rfl
theorem q2258 : (Jvm.Cond.interfaceEntry "TollLeader" (377 : Nat)) ∈ lw_tbl := lw_at lw_m9 227 rfl
theorem q2259 : (Jvm.Cond.methodLink "TollLeader" (377 : Nat) ({ cls := "java/lang/Iterable", name := "iterator", desc := "()Ljava/util/Iterator;" } : Jvm.MethodName)) ∈ lw_all := lw_g (lw_at lw_m9 228 rfl) rfl
theorem q2321 : (Jvm.Cond.instanceMethod ({ cls := "TollLeader", name := "judge", desc := "(I)I" } : Jvm.MethodName)) ∈ lw_all := lw_g (lw_at lw_m10 50 rfl) rfl
theorem q2322 : (Jvm.Cond.selects "TollLeader" ({ cls := "TollLeader", name := "judge", desc := "(I)I" } : Jvm.MethodName) ({ cls := "TollLeader", name := "judge", desc := "(I)I" } : Jvm.MethodName)) ∈ lw_all := lw_g (lw_at lw_m10 51 rfl) rfl
theorem q2323 : (Jvm.Cond.code ({ cls := "TollLeader", name := "judge", desc := "(I)I" } : Jvm.MethodName) prog_1_method_66_code (5 : Nat) (Option.some Jvm.ClassFile.FieldType.int)) ∈ lw_all := lw_g (lw_at lw_m10 52 rfl) rfl
theorem q2324 : (Jvm.Cond.methodLink "TollLeader" (388 : Nat) ({ cls := "TollLeader", name := "judged", desc := "(LTollLeader$Trip;)J" } : Jvm.MethodName)) ∈ lw_all := lw_g (lw_at lw_m10 53 rfl) rfl
theorem q2325 : (Jvm.Cond.privateMethod ({ cls := "TollLeader", name := "judged", desc := "(LTollLeader$Trip;)J" } : Jvm.MethodName)) ∈ lw_tbl := lw_at lw_m10 54 rfl
theorem q2326 : (Jvm.Cond.instanceMethod ({ cls := "TollLeader", name := "judged", desc := "(LTollLeader$Trip;)J" } : Jvm.MethodName)) ∈ lw_all := lw_g (lw_at lw_m10 55 rfl) rfl
theorem q2327 : (Jvm.Cond.code ({ cls := "TollLeader", name := "judged", desc := "(LTollLeader$Trip;)J" } : Jvm.MethodName) prog_1_method_65_code (8 : Nat) (Option.some Jvm.ClassFile.FieldType.long)) ∈ lw_all := lw_g (lw_at lw_m10 56 rfl) rfl
theorem q2328 : (Jvm.Cond.constantLong "TollLeader" (380 : Nat) (-4 : Int64)) ∈ lw_all := lw_g (lw_at lw_m10 57 rfl) rfl
theorem q2329 : (Jvm.Cond.methodLink "TollLeader" (382 : Nat) ({ cls := "TollLeader$Weight", name := "felt", desc := "(LTollLeader$State;LTollLeader$Arc;LTollLeader$Trip;)J" } : Jvm.MethodName)) ∈ lw_all := lw_g (lw_at lw_m10 58 rfl) rfl
theorem q2334 : (Jvm.Cond.instanceMethod ({ cls := "TollLeader", name := "margin", desc := "(I)I" } : Jvm.MethodName)) ∈ lw_all := lw_g (lw_at lw_m10 63 rfl) rfl
theorem q2335 : (Jvm.Cond.selects "TollLeader" ({ cls := "TollLeader", name := "margin", desc := "(I)I" } : Jvm.MethodName) ({ cls := "TollLeader", name := "margin", desc := "(I)I" } : Jvm.MethodName)) ∈ lw_all := lw_g (lw_at lw_m10 64 rfl) rfl
theorem q2336 : (Jvm.Cond.code ({ cls := "TollLeader", name := "margin", desc := "(I)I" } : Jvm.MethodName) prog_1_method_67_code (7 : Nat) (Option.some Jvm.ClassFile.FieldType.int)) ∈ lw_all := lw_g (lw_at lw_m10 65 rfl) rfl
theorem q2337 : (Jvm.Cond.methodLink "TollLeader" (391 : Nat) ({ cls := "java/lang/Math", name := "min", desc := "(JJ)J" } : Jvm.MethodName)) ∈ lw_all := lw_g (lw_at lw_m10 66 rfl) rfl
theorem q2344 : (Jvm.Cond.instanceMethod ({ cls := "TollLeader", name := "revenueWith", desc := "(II)J" } : Jvm.MethodName)) ∈ lw_all := lw_g (lw_at lw_m10 73 rfl) rfl
theorem q2345 : (Jvm.Cond.selects "TollLeader" ({ cls := "TollLeader", name := "revenueWith", desc := "(II)J" } : Jvm.MethodName) ({ cls := "TollLeader", name := "revenueWith", desc := "(II)J" } : Jvm.MethodName)) ∈ lw_all := lw_g (lw_at lw_m10 74 rfl) rfl
theorem q2346 : (Jvm.Cond.code ({ cls := "TollLeader", name := "revenueWith", desc := "(II)J" } : Jvm.MethodName) prog_1_method_68_code (6 : Nat) (Option.some Jvm.ClassFile.FieldType.long)) ∈ lw_all := lw_g (lw_at lw_m10 75 rfl) rfl
theorem q2351 : (Jvm.Cond.instanceMethod ({ cls := "TollLeader", name := "stepCount", desc := "(I)I" } : Jvm.MethodName)) ∈ lw_all := lw_g (lw_at lw_m10 80 rfl) rfl
theorem q2352 : (Jvm.Cond.selects "TollLeader" ({ cls := "TollLeader", name := "stepCount", desc := "(I)I" } : Jvm.MethodName) ({ cls := "TollLeader", name := "stepCount", desc := "(I)I" } : Jvm.MethodName)) ∈ lw_all := lw_g (lw_at lw_m10 81 rfl) rfl
theorem q2353 : (Jvm.Cond.code ({ cls := "TollLeader", name := "stepCount", desc := "(I)I" } : Jvm.MethodName) prog_1_method_69_code (2 : Nat) (Option.some Jvm.ClassFile.FieldType.int)) ∈ lw_all := lw_g (lw_at lw_m10 82 rfl) rfl
theorem q2354 : (Jvm.Cond.methodLink "TollLeader" (394 : Nat) ({ cls := "TollLeader", name := "steps", desc := "(LTollLeader$Arc;)Ljava/util/BitSet;" } : Jvm.MethodName)) ∈ lw_all := lw_g (lw_at lw_m10 83 rfl) rfl
theorem q2355 : (Jvm.Cond.privateMethod ({ cls := "TollLeader", name := "steps", desc := "(LTollLeader$Arc;)Ljava/util/BitSet;" } : Jvm.MethodName)) ∈ lw_tbl := lw_at lw_m10 84 rfl
theorem q2356 : (Jvm.Cond.instanceMethod ({ cls := "TollLeader", name := "steps", desc := "(LTollLeader$Arc;)Ljava/util/BitSet;" } : Jvm.MethodName)) ∈ lw_all := lw_g (lw_at lw_m10 85 rfl) rfl
theorem q2357 : (Jvm.Cond.code ({ cls := "TollLeader", name := "steps", desc := "(LTollLeader$Arc;)Ljava/util/BitSet;" } : Jvm.MethodName) prog_1_method_70_code (5 : Nat) (Option.some (Jvm.ClassFile.FieldType.object "java/util/BitSet"))) ∈ lw_all := lw_g (lw_at lw_m10 86 rfl) rfl
theorem q2358 : (Jvm.Cond.methodLink "TollLeader" (398 : Nat) ({ cls := "java/util/BitSet", name := "<init>", desc := "()V" } : Jvm.MethodName)) ∈ lw_all := lw_g (lw_at lw_m10 87 rfl) rfl
theorem q2365 : (Jvm.Cond.instanceMethod ({ cls := "TollLeader", name := "step", desc := "(II)I" } : Jvm.MethodName)) ∈ lw_all := lw_g (lw_at lw_m10 94 rfl) rfl
theorem q2366 : (Jvm.Cond.selects "TollLeader" ({ cls := "TollLeader", name := "step", desc := "(II)I" } : Jvm.MethodName) ({ cls := "TollLeader", name := "step", desc := "(II)I" } : Jvm.MethodName)) ∈ lw_all := lw_g (lw_at lw_m10 95 rfl) rfl
theorem q2367 : (Jvm.Cond.code ({ cls := "TollLeader", name := "step", desc := "(II)I" } : Jvm.MethodName) prog_1_method_71_code (6 : Nat) (Option.some Jvm.ClassFile.FieldType.int)) ∈ lw_all := lw_g (lw_at lw_m10 96 rfl) rfl
theorem q2372 : (Jvm.Cond.instanceMethod ({ cls := "TollLeader", name := "scaleTolls", desc := "(I)I" } : Jvm.MethodName)) ∈ lw_all := lw_g (lw_at lw_m10 101 rfl) rfl
theorem q2373 : (Jvm.Cond.selects "TollLeader" ({ cls := "TollLeader", name := "scaleTolls", desc := "(I)I" } : Jvm.MethodName) ({ cls := "TollLeader", name := "scaleTolls", desc := "(I)I" } : Jvm.MethodName)) ∈ lw_all := lw_g (lw_at lw_m10 102 rfl) rfl
theorem q2374 : (Jvm.Cond.code ({ cls := "TollLeader", name := "scaleTolls", desc := "(I)I" } : Jvm.MethodName) prog_1_method_74_code (6 : Nat) (Option.some Jvm.ClassFile.FieldType.int)) ∈ lw_all := lw_g (lw_at lw_m10 103 rfl) rfl
theorem q2375 : (Jvm.Cond.constantLong "TollLeader" (399 : Nat) (1000 : Int64)) ∈ lw_all := lw_g (lw_at lw_m10 104 rfl) rfl
theorem q2380 : (Jvm.Cond.instanceMethod ({ cls := "TollLeader", name := "swapTolls", desc := "(II)Z" } : Jvm.MethodName)) ∈ lw_all := lw_g (lw_at lw_m10 109 rfl) rfl
theorem q2381 : (Jvm.Cond.selects "TollLeader" ({ cls := "TollLeader", name := "swapTolls", desc := "(II)Z" } : Jvm.MethodName) ({ cls := "TollLeader", name := "swapTolls", desc := "(II)Z" } : Jvm.MethodName)) ∈ lw_all := lw_g (lw_at lw_m10 110 rfl) rfl
theorem q2382 : (Jvm.Cond.code ({ cls := "TollLeader", name := "swapTolls", desc := "(II)Z" } : Jvm.MethodName) prog_1_method_75_code (5 : Nat) (Option.some Jvm.ClassFile.FieldType.boolean)) ∈ lw_all := lw_g (lw_at lw_m10 111 rfl) rfl
theorem q2387 : (Jvm.Cond.instanceMethod ({ cls := "TollLeader", name := "worth", desc := "(I)J" } : Jvm.MethodName)) ∈ lw_all := lw_g (lw_at lw_m10 116 rfl) rfl
theorem q2388 : (Jvm.Cond.selects "TollLeader" ({ cls := "TollLeader", name := "worth", desc := "(I)J" } : Jvm.MethodName) ({ cls := "TollLeader", name := "worth", desc := "(I)J" } : Jvm.MethodName)) ∈ lw_all := lw_g (lw_at lw_m10 117 rfl) rfl
theorem q2389 : (Jvm.Cond.code ({ cls := "TollLeader", name := "worth", desc := "(I)J" } : Jvm.MethodName) prog_1_method_77_code (7 : Nat) (Option.some Jvm.ClassFile.FieldType.long)) ∈ lw_all := lw_g (lw_at lw_m10 118 rfl) rfl
theorem q2394 : (Jvm.Cond.instanceMethod ({ cls := "TollLeader", name := "writePath", desc := "(I)I" } : Jvm.MethodName)) ∈ lw_all := lw_g (lw_at lw_m10 123 rfl) rfl
theorem q2395 : (Jvm.Cond.selects "TollLeader" ({ cls := "TollLeader", name := "writePath", desc := "(I)I" } : Jvm.MethodName) ({ cls := "TollLeader", name := "writePath", desc := "(I)I" } : Jvm.MethodName)) ∈ lw_all := lw_g (lw_at lw_m10 124 rfl) rfl
theorem q2396 : (Jvm.Cond.code ({ cls := "TollLeader", name := "writePath", desc := "(I)I" } : Jvm.MethodName) prog_1_method_78_code (5 : Nat) (Option.some Jvm.ClassFile.FieldType.int)) ∈ lw_all := lw_g (lw_at lw_m10 125 rfl) rfl
theorem q2397 : (Jvm.Cond.stringRef "TollLeader" (404 : Nat) "none") ∈ lw_tbl := lw_at lw_m10 126 rfl
theorem q2398 : (Jvm.Cond.methodLink "TollLeader" (406 : Nat) ({ cls := "java/lang/StringBuilder", name := "append", desc := "(Ljava/lang/String;)Ljava/lang/StringBuilder;" } : Jvm.MethodName)) ∈ lw_all := lw_g (lw_at lw_m10 127 rfl) rfl
theorem q2399 : (Jvm.Cond.methodLink "TollLeader" (412 : Nat) ({ cls := "java/util/LinkedList", name := "getFirst", desc := "()Ljava/lang/Object;" } : Jvm.MethodName)) ∈ lw_all := lw_g (lw_at lw_m10 128 rfl) rfl
theorem q2403 : (Jvm.Cond.methodLink "TollLeader" (418 : Nat) ({ cls := "java/util/LinkedList", name := "iterator", desc := "()Ljava/util/Iterator;" } : Jvm.MethodName)) ∈ lw_all := lw_g (lw_at lw_m10 132 rfl) rfl
theorem q2411 : (Jvm.Cond.instanceMethod ({ cls := "TollLeader", name := "saveSnapshot", desc := "(I)I" } : Jvm.MethodName)) ∈ lw_all := lw_g (lw_at lw_m10 140 rfl) rfl
theorem q2412 : (Jvm.Cond.selects "TollLeader" ({ cls := "TollLeader", name := "saveSnapshot", desc := "(I)I" } : Jvm.MethodName) ({ cls := "TollLeader", name := "saveSnapshot", desc := "(I)I" } : Jvm.MethodName)) ∈ lw_all := lw_g (lw_at lw_m10 141 rfl) rfl
theorem q2413 : (Jvm.Cond.code ({ cls := "TollLeader", name := "saveSnapshot", desc := "(I)I" } : Jvm.MethodName) prog_1_method_82_code (2 : Nat) (Option.some Jvm.ClassFile.FieldType.int)) ∈ lw_all := lw_g (lw_at lw_m10 142 rfl) rfl
theorem q2414 : (Jvm.Cond.methodLink "TollLeader" (426 : Nat) ({ cls := "TollLeader", name := "requireSlot", desc := "(I)V" } : Jvm.MethodName)) ∈ lw_all := lw_g (lw_at lw_m10 143 rfl) rfl
theorem q2415 : (Jvm.Cond.static ({ cls := "TollLeader", name := "requireSlot", desc := "(I)V" } : Jvm.MethodName)) ∈ lw_all := lw_g (lw_at lw_m10 144 rfl) rfl
theorem q2416 : (Jvm.Cond.code ({ cls := "TollLeader", name := "requireSlot", desc := "(I)V" } : Jvm.MethodName) prog_1_method_81_code (1 : Nat) (Option.none : Option Jvm.ClassFile.FieldType)) ∈ lw_all := lw_g (lw_at lw_m10 145 rfl) rfl
theorem q2421 : (Jvm.Cond.instanceMethod ({ cls := "TollLeader", name := "restoreSnapshot", desc := "(I)I" } : Jvm.MethodName)) ∈ lw_all := lw_g (lw_at lw_m10 150 rfl) rfl
theorem q2422 : (Jvm.Cond.selects "TollLeader" ({ cls := "TollLeader", name := "restoreSnapshot", desc := "(I)I" } : Jvm.MethodName) ({ cls := "TollLeader", name := "restoreSnapshot", desc := "(I)I" } : Jvm.MethodName)) ∈ lw_all := lw_g (lw_at lw_m10 151 rfl) rfl
theorem q2423 : (Jvm.Cond.code ({ cls := "TollLeader", name := "restoreSnapshot", desc := "(I)I" } : Jvm.MethodName) prog_1_method_83_code (2 : Nat) (Option.some Jvm.ClassFile.FieldType.int)) ∈ lw_all := lw_g (lw_at lw_m10 152 rfl) rfl
theorem q3057 : (Jvm.Cond.castable "TollLeader" "java/lang/Object") ∈ lw_tbl := lw_at lw_m13 66 rfl
theorem in_X1 : ∀ w ∈ wsX10, w ∈ lw_all := lw_in wsX10 [674, 676, 678, 680, 682, 684, 686, 688, 690] (by decide +kernel) (by decide +kernel)

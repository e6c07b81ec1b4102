/-! TollLeader$State -/
set_option maxRecDepth 100000
def RX2 : String := "TollLeader$State"
def TX2 : u_T := fun k => match k with
  | 0 => ("TollLeader$State", "net", "LTollLeader$Net;", true)
  | 1 => ("TollLeader$State", "tolls", "[I", true)
  | 2 => ("TollLeader$State", "demands", "[I", true)
  | 3 => ("TollLeader$State", "closed", "Ljava/util/BitSet;", true)
  | _ => ("TollLeader$State", "isFor", "Z", false)
def tyX2 : Nat → FieldType := fun k => match k with
  | 0 => .object "TollLeader$Net"
  | 1 => .array .int
  | 2 => .array .int
  | 3 => .object "java/util/BitSet"
  | _ => .boolean
abbrev wsX20 : List Cond := u_ws RX2 TX2 5
theorem nmX2 : ∀ a, a < 5 → ∀ b, b < 5 → a ≠ b → (TX2 a).2.1 ≠ (TX2 b).2.1 := by decide +kernel
theorem tyX2_ok : ∀ k, k < 5 → parseFieldDescriptor (TX2 k).2.2.1 = some (tyX2 k) := by decide +kernel
abbrev cX2_init : ByteArray := prog_9_method_1_code
def yX2_init : MethodName := ⟨RX2, "<init>", "(LTollLeader$Net;)V"⟩
def dkwX2_init_2 : List UInt8 := [42, 180, 0, 15, 3, 16, 6, 184, 0, 38, 177]
abbrev dktX2_init_2 : List UInt8 := dkwX2_init_2 ++ []
def dkwX2_init_1 : List UInt8 := [89, 16, 24, 183, 0, 20, 181, 0, 23, 42, 4, 181, 0, 27, 42, 43, 181, 0, 31, 43, 180, 0, 35, 3]
abbrev dktX2_init_1 : List UInt8 := dkwX2_init_1 ++ dktX2_init_2
def dkwX2_init_0 : List UInt8 := [42, 183, 0, 3, 42, 16, 24, 188, 10, 181, 0, 9, 42, 16, 6, 188, 10, 181, 0, 15, 42, 187, 0, 18]
abbrev dktX2_init_0 : List UInt8 := dkwX2_init_0 ++ dktX2_init_1
theorem dksX2_init_0 : cX2_init.data.toList.drop 0 = dktX2_init_0 := by decide +kernel
theorem dksX2_init_1 : cX2_init.data.toList.drop 24 = dktX2_init_1 := dk_seg dksX2_init_0 24 rfl rfl
theorem dksX2_init_2 : cX2_init.data.toList.drop 48 = dktX2_init_2 := dk_seg dksX2_init_1 24 rfl rfl
theorem dX2_init_0 : decode cX2_init 0 = .ok (.aload_n 0, 1) := dk_42 (dk_at dksX2_init_0 0 rfl rfl)
theorem dX2_init_1 : decode cX2_init 1 = .ok (.invokespecial 3, 3) := dk_183 0 3 (dk_at dksX2_init_0 1 rfl rfl)
theorem dX2_init_4 : decode cX2_init 4 = .ok (.aload_n 0, 1) := dk_42 (dk_at dksX2_init_0 4 rfl rfl)
theorem dX2_init_5 : decode cX2_init 5 = .ok (.bipush 24, 2) := dk_16 24 (dk_at dksX2_init_0 5 rfl rfl)
theorem dX2_init_7 : decode cX2_init 7 = .ok (.newarray .int, 2) := dk_188_10 (dk_at dksX2_init_0 7 rfl rfl)
theorem dX2_init_9 : decode cX2_init 9 = .ok (.putfield 9, 3) := dk_181 0 9 (dk_at dksX2_init_0 9 rfl rfl)
theorem dX2_init_12 : decode cX2_init 12 = .ok (.aload_n 0, 1) := dk_42 (dk_at dksX2_init_0 12 rfl rfl)
theorem dX2_init_13 : decode cX2_init 13 = .ok (.bipush 6, 2) := dk_16 6 (dk_at dksX2_init_0 13 rfl rfl)
theorem dX2_init_15 : decode cX2_init 15 = .ok (.newarray .int, 2) := dk_188_10 (dk_at dksX2_init_0 15 rfl rfl)
theorem dX2_init_17 : decode cX2_init 17 = .ok (.putfield 15, 3) := dk_181 0 15 (dk_at dksX2_init_0 17 rfl rfl)
theorem dX2_init_20 : decode cX2_init 20 = .ok (.aload_n 0, 1) := dk_42 (dk_at dksX2_init_0 20 rfl rfl)
theorem dX2_init_21 : decode cX2_init 21 = .ok (.new 18, 3) := dk_187 0 18 (dk_at dksX2_init_0 21 rfl rfl)
theorem dX2_init_24 : decode cX2_init 24 = .ok (.dup, 1) := dk_89 (dk_at dksX2_init_1 0 rfl rfl)
theorem dX2_init_25 : decode cX2_init 25 = .ok (.bipush 24, 2) := dk_16 24 (dk_at dksX2_init_1 1 rfl rfl)
theorem dX2_init_27 : decode cX2_init 27 = .ok (.invokespecial 20, 3) := dk_183 0 20 (dk_at dksX2_init_1 3 rfl rfl)
theorem dX2_init_30 : decode cX2_init 30 = .ok (.putfield 23, 3) := dk_181 0 23 (dk_at dksX2_init_1 6 rfl rfl)
theorem dX2_init_33 : decode cX2_init 33 = .ok (.aload_n 0, 1) := dk_42 (dk_at dksX2_init_1 9 rfl rfl)
theorem dX2_init_34 : decode cX2_init 34 = .ok (.iconst 1, 1) := dk_4 (dk_at dksX2_init_1 10 rfl rfl)
theorem dX2_init_35 : decode cX2_init 35 = .ok (.putfield 27, 3) := dk_181 0 27 (dk_at dksX2_init_1 11 rfl rfl)
theorem dX2_init_38 : decode cX2_init 38 = .ok (.aload_n 0, 1) := dk_42 (dk_at dksX2_init_1 14 rfl rfl)
theorem dX2_init_39 : decode cX2_init 39 = .ok (.aload_n 1, 1) := dk_43 (dk_at dksX2_init_1 15 rfl rfl)
theorem dX2_init_40 : decode cX2_init 40 = .ok (.putfield 31, 3) := dk_181 0 31 (dk_at dksX2_init_1 16 rfl rfl)
theorem dX2_init_43 : decode cX2_init 43 = .ok (.aload_n 1, 1) := dk_43 (dk_at dksX2_init_1 19 rfl rfl)
theorem dX2_init_44 : decode cX2_init 44 = .ok (.getfield 35, 3) := dk_180 0 35 (dk_at dksX2_init_1 20 rfl rfl)
theorem dX2_init_47 : decode cX2_init 47 = .ok (.iconst 0, 1) := dk_3 (dk_at dksX2_init_1 23 rfl rfl)
theorem dX2_init_48 : decode cX2_init 48 = .ok (.aload_n 0, 1) := dk_42 (dk_at dksX2_init_2 0 rfl rfl)
theorem dX2_init_49 : decode cX2_init 49 = .ok (.getfield 15, 3) := dk_180 0 15 (dk_at dksX2_init_2 1 rfl rfl)
theorem dX2_init_52 : decode cX2_init 52 = .ok (.iconst 0, 1) := dk_3 (dk_at dksX2_init_2 4 rfl rfl)
theorem dX2_init_53 : decode cX2_init 53 = .ok (.bipush 6, 2) := dk_16 6 (dk_at dksX2_init_2 5 rfl rfl)
theorem dX2_init_55 : decode cX2_init 55 = .ok (.invokestatic 38, 3) := dk_184 0 38 (dk_at dksX2_init_2 7 rfl rfl)
theorem dX2_init_58 : decode cX2_init 58 = .ok (.return_, 1) := dk_177 (dk_at dksX2_init_2 10 rfl rfl)
abbrev cX2_init_2 : ByteArray := prog_9_method_2_code
def yX2_init_2 : MethodName := ⟨RX2, "<init>", "(LTollLeader$State;)V"⟩
def dkwX2_init_2_4 : List UInt8 := [177]
abbrev dktX2_init_2_4 : List UInt8 := dkwX2_init_2_4 ++ []
def dkwX2_init_2_3 : List UInt8 := [16, 6, 184, 0, 38, 42, 180, 0, 23, 43, 180, 0, 23, 182, 0, 44, 42, 43, 180, 0, 27, 181, 0, 27]
abbrev dktX2_init_2_3 : List UInt8 := dkwX2_init_2_3 ++ dktX2_init_2_4
def dkwX2_init_2_2 : List UInt8 := [180, 0, 9, 3, 42, 180, 0, 9, 3, 16, 24, 184, 0, 38, 43, 180, 0, 15, 3, 42, 180, 0, 15, 3]
abbrev dktX2_init_2_2 : List UInt8 := dkwX2_init_2_2 ++ dktX2_init_2_3
def dkwX2_init_2_1 : List UInt8 := [89, 16, 24, 183, 0, 20, 181, 0, 23, 42, 4, 181, 0, 27, 42, 43, 180, 0, 31, 181, 0, 31, 43]
abbrev dktX2_init_2_1 : List UInt8 := dkwX2_init_2_1 ++ dktX2_init_2_2
def dkwX2_init_2_0 : List UInt8 := [42, 183, 0, 3, 42, 16, 24, 188, 10, 181, 0, 9, 42, 16, 6, 188, 10, 181, 0, 15, 42, 187, 0, 18]
abbrev dktX2_init_2_0 : List UInt8 := dkwX2_init_2_0 ++ dktX2_init_2_1
theorem dksX2_init_2_0 : cX2_init_2.data.toList.drop 0 = dktX2_init_2_0 := by decide +kernel
theorem dksX2_init_2_1 : cX2_init_2.data.toList.drop 24 = dktX2_init_2_1 := dk_seg dksX2_init_2_0 24 rfl rfl
theorem dksX2_init_2_2 : cX2_init_2.data.toList.drop 47 = dktX2_init_2_2 := dk_seg dksX2_init_2_1 23 rfl rfl
theorem dksX2_init_2_3 : cX2_init_2.data.toList.drop 71 = dktX2_init_2_3 := dk_seg dksX2_init_2_2 24 rfl rfl
theorem dksX2_init_2_4 : cX2_init_2.data.toList.drop 95 = dktX2_init_2_4 := dk_seg dksX2_init_2_3 24 rfl rfl
theorem dX2_init_2_0 : decode cX2_init_2 0 = .ok (.aload_n 0, 1) := dk_42 (dk_at dksX2_init_2_0 0 rfl rfl)
theorem dX2_init_2_1 : decode cX2_init_2 1 = .ok (.invokespecial 3, 3) := dk_183 0 3 (dk_at dksX2_init_2_0 1 rfl rfl)
theorem dX2_init_2_4 : decode cX2_init_2 4 = .ok (.aload_n 0, 1) := dk_42 (dk_at dksX2_init_2_0 4 rfl rfl)
theorem dX2_init_2_5 : decode cX2_init_2 5 = .ok (.bipush 24, 2) := dk_16 24 (dk_at dksX2_init_2_0 5 rfl rfl)
theorem dX2_init_2_7 : decode cX2_init_2 7 = .ok (.newarray .int, 2) := dk_188_10 (dk_at dksX2_init_2_0 7 rfl rfl)
theorem dX2_init_2_9 : decode cX2_init_2 9 = .ok (.putfield 9, 3) := dk_181 0 9 (dk_at dksX2_init_2_0 9 rfl rfl)
theorem dX2_init_2_12 : decode cX2_init_2 12 = .ok (.aload_n 0, 1) := dk_42 (dk_at dksX2_init_2_0 12 rfl rfl)
theorem dX2_init_2_13 : decode cX2_init_2 13 = .ok (.bipush 6, 2) := dk_16 6 (dk_at dksX2_init_2_0 13 rfl rfl)
theorem dX2_init_2_15 : decode cX2_init_2 15 = .ok (.newarray .int, 2) := dk_188_10 (dk_at dksX2_init_2_0 15 rfl rfl)
theorem dX2_init_2_17 : decode cX2_init_2 17 = .ok (.putfield 15, 3) := dk_181 0 15 (dk_at dksX2_init_2_0 17 rfl rfl)
theorem dX2_init_2_20 : decode cX2_init_2 20 = .ok (.aload_n 0, 1) := dk_42 (dk_at dksX2_init_2_0 20 rfl rfl)
theorem dX2_init_2_21 : decode cX2_init_2 21 = .ok (.new 18, 3) := dk_187 0 18 (dk_at dksX2_init_2_0 21 rfl rfl)
theorem dX2_init_2_24 : decode cX2_init_2 24 = .ok (.dup, 1) := dk_89 (dk_at dksX2_init_2_1 0 rfl rfl)
theorem dX2_init_2_25 : decode cX2_init_2 25 = .ok (.bipush 24, 2) := dk_16 24 (dk_at dksX2_init_2_1 1 rfl rfl)
theorem dX2_init_2_27 : decode cX2_init_2 27 = .ok (.invokespecial 20, 3) := dk_183 0 20 (dk_at dksX2_init_2_1 3 rfl rfl)
theorem dX2_init_2_30 : decode cX2_init_2 30 = .ok (.putfield 23, 3) := dk_181 0 23 (dk_at dksX2_init_2_1 6 rfl rfl)
theorem dX2_init_2_33 : decode cX2_init_2 33 = .ok (.aload_n 0, 1) := dk_42 (dk_at dksX2_init_2_1 9 rfl rfl)
theorem dX2_init_2_34 : decode cX2_init_2 34 = .ok (.iconst 1, 1) := dk_4 (dk_at dksX2_init_2_1 10 rfl rfl)
theorem dX2_init_2_35 : decode cX2_init_2 35 = .ok (.putfield 27, 3) := dk_181 0 27 (dk_at dksX2_init_2_1 11 rfl rfl)
theorem dX2_init_2_38 : decode cX2_init_2 38 = .ok (.aload_n 0, 1) := dk_42 (dk_at dksX2_init_2_1 14 rfl rfl)
theorem dX2_init_2_39 : decode cX2_init_2 39 = .ok (.aload_n 1, 1) := dk_43 (dk_at dksX2_init_2_1 15 rfl rfl)
theorem dX2_init_2_40 : decode cX2_init_2 40 = .ok (.getfield 31, 3) := dk_180 0 31 (dk_at dksX2_init_2_1 16 rfl rfl)
theorem dX2_init_2_43 : decode cX2_init_2 43 = .ok (.putfield 31, 3) := dk_181 0 31 (dk_at dksX2_init_2_1 19 rfl rfl)
theorem dX2_init_2_46 : decode cX2_init_2 46 = .ok (.aload_n 1, 1) := dk_43 (dk_at dksX2_init_2_1 22 rfl rfl)
theorem dX2_init_2_47 : decode cX2_init_2 47 = .ok (.getfield 9, 3) := dk_180 0 9 (dk_at dksX2_init_2_2 0 rfl rfl)
theorem dX2_init_2_50 : decode cX2_init_2 50 = .ok (.iconst 0, 1) := dk_3 (dk_at dksX2_init_2_2 3 rfl rfl)
theorem dX2_init_2_51 : decode cX2_init_2 51 = .ok (.aload_n 0, 1) := dk_42 (dk_at dksX2_init_2_2 4 rfl rfl)
theorem dX2_init_2_52 : decode cX2_init_2 52 = .ok (.getfield 9, 3) := dk_180 0 9 (dk_at dksX2_init_2_2 5 rfl rfl)
theorem dX2_init_2_55 : decode cX2_init_2 55 = .ok (.iconst 0, 1) := dk_3 (dk_at dksX2_init_2_2 8 rfl rfl)
theorem dX2_init_2_56 : decode cX2_init_2 56 = .ok (.bipush 24, 2) := dk_16 24 (dk_at dksX2_init_2_2 9 rfl rfl)
theorem dX2_init_2_58 : decode cX2_init_2 58 = .ok (.invokestatic 38, 3) := dk_184 0 38 (dk_at dksX2_init_2_2 11 rfl rfl)
theorem dX2_init_2_61 : decode cX2_init_2 61 = .ok (.aload_n 1, 1) := dk_43 (dk_at dksX2_init_2_2 14 rfl rfl)
theorem dX2_init_2_62 : decode cX2_init_2 62 = .ok (.getfield 15, 3) := dk_180 0 15 (dk_at dksX2_init_2_2 15 rfl rfl)
theorem dX2_init_2_65 : decode cX2_init_2 65 = .ok (.iconst 0, 1) := dk_3 (dk_at dksX2_init_2_2 18 rfl rfl)
theorem dX2_init_2_66 : decode cX2_init_2 66 = .ok (.aload_n 0, 1) := dk_42 (dk_at dksX2_init_2_2 19 rfl rfl)
theorem dX2_init_2_67 : decode cX2_init_2 67 = .ok (.getfield 15, 3) := dk_180 0 15 (dk_at dksX2_init_2_2 20 rfl rfl)
theorem dX2_init_2_70 : decode cX2_init_2 70 = .ok (.iconst 0, 1) := dk_3 (dk_at dksX2_init_2_2 23 rfl rfl)
theorem dX2_init_2_71 : decode cX2_init_2 71 = .ok (.bipush 6, 2) := dk_16 6 (dk_at dksX2_init_2_3 0 rfl rfl)
theorem dX2_init_2_73 : decode cX2_init_2 73 = .ok (.invokestatic 38, 3) := dk_184 0 38 (dk_at dksX2_init_2_3 2 rfl rfl)
theorem dX2_init_2_76 : decode cX2_init_2 76 = .ok (.aload_n 0, 1) := dk_42 (dk_at dksX2_init_2_3 5 rfl rfl)
theorem dX2_init_2_77 : decode cX2_init_2 77 = .ok (.getfield 23, 3) := dk_180 0 23 (dk_at dksX2_init_2_3 6 rfl rfl)
theorem dX2_init_2_80 : decode cX2_init_2 80 = .ok (.aload_n 1, 1) := dk_43 (dk_at dksX2_init_2_3 9 rfl rfl)
theorem dX2_init_2_81 : decode cX2_init_2 81 = .ok (.getfield 23, 3) := dk_180 0 23 (dk_at dksX2_init_2_3 10 rfl rfl)
theorem dX2_init_2_84 : decode cX2_init_2 84 = .ok (.invokevirtual 44, 3) := dk_182 0 44 (dk_at dksX2_init_2_3 13 rfl rfl)
theorem dX2_init_2_87 : decode cX2_init_2 87 = .ok (.aload_n 0, 1) := dk_42 (dk_at dksX2_init_2_3 16 rfl rfl)
theorem dX2_init_2_88 : decode cX2_init_2 88 = .ok (.aload_n 1, 1) := dk_43 (dk_at dksX2_init_2_3 17 rfl rfl)
theorem dX2_init_2_89 : decode cX2_init_2 89 = .ok (.getfield 27, 3) := dk_180 0 27 (dk_at dksX2_init_2_3 18 rfl rfl)
theorem dX2_init_2_92 : decode cX2_init_2 92 = .ok (.putfield 27, 3) := dk_181 0 27 (dk_at dksX2_init_2_3 21 rfl rfl)
theorem dX2_init_2_95 : decode cX2_init_2 95 = .ok (.return_, 1) := dk_177 (dk_at dksX2_init_2_4 0 rfl rfl)
abbrev cX2_isOpen : ByteArray := prog_9_method_4_code
def yX2_isOpen : MethodName := ⟨RX2, "isOpen", "(LTollLeader$Arc;)Z"⟩
def dkwX2_isOpen_0 : List UInt8 := [42, 180, 0, 23, 43, 182, 0, 48, 182, 0, 54, 154, 0, 7, 4, 167, 0, 4, 3, 172]
abbrev dktX2_isOpen_0 : List UInt8 := dkwX2_isOpen_0 ++ []
theorem dksX2_isOpen_0 : cX2_isOpen.data.toList.drop 0 = dktX2_isOpen_0 := by decide +kernel
theorem dX2_isOpen_0 : decode cX2_isOpen 0 = .ok (.aload_n 0, 1) := dk_42 (dk_at dksX2_isOpen_0 0 rfl rfl)
theorem dX2_isOpen_1 : decode cX2_isOpen 1 = .ok (.getfield 23, 3) := dk_180 0 23 (dk_at dksX2_isOpen_0 1 rfl rfl)
theorem dX2_isOpen_4 : decode cX2_isOpen 4 = .ok (.aload_n 1, 1) := dk_43 (dk_at dksX2_isOpen_0 4 rfl rfl)
theorem dX2_isOpen_5 : decode cX2_isOpen 5 = .ok (.invokevirtual 48, 3) := dk_182 0 48 (dk_at dksX2_isOpen_0 5 rfl rfl)
theorem dX2_isOpen_8 : decode cX2_isOpen 8 = .ok (.invokevirtual 54, 3) := dk_182 0 54 (dk_at dksX2_isOpen_0 8 rfl rfl)
theorem dX2_isOpen_11 : decode cX2_isOpen 11 = .ok (.ifCond .ne 7, 3) := dk_154 0 7 (dk_at dksX2_isOpen_0 11 rfl rfl)
theorem dX2_isOpen_14 : decode cX2_isOpen 14 = .ok (.iconst 1, 1) := dk_4 (dk_at dksX2_isOpen_0 14 rfl rfl)
theorem dX2_isOpen_15 : decode cX2_isOpen 15 = .ok (.goto 4, 3) := dk_167 0 4 (dk_at dksX2_isOpen_0 15 rfl rfl)
theorem dX2_isOpen_18 : decode cX2_isOpen 18 = .ok (.iconst 0, 1) := dk_3 (dk_at dksX2_isOpen_0 18 rfl rfl)
theorem dX2_isOpen_19 : decode cX2_isOpen 19 = .ok (.ireturn, 1) := dk_172 (dk_at dksX2_isOpen_0 19 rfl rfl)
abbrev cX2_toll : ByteArray := prog_9_method_3_code
def yX2_toll : MethodName := ⟨RX2, "toll", "(LTollLeader$Arc;)I"⟩
def dkwX2_toll_0 : List UInt8 := [42, 180, 0, 9, 43, 182, 0, 48, 46, 172]
abbrev dktX2_toll_0 : List UInt8 := dkwX2_toll_0 ++ []
theorem dksX2_toll_0 : cX2_toll.data.toList.drop 0 = dktX2_toll_0 := by decide +kernel
theorem dX2_toll_0 : decode cX2_toll 0 = .ok (.aload_n 0, 1) := dk_42 (dk_at dksX2_toll_0 0 rfl rfl)
theorem dX2_toll_1 : decode cX2_toll 1 = .ok (.getfield 9, 3) := dk_180 0 9 (dk_at dksX2_toll_0 1 rfl rfl)
theorem dX2_toll_4 : decode cX2_toll 4 = .ok (.aload_n 1, 1) := dk_43 (dk_at dksX2_toll_0 4 rfl rfl)
theorem dX2_toll_5 : decode cX2_toll 5 = .ok (.invokevirtual 48, 3) := dk_182 0 48 (dk_at dksX2_toll_0 5 rfl rfl)
theorem dX2_toll_8 : decode cX2_toll 8 = .ok (.iaload, 1) := dk_46 (dk_at dksX2_toll_0 8 rfl rfl)
theorem dX2_toll_9 : decode cX2_toll 9 = .ok (.ireturn, 1) := dk_172 (dk_at dksX2_toll_0 9 rfl rfl)
theorem q113 : (Jvm.Cond.initialized "TollLeader$State") ∈ lw_all := lw_g (lw_at lw_m1 2 rfl) rfl
theorem q171 : (Jvm.Cond.instantiable "TollLeader$State" (5 : Nat)) ∈ lw_all := lw_g (lw_at lw_m1 60 rfl) rfl
theorem q545 : (Jvm.Cond.fieldLinkNest "TollLeader$State" (35 : Nat) "TollLeader$Net" "demands" "[I" "TollLeader") ∈ lw_tbl := lw_at lw_m2 194 rfl
theorem q558 : (Jvm.Cond.instanceMethod ({ cls := "TollLeader$State", name := "<init>", desc := "(LTollLeader$Net;)V" } : Jvm.MethodName)) ∈ lw_all := lw_g (lw_at lw_m2 207 rfl) rfl
theorem q559 : (Jvm.Cond.code ({ cls := "TollLeader$State", name := "<init>", desc := "(LTollLeader$Net;)V" } : Jvm.MethodName) prog_9_method_1_code (2 : Nat) (Option.none : Option Jvm.ClassFile.FieldType)) ∈ lw_all := lw_g (lw_at lw_m2 208 rfl) rfl
theorem q560 : (Jvm.Cond.methodLink "TollLeader$State" (3 : Nat) ({ cls := "java/lang/Object", name := "<init>", desc := "()V" } : Jvm.MethodName)) ∈ lw_all := lw_g (lw_at lw_m2 209 rfl) rfl
theorem q561 : (Jvm.Cond.classLink "TollLeader$State" (18 : Nat) "java/util/BitSet") ∈ lw_all := lw_g (lw_at lw_m2 210 rfl) rfl
theorem q563 : (Jvm.Cond.methodLink "TollLeader$State" (20 : Nat) ({ cls := "java/util/BitSet", name := "<init>", desc := "(I)V" } : Jvm.MethodName)) ∈ lw_all := lw_g (lw_at lw_m2 212 rfl) rfl
theorem q585 : (Jvm.Cond.methodLink "TollLeader$State" (38 : Nat) ({ cls := "java/lang/System", name := "arraycopy", desc := "(Ljava/lang/Object;ILjava/lang/Object;II)V" } : Jvm.MethodName)) ∈ lw_all := lw_g (lw_at lw_m2 234 rfl) rfl
theorem q586 : (Jvm.Cond.fieldLink "TollLeader$State" (31 : Nat) "TollLeader$State" "net" "LTollLeader$Net;") ∈ lw_all := lw_g (lw_at lw_m2 235 rfl) rfl
theorem q590 : (Jvm.Cond.fieldLink "TollLeader$State" (9 : Nat) "TollLeader$State" "tolls" "[I") ∈ lw_all := lw_g (lw_at lw_m2 239 rfl) rfl
theorem q594 : (Jvm.Cond.fieldLink "TollLeader$State" (15 : Nat) "TollLeader$State" "demands" "[I") ∈ lw_all := lw_g (lw_at lw_m3 3 rfl) rfl
theorem q596 : (Jvm.Cond.fieldLink "TollLeader$State" (23 : Nat) "TollLeader$State" "closed" "Ljava/util/BitSet;") ∈ lw_all := lw_g (lw_at lw_m3 5 rfl) rfl
theorem q598 : (Jvm.Cond.fieldLink "TollLeader$State" (27 : Nat) "TollLeader$State" "isFor" "Z") ∈ lw_all := lw_g (lw_at lw_m3 7 rfl) rfl
theorem q601 : (Jvm.Cond.laysFinal "TollLeader$State" "TollLeader$State" "net" "LTollLeader$Net;") ∈ lw_all := lw_g (lw_at lw_m3 10 rfl) rfl
theorem q602 : (Jvm.Cond.soleField "TollLeader$State" "net") ∈ lw_all := lw_g (lw_at lw_m3 11 rfl) rfl
theorem q603 : (Jvm.Cond.laysFinal "TollLeader$State" "TollLeader$State" "tolls" "[I") ∈ lw_all := lw_g (lw_at lw_m3 12 rfl) rfl
theorem q604 : (Jvm.Cond.soleField "TollLeader$State" "tolls") ∈ lw_all := lw_g (lw_at lw_m3 13 rfl) rfl
theorem q605 : (Jvm.Cond.laysFinal "TollLeader$State" "TollLeader$State" "demands" "[I") ∈ lw_all := lw_g (lw_at lw_m3 14 rfl) rfl
theorem q606 : (Jvm.Cond.soleField "TollLeader$State" "demands") ∈ lw_all := lw_g (lw_at lw_m3 15 rfl) rfl
theorem q607 : (Jvm.Cond.laysFinal "TollLeader$State" "TollLeader$State" "closed" "Ljava/util/BitSet;") ∈ lw_all := lw_g (lw_at lw_m3 16 rfl) rfl
theorem q608 : (Jvm.Cond.soleField "TollLeader$State" "closed") ∈ lw_all := lw_g (lw_at lw_m3 17 rfl) rfl
theorem q609 : (Jvm.Cond.lays "TollLeader$State" "TollLeader$State" "isFor" "Z") ∈ lw_all := lw_g (lw_at lw_m3 18 rfl) rfl
theorem q610 : (Jvm.Cond.soleField "TollLeader$State" "isFor") ∈ lw_all := lw_g (lw_at lw_m3 19 rfl) rfl
theorem q611 : (Jvm.Cond.superclass "TollLeader$State" "java/lang/Object") ∈ lw_all := lw_g (lw_at lw_m3 20 rfl) rfl
theorem q986 : (Jvm.Cond.selects "TollLeader$State" ({ cls := "java/lang/Object", name := "getClass", desc := "()Ljava/lang/Class;" } : Jvm.MethodName) ({ cls := "java/lang/Object", name := "getClass", desc := "()Ljava/lang/Class;" } : Jvm.MethodName)) ∈ lw_all := lw_g (lw_at lw_m4 155 rfl) rfl
theorem q1115 : (Jvm.Cond.instanceMethod ({ cls := "TollLeader$State", name := "<init>", desc := "(LTollLeader$State;)V" } : Jvm.MethodName)) ∈ lw_all := lw_g (lw_at lw_m5 44 rfl) rfl
theorem q1116 : (Jvm.Cond.code ({ cls := "TollLeader$State", name := "<init>", desc := "(LTollLeader$State;)V" } : Jvm.MethodName) prog_9_method_2_code (2 : Nat) (Option.none : Option Jvm.ClassFile.FieldType)) ∈ lw_all := lw_g (lw_at lw_m5 45 rfl) rfl
theorem q1117 : (Jvm.Cond.methodLink "TollLeader$State" (44 : Nat) ({ cls := "java/util/BitSet", name := "or", desc := "(Ljava/util/BitSet;)V" } : Jvm.MethodName)) ∈ lw_all := lw_g (lw_at lw_m5 46 rfl) rfl
theorem q1301 : (Jvm.Cond.instanceMethod ({ cls := "TollLeader$State", name := "isOpen", desc := "(LTollLeader$Arc;)Z" } : Jvm.MethodName)) ∈ lw_all := lw_g (lw_at lw_m5 230 rfl) rfl
theorem q1302 : (Jvm.Cond.selects "TollLeader$State" ({ cls := "TollLeader$State", name := "isOpen", desc := "(LTollLeader$Arc;)Z" } : Jvm.MethodName) ({ cls := "TollLeader$State", name := "isOpen", desc := "(LTollLeader$Arc;)Z" } : Jvm.MethodName)) ∈ lw_all := lw_g (lw_at lw_m5 231 rfl) rfl
theorem q1303 : (Jvm.Cond.code ({ cls := "TollLeader$State", name := "isOpen", desc := "(LTollLeader$Arc;)Z" } : Jvm.MethodName) prog_9_method_4_code (2 : Nat) (Option.some Jvm.ClassFile.FieldType.boolean)) ∈ lw_all := lw_g (lw_at lw_m5 232 rfl) rfl
theorem q1304 : (Jvm.Cond.methodLink "TollLeader$State" (48 : Nat) ({ cls := "TollLeader$Arc", name := "number", desc := "()I" } : Jvm.MethodName)) ∈ lw_all := lw_g (lw_at lw_m5 233 rfl) rfl
theorem q1308 : (Jvm.Cond.methodLink "TollLeader$State" (54 : Nat) ({ cls := "java/util/BitSet", name := "get", desc := "(I)Z" } : Jvm.MethodName)) ∈ lw_all := lw_g (lw_at lw_m5 237 rfl) rfl
theorem q1332 : (Jvm.Cond.instanceMethod ({ cls := "TollLeader$State", name := "toll", desc := "(LTollLeader$Arc;)I" } : Jvm.MethodName)) ∈ lw_all := lw_g (lw_at lw_m6 21 rfl) rfl
theorem q1333 : (Jvm.Cond.selects "TollLeader$State" ({ cls := "TollLeader$State", name := "toll", desc := "(LTollLeader$Arc;)I" } : Jvm.MethodName) ({ cls := "TollLeader$State", name := "toll", desc := "(LTollLeader$Arc;)I" } : Jvm.MethodName)) ∈ lw_all := lw_g (lw_at lw_m6 22 rfl) rfl
theorem q1334 : (Jvm.Cond.code ({ cls := "TollLeader$State", name := "toll", desc := "(LTollLeader$Arc;)I" } : Jvm.MethodName) prog_9_method_3_code (2 : Nat) (Option.some Jvm.ClassFile.FieldType.int)) ∈ lw_all := lw_g (lw_at lw_m6 23 rfl) rfl
theorem q3056 : (Jvm.Cond.castable "TollLeader$State" "java/lang/Object") ∈ lw_tbl := lw_at lw_m13 65 rfl
theorem in_X2 : ∀ w ∈ wsX20, w ∈ lw_all := lw_in wsX20 [601, 603, 605, 607, 609] (by decide +kernel) (by decide +kernel)
/-! TollLeader$Net -/
set_option maxRecDepth 100000
def RX3 : String := "TollLeader$Net"
def TX3 : u_T := fun k => match k with
  | 0 => ("TollLeader$Net", "nodes", "I", true)
  | 1 => ("TollLeader$Net", "arcs", "Ljava/util/List;", true)
  | 2 => ("TollLeader$Net", "trips", "Ljava/util/List;", true)
  | _ => ("TollLeader$Net", "demands", "[I", true)
def tyX3 : Nat → FieldType := fun k => match k with
  | 0 => .int
  | 1 => .object "java/util/List"
  | 2 => .object "java/util/List"
  | _ => .array .int
abbrev wsX30 : List Cond := u_ws RX3 TX3 4
theorem nmX3 : ∀ a, a < 4 → ∀ b, b < 4 → a ≠ b → (TX3 a).2.1 ≠ (TX3 b).2.1 := by decide +kernel
theorem tyX3_ok : ∀ k, k < 4 → parseFieldDescriptor (TX3 k).2.2.1 = some (tyX3 k) := by decide +kernel
abbrev cX3_init : ByteArray := prog_5_method_1_code
def yX3_init : MethodName := ⟨RX3, "<init>", "(I)V"⟩
def dkwX3_init_1 : List UInt8 := [183, 0, 11, 181, 0, 20, 42, 16, 6, 188, 10, 181, 0, 23, 42, 27, 181, 0, 27, 177]
abbrev dktX3_init_1 : List UInt8 := dkwX3_init_1 ++ []
def dkwX3_init_0 : List UInt8 := [42, 183, 0, 3, 42, 187, 0, 9, 89, 16, 24, 183, 0, 11, 181, 0, 14, 42, 187, 0, 9, 89, 16, 6]
abbrev dktX3_init_0 : List UInt8 := dkwX3_init_0 ++ dktX3_init_1
theorem dksX3_init_0 : cX3_init.data.toList.drop 0 = dktX3_init_0 := by decide +kernel
theorem dksX3_init_1 : cX3_init.data.toList.drop 24 = dktX3_init_1 := dk_seg dksX3_init_0 24 rfl rfl
theorem dX3_init_0 : decode cX3_init 0 = .ok (.aload_n 0, 1) := dk_42 (dk_at dksX3_init_0 0 rfl rfl)
theorem dX3_init_1 : decode cX3_init 1 = .ok (.invokespecial 3, 3) := dk_183 0 3 (dk_at dksX3_init_0 1 rfl rfl)
theorem dX3_init_4 : decode cX3_init 4 = .ok (.aload_n 0, 1) := dk_42 (dk_at dksX3_init_0 4 rfl rfl)
theorem dX3_init_5 : decode cX3_init 5 = .ok (.new 9, 3) := dk_187 0 9 (dk_at dksX3_init_0 5 rfl rfl)
theorem dX3_init_8 : decode cX3_init 8 = .ok (.dup, 1) := dk_89 (dk_at dksX3_init_0 8 rfl rfl)
theorem dX3_init_9 : decode cX3_init 9 = .ok (.bipush 24, 2) := dk_16 24 (dk_at dksX3_init_0 9 rfl rfl)
theorem dX3_init_11 : decode cX3_init 11 = .ok (.invokespecial 11, 3) := dk_183 0 11 (dk_at dksX3_init_0 11 rfl rfl)
theorem dX3_init_14 : decode cX3_init 14 = .ok (.putfield 14, 3) := dk_181 0 14 (dk_at dksX3_init_0 14 rfl rfl)
theorem dX3_init_17 : decode cX3_init 17 = .ok (.aload_n 0, 1) := dk_42 (dk_at dksX3_init_0 17 rfl rfl)
theorem dX3_init_18 : decode cX3_init 18 = .ok (.new 9, 3) := dk_187 0 9 (dk_at dksX3_init_0 18 rfl rfl)
theorem dX3_init_21 : decode cX3_init 21 = .ok (.dup, 1) := dk_89 (dk_at dksX3_init_0 21 rfl rfl)
theorem dX3_init_22 : decode cX3_init 22 = .ok (.bipush 6, 2) := dk_16 6 (dk_at dksX3_init_0 22 rfl rfl)
theorem dX3_init_24 : decode cX3_init 24 = .ok (.invokespecial 11, 3) := dk_183 0 11 (dk_at dksX3_init_1 0 rfl rfl)
theorem dX3_init_27 : decode cX3_init 27 = .ok (.putfield 20, 3) := dk_181 0 20 (dk_at dksX3_init_1 3 rfl rfl)
theorem dX3_init_30 : decode cX3_init 30 = .ok (.aload_n 0, 1) := dk_42 (dk_at dksX3_init_1 6 rfl rfl)
theorem dX3_init_31 : decode cX3_init 31 = .ok (.bipush 6, 2) := dk_16 6 (dk_at dksX3_init_1 7 rfl rfl)
theorem dX3_init_33 : decode cX3_init 33 = .ok (.newarray .int, 2) := dk_188_10 (dk_at dksX3_init_1 9 rfl rfl)
theorem dX3_init_35 : decode cX3_init 35 = .ok (.putfield 23, 3) := dk_181 0 23 (dk_at dksX3_init_1 11 rfl rfl)
theorem dX3_init_38 : decode cX3_init 38 = .ok (.aload_n 0, 1) := dk_42 (dk_at dksX3_init_1 14 rfl rfl)
theorem dX3_init_39 : decode cX3_init 39 = .ok (.iload_n 1, 1) := dk_27 (dk_at dksX3_init_1 15 rfl rfl)
theorem dX3_init_40 : decode cX3_init 40 = .ok (.putfield 27, 3) := dk_181 0 27 (dk_at dksX3_init_1 16 rfl rfl)
theorem dX3_init_43 : decode cX3_init 43 = .ok (.return_, 1) := dk_177 (dk_at dksX3_init_1 19 rfl rfl)
abbrev cX3_from : ByteArray := prog_5_method_2_code
def yX3_from : MethodName := ⟨RX3, "from", "(Ljava/util/BitSet;)Ljava/lang/Iterable;"⟩
def dkwX3_from_0 : List UInt8 := [187, 0, 31, 89, 42, 43, 183, 0, 33, 176]
abbrev dktX3_from_0 : List UInt8 := dkwX3_from_0 ++ []
theorem dksX3_from_0 : cX3_from.data.toList.drop 0 = dktX3_from_0 := by decide +kernel
theorem dX3_from_0 : decode cX3_from 0 = .ok (.new 31, 3) := dk_187 0 31 (dk_at dksX3_from_0 0 rfl rfl)
theorem dX3_from_3 : decode cX3_from 3 = .ok (.dup, 1) := dk_89 (dk_at dksX3_from_0 3 rfl rfl)
theorem dX3_from_4 : decode cX3_from 4 = .ok (.aload_n 0, 1) := dk_42 (dk_at dksX3_from_0 4 rfl rfl)
theorem dX3_from_5 : decode cX3_from 5 = .ok (.aload_n 1, 1) := dk_43 (dk_at dksX3_from_0 5 rfl rfl)
theorem dX3_from_6 : decode cX3_from 6 = .ok (.invokespecial 33, 3) := dk_183 0 33 (dk_at dksX3_from_0 6 rfl rfl)
theorem dX3_from_9 : decode cX3_from 9 = .ok (.areturn, 1) := dk_176 (dk_at dksX3_from_0 9 rfl rfl)
abbrev cX3_leading : ByteArray := prog_5_method_3_code
def yX3_leading : MethodName := ⟨RX3, "leading", "(Ljava/util/BitSet;)Ljava/util/Iterator;"⟩
def dkwX3_leading_0 : List UInt8 := [187, 0, 36, 89, 42, 43, 183, 0, 38, 176]
abbrev dktX3_leading_0 : List UInt8 := dkwX3_leading_0 ++ []
theorem dksX3_leading_0 : cX3_leading.data.toList.drop 0 = dktX3_leading_0 := by decide +kernel
theorem dX3_leading_0 : decode cX3_leading 0 = .ok (.new 36, 3) := dk_187 0 36 (dk_at dksX3_leading_0 0 rfl rfl)
theorem dX3_leading_3 : decode cX3_leading 3 = .ok (.dup, 1) := dk_89 (dk_at dksX3_leading_0 3 rfl rfl)
theorem dX3_leading_4 : decode cX3_leading 4 = .ok (.aload_n 0, 1) := dk_42 (dk_at dksX3_leading_0 4 rfl rfl)
theorem dX3_leading_5 : decode cX3_leading 5 = .ok (.aload_n 1, 1) := dk_43 (dk_at dksX3_leading_0 5 rfl rfl)
theorem dX3_leading_6 : decode cX3_leading 6 = .ok (.invokespecial 38, 3) := dk_183 0 38 (dk_at dksX3_leading_0 6 rfl rfl)
theorem dX3_leading_9 : decode cX3_leading 9 = .ok (.areturn, 1) := dk_176 (dk_at dksX3_leading_0 9 rfl rfl)
theorem q114 : (Jvm.Cond.initialized "TollLeader$Net") ∈ lw_all := lw_g (lw_at lw_m1 3 rfl) rfl
theorem q173 : (Jvm.Cond.instantiable "TollLeader$Net" (4 : Nat)) ∈ lw_all := lw_g (lw_at lw_m1 62 rfl) rfl
theorem q175 : (Jvm.Cond.instanceMethod ({ cls := "TollLeader$Net", name := "<init>", desc := "(I)V" } : Jvm.MethodName)) ∈ lw_all := lw_g (lw_at lw_m1 64 rfl) rfl
theorem q176 : (Jvm.Cond.code ({ cls := "TollLeader$Net", name := "<init>", desc := "(I)V" } : Jvm.MethodName) prog_5_method_1_code (2 : Nat) (Option.none : Option Jvm.ClassFile.FieldType)) ∈ lw_all := lw_g (lw_at lw_m1 65 rfl) rfl
theorem q177 : (Jvm.Cond.methodLink "TollLeader$Net" (3 : Nat) ({ cls := "java/lang/Object", name := "<init>", desc := "()V" } : Jvm.MethodName)) ∈ lw_all := lw_g (lw_at lw_m1 66 rfl) rfl
theorem q178 : (Jvm.Cond.classLink "TollLeader$Net" (9 : Nat) "java/util/ArrayList") ∈ lw_all := lw_g (lw_at lw_m1 67 rfl) rfl
theorem q180 : (Jvm.Cond.methodLink "TollLeader$Net" (11 : Nat) ({ cls := "java/util/ArrayList", name := "<init>", desc := "(I)V" } : Jvm.MethodName)) ∈ lw_all := lw_g (lw_at lw_m1 69 rfl) rfl
theorem q531 : (Jvm.Cond.fieldLink "TollLeader$Net" (27 : Nat) "TollLeader$Net" "nodes" "I") ∈ lw_all := lw_g (lw_at lw_m2 180 rfl) rfl
theorem q535 : (Jvm.Cond.fieldLink "TollLeader$Net" (14 : Nat) "TollLeader$Net" "arcs" "Ljava/util/List;") ∈ lw_all := lw_g (lw_at lw_m2 184 rfl) rfl
theorem q540 : (Jvm.Cond.fieldLink "TollLeader$Net" (20 : Nat) "TollLeader$Net" "trips" "Ljava/util/List;") ∈ lw_all := lw_g (lw_at lw_m2 189 rfl) rfl
theorem q544 : (Jvm.Cond.fieldLink "TollLeader$Net" (23 : Nat) "TollLeader$Net" "demands" "[I") ∈ lw_all := lw_g (lw_at lw_m2 193 rfl) rfl
theorem q547 : (Jvm.Cond.laysFinal "TollLeader$Net" "TollLeader$Net" "nodes" "I") ∈ lw_all := lw_g (lw_at lw_m2 196 rfl) rfl
theorem q548 : (Jvm.Cond.soleField "TollLeader$Net" "nodes") ∈ lw_all := lw_g (lw_at lw_m2 197 rfl) rfl
theorem q549 : (Jvm.Cond.laysFinal "TollLeader$Net" "TollLeader$Net" "arcs" "Ljava/util/List;") ∈ lw_all := lw_g (lw_at lw_m2 198 rfl) rfl
theorem q550 : (Jvm.Cond.soleField "TollLeader$Net" "arcs") ∈ lw_all := lw_g (lw_at lw_m2 199 rfl) rfl
theorem q551 : (Jvm.Cond.laysFinal "TollLeader$Net" "TollLeader$Net" "trips" "Ljava/util/List;") ∈ lw_all := lw_g (lw_at lw_m2 200 rfl) rfl
theorem q552 : (Jvm.Cond.soleField "TollLeader$Net" "trips") ∈ lw_all := lw_g (lw_at lw_m2 201 rfl) rfl
theorem q553 : (Jvm.Cond.laysFinal "TollLeader$Net" "TollLeader$Net" "demands" "[I") ∈ lw_all := lw_g (lw_at lw_m2 202 rfl) rfl
theorem q554 : (Jvm.Cond.soleField "TollLeader$Net" "demands") ∈ lw_all := lw_g (lw_at lw_m2 203 rfl) rfl
theorem q555 : (Jvm.Cond.superclass "TollLeader$Net" "java/lang/Object") ∈ lw_all := lw_g (lw_at lw_m2 204 rfl) rfl
theorem q982 : (Jvm.Cond.selects "TollLeader$Net" ({ cls := "java/lang/Object", name := "getClass", desc := "()Ljava/lang/Class;" } : Jvm.MethodName) ({ cls := "java/lang/Object", name := "getClass", desc := "()Ljava/lang/Class;" } : Jvm.MethodName)) ∈ lw_all := lw_g (lw_at lw_m4 151 rfl) rfl
theorem q2242 : (Jvm.Cond.instanceMethod ({ cls := "TollLeader$Net", name := "from", desc := "(Ljava/util/BitSet;)Ljava/lang/Iterable;" } : Jvm.MethodName)) ∈ lw_all := lw_g (lw_at lw_m9 211 rfl) rfl
theorem q2243 : (Jvm.Cond.selects "TollLeader$Net" ({ cls := "TollLeader$Net", name := "from", desc := "(Ljava/util/BitSet;)Ljava/lang/Iterable;" } : Jvm.MethodName) ({ cls := "TollLeader$Net", name := "from", desc := "(Ljava/util/BitSet;)Ljava/lang/Iterable;" } : Jvm.MethodName)) ∈ lw_all := lw_g (lw_at lw_m9 212 rfl) rfl
theorem q2244 : (Jvm.Cond.code ({ cls := "TollLeader$Net", name := "from", desc := "(Ljava/util/BitSet;)Ljava/lang/Iterable;" } : Jvm.MethodName) prog_5_method_2_code (2 : Nat) (Option.some (Jvm.ClassFile.FieldType.object "java/lang/Iterable"))) ∈ lw_all := lw_g (lw_at lw_m9 213 rfl) rfl
theorem q2245 : (Jvm.Cond.classLink "TollLeader$Net" (31 : Nat) "TollLeader$Net$1") ∈ lw_all := lw_g (lw_at lw_m9 214 rfl) rfl
theorem q2247 : (Jvm.Cond.methodLink "TollLeader$Net" (33 : Nat) ({ cls := "TollLeader$Net$1", name := "<init>", desc := "(LTollLeader$Net;Ljava/util/BitSet;)V" } : Jvm.MethodName)) ∈ lw_all := lw_g (lw_at lw_m9 216 rfl) rfl
theorem q2269 : (Jvm.Cond.privateMethod ({ cls := "TollLeader$Net", name := "leading", desc := "(Ljava/util/BitSet;)Ljava/util/Iterator;" } : Jvm.MethodName)) ∈ lw_tbl := lw_at lw_m9 238 rfl
theorem q2270 : (Jvm.Cond.instanceMethod ({ cls := "TollLeader$Net", name := "leading", desc := "(Ljava/util/BitSet;)Ljava/util/Iterator;" } : Jvm.MethodName)) ∈ lw_all := lw_g (lw_at lw_m9 239 rfl) rfl
theorem q2271 : (Jvm.Cond.code ({ cls := "TollLeader$Net", name := "leading", desc := "(Ljava/util/BitSet;)Ljava/util/Iterator;" } : Jvm.MethodName) prog_5_method_3_code (2 : Nat) (Option.some (Jvm.ClassFile.FieldType.object "java/util/Iterator"))) ∈ lw_all := lw_g (lw_at lw_m10 0 rfl) rfl
theorem q2272 : (Jvm.Cond.classLink "TollLeader$Net" (36 : Nat) "TollLeader$Net$2") ∈ lw_all := lw_g (lw_at lw_m10 1 rfl) rfl
theorem q2273 : (Jvm.Cond.methodLink "TollLeader$Net" (38 : Nat) ({ cls := "TollLeader$Net$2", name := "<init>", desc := "(LTollLeader$Net;Ljava/util/BitSet;)V" } : Jvm.MethodName)) ∈ lw_all := lw_g (lw_at lw_m10 2 rfl) rfl
theorem q3058 : (Jvm.Cond.castable "TollLeader$Net" "java/lang/Object") ∈ lw_tbl := lw_at lw_m13 67 rfl
theorem in_X3 : ∀ w ∈ wsX30, w ∈ lw_all := lw_in wsX30 [547, 549, 551, 553] (by decide +kernel) (by decide +kernel)
/-! TollLeader$Finder -/
set_option maxRecDepth 100000
def RX4 : String := "TollLeader$Finder"
def TX4 : u_T := fun k => match k with
  | 0 => ("TollLeader$Finder", "far", "[J", true)
  | 1 => ("TollLeader$Finder", "ways", "[J", true)
  | 2 => ("TollLeader$Finder", "path", "[I", true)
  | 3 => ("TollLeader$Finder", "most", "[I", true)
  | 4 => ("TollLeader$Finder", "least", "[I", true)
  | _ => ("TollLeader$Finder", "length", "I", false)
def tyX4 : Nat → FieldType := fun k => match k with
  | 0 => .array .long
  | 1 => .array .long
  | 2 => .array .int
  | 3 => .array .int
  | 4 => .array .int
  | _ => .int
abbrev wsX40 : List Cond := u_ws RX4 TX4 6
theorem nmX4 : ∀ a, a < 6 → ∀ b, b < 6 → a ≠ b → (TX4 a).2.1 ≠ (TX4 b).2.1 := by decide +kernel
theorem tyX4_ok : ∀ k, k < 6 → parseFieldDescriptor (TX4 k).2.2.1 = some (tyX4 k) := by decide +kernel
abbrev cX4_init : ByteArray := prog_4_method_1_code
def yX4_init : MethodName := ⟨RX4, "<init>", "()V"⟩
def dkwX4_init_1 : List UInt8 := [188, 10, 181, 0, 18, 42, 16, 10, 188, 10, 181, 0, 22, 42, 16, 10, 188, 10, 181, 0, 25, 177]
abbrev dktX4_init_1 : List UInt8 := dkwX4_init_1 ++ []
def dkwX4_init_0 : List UInt8 := [42, 183, 0, 3, 42, 16, 10, 188, 11, 181, 0, 9, 42, 16, 10, 188, 11, 181, 0, 15, 42, 16, 10]
abbrev dktX4_init_0 : List UInt8 := dkwX4_init_0 ++ dktX4_init_1
theorem dksX4_init_0 : cX4_init.data.toList.drop 0 = dktX4_init_0 := by decide +kernel
theorem dksX4_init_1 : cX4_init.data.toList.drop 23 = dktX4_init_1 := dk_seg dksX4_init_0 23 rfl rfl
theorem dX4_init_0 : decode cX4_init 0 = .ok (.aload_n 0, 1) := dk_42 (dk_at dksX4_init_0 0 rfl rfl)
theorem dX4_init_1 : decode cX4_init 1 = .ok (.invokespecial 3, 3) := dk_183 0 3 (dk_at dksX4_init_0 1 rfl rfl)
theorem dX4_init_4 : decode cX4_init 4 = .ok (.aload_n 0, 1) := dk_42 (dk_at dksX4_init_0 4 rfl rfl)
theorem dX4_init_5 : decode cX4_init 5 = .ok (.bipush 10, 2) := dk_16 10 (dk_at dksX4_init_0 5 rfl rfl)
theorem dX4_init_7 : decode cX4_init 7 = .ok (.newarray .long, 2) := dk_188_11 (dk_at dksX4_init_0 7 rfl rfl)
theorem dX4_init_9 : decode cX4_init 9 = .ok (.putfield 9, 3) := dk_181 0 9 (dk_at dksX4_init_0 9 rfl rfl)
theorem dX4_init_12 : decode cX4_init 12 = .ok (.aload_n 0, 1) := dk_42 (dk_at dksX4_init_0 12 rfl rfl)
theorem dX4_init_13 : decode cX4_init 13 = .ok (.bipush 10, 2) := dk_16 10 (dk_at dksX4_init_0 13 rfl rfl)
theorem dX4_init_15 : decode cX4_init 15 = .ok (.newarray .long, 2) := dk_188_11 (dk_at dksX4_init_0 15 rfl rfl)
theorem dX4_init_17 : decode cX4_init 17 = .ok (.putfield 15, 3) := dk_181 0 15 (dk_at dksX4_init_0 17 rfl rfl)
theorem dX4_init_20 : decode cX4_init 20 = .ok (.aload_n 0, 1) := dk_42 (dk_at dksX4_init_0 20 rfl rfl)
theorem dX4_init_21 : decode cX4_init 21 = .ok (.bipush 10, 2) := dk_16 10 (dk_at dksX4_init_0 21 rfl rfl)
theorem dX4_init_23 : decode cX4_init 23 = .ok (.newarray .int, 2) := dk_188_10 (dk_at dksX4_init_1 0 rfl rfl)
theorem dX4_init_25 : decode cX4_init 25 = .ok (.putfield 18, 3) := dk_181 0 18 (dk_at dksX4_init_1 2 rfl rfl)
theorem dX4_init_28 : decode cX4_init 28 = .ok (.aload_n 0, 1) := dk_42 (dk_at dksX4_init_1 5 rfl rfl)
theorem dX4_init_29 : decode cX4_init 29 = .ok (.bipush 10, 2) := dk_16 10 (dk_at dksX4_init_1 6 rfl rfl)
theorem dX4_init_31 : decode cX4_init 31 = .ok (.newarray .int, 2) := dk_188_10 (dk_at dksX4_init_1 8 rfl rfl)
theorem dX4_init_33 : decode cX4_init 33 = .ok (.putfield 22, 3) := dk_181 0 22 (dk_at dksX4_init_1 10 rfl rfl)
theorem dX4_init_36 : decode cX4_init 36 = .ok (.aload_n 0, 1) := dk_42 (dk_at dksX4_init_1 13 rfl rfl)
theorem dX4_init_37 : decode cX4_init 37 = .ok (.bipush 10, 2) := dk_16 10 (dk_at dksX4_init_1 14 rfl rfl)
theorem dX4_init_39 : decode cX4_init 39 = .ok (.newarray .int, 2) := dk_188_10 (dk_at dksX4_init_1 16 rfl rfl)
theorem dX4_init_41 : decode cX4_init 41 = .ok (.putfield 25, 3) := dk_181 0 25 (dk_at dksX4_init_1 18 rfl rfl)
theorem dX4_init_44 : decode cX4_init 44 = .ok (.return_, 1) := dk_177 (dk_at dksX4_init_1 21 rfl rfl)
abbrev cX4_walk : ByteArray := prog_4_method_5_code
def yX4_walk : MethodName := ⟨RX4, "walk", "(LTollLeader$State;LTollLeader$Trip;)Z"⟩
def dkwX4_walk_3 : List UInt8 := [25, 4, 182, 0, 76, 62, 167, 255, 209, 4, 172]
abbrev dktX4_walk_3 : List UInt8 := dkwX4_walk_3 ++ []
def dkwX4_walk_2 : List UInt8 := [180, 0, 18, 42, 180, 0, 78, 25, 4, 182, 0, 93, 79, 42, 89, 180, 0, 78, 4, 96, 181, 0, 78]
abbrev dktX4_walk_2 : List UInt8 := dkwX4_walk_2 ++ dktX4_walk_3
def dkwX4_walk_1 : List UInt8 := [182, 0, 67, 62, 29, 44, 182, 0, 42, 159, 0, 45, 42, 43, 44, 29, 182, 0, 89, 58, 4, 42]
abbrev dktX4_walk_1 : List UInt8 := dkwX4_walk_1 ++ dktX4_walk_2
def dkwX4_walk_0 : List UInt8 := [42, 3, 181, 0, 78, 42, 43, 44, 178, 0, 81, 182, 0, 85, 20, 0, 40, 148, 154, 0, 5, 3, 172, 44]
abbrev dktX4_walk_0 : List UInt8 := dkwX4_walk_0 ++ dktX4_walk_1
theorem dksX4_walk_0 : cX4_walk.data.toList.drop 0 = dktX4_walk_0 := by decide +kernel
theorem dksX4_walk_1 : cX4_walk.data.toList.drop 24 = dktX4_walk_1 := dk_seg dksX4_walk_0 24 rfl rfl
theorem dksX4_walk_2 : cX4_walk.data.toList.drop 46 = dktX4_walk_2 := dk_seg dksX4_walk_1 22 rfl rfl
theorem dksX4_walk_3 : cX4_walk.data.toList.drop 69 = dktX4_walk_3 := dk_seg dksX4_walk_2 23 rfl rfl
theorem dX4_walk_0 : decode cX4_walk 0 = .ok (.aload_n 0, 1) := dk_42 (dk_at dksX4_walk_0 0 rfl rfl)
theorem dX4_walk_1 : decode cX4_walk 1 = .ok (.iconst 0, 1) := dk_3 (dk_at dksX4_walk_0 1 rfl rfl)
theorem dX4_walk_2 : decode cX4_walk 2 = .ok (.putfield 78, 3) := dk_181 0 78 (dk_at dksX4_walk_0 2 rfl rfl)
theorem dX4_walk_5 : decode cX4_walk 5 = .ok (.aload_n 0, 1) := dk_42 (dk_at dksX4_walk_0 5 rfl rfl)
theorem dX4_walk_6 : decode cX4_walk 6 = .ok (.aload_n 1, 1) := dk_43 (dk_at dksX4_walk_0 6 rfl rfl)
theorem dX4_walk_7 : decode cX4_walk 7 = .ok (.aload_n 2, 1) := dk_44 (dk_at dksX4_walk_0 7 rfl rfl)
theorem dX4_walk_8 : decode cX4_walk 8 = .ok (.getstatic 81, 3) := dk_178 0 81 (dk_at dksX4_walk_0 8 rfl rfl)
theorem dX4_walk_11 : decode cX4_walk 11 = .ok (.invokevirtual 85, 3) := dk_182 0 85 (dk_at dksX4_walk_0 11 rfl rfl)
theorem dX4_walk_14 : decode cX4_walk 14 = .ok (.ldc2_w 40, 3) := dk_20 0 40 (dk_at dksX4_walk_0 14 rfl rfl)
theorem dX4_walk_17 : decode cX4_walk 17 = .ok (.lcmp, 1) := dk_148 (dk_at dksX4_walk_0 17 rfl rfl)
theorem dX4_walk_18 : decode cX4_walk 18 = .ok (.ifCond .ne 5, 3) := dk_154 0 5 (dk_at dksX4_walk_0 18 rfl rfl)
theorem dX4_walk_21 : decode cX4_walk 21 = .ok (.iconst 0, 1) := dk_3 (dk_at dksX4_walk_0 21 rfl rfl)
theorem dX4_walk_22 : decode cX4_walk 22 = .ok (.ireturn, 1) := dk_172 (dk_at dksX4_walk_0 22 rfl rfl)
theorem dX4_walk_23 : decode cX4_walk 23 = .ok (.aload_n 2, 1) := dk_44 (dk_at dksX4_walk_0 23 rfl rfl)
theorem dX4_walk_24 : decode cX4_walk 24 = .ok (.invokevirtual 67, 3) := dk_182 0 67 (dk_at dksX4_walk_1 0 rfl rfl)
theorem dX4_walk_27 : decode cX4_walk 27 = .ok (.istore_n 3, 1) := dk_62 (dk_at dksX4_walk_1 3 rfl rfl)
theorem dX4_walk_28 : decode cX4_walk 28 = .ok (.iload_n 3, 1) := dk_29 (dk_at dksX4_walk_1 4 rfl rfl)
theorem dX4_walk_29 : decode cX4_walk 29 = .ok (.aload_n 2, 1) := dk_44 (dk_at dksX4_walk_1 5 rfl rfl)
theorem dX4_walk_30 : decode cX4_walk 30 = .ok (.invokevirtual 42, 3) := dk_182 0 42 (dk_at dksX4_walk_1 6 rfl rfl)
theorem dX4_walk_33 : decode cX4_walk 33 = .ok (.if_icmp .eq 45, 3) := dk_159 0 45 (dk_at dksX4_walk_1 9 rfl rfl)
theorem dX4_walk_36 : decode cX4_walk 36 = .ok (.aload_n 0, 1) := dk_42 (dk_at dksX4_walk_1 12 rfl rfl)
theorem dX4_walk_37 : decode cX4_walk 37 = .ok (.aload_n 1, 1) := dk_43 (dk_at dksX4_walk_1 13 rfl rfl)
theorem dX4_walk_38 : decode cX4_walk 38 = .ok (.aload_n 2, 1) := dk_44 (dk_at dksX4_walk_1 14 rfl rfl)
theorem dX4_walk_39 : decode cX4_walk 39 = .ok (.iload_n 3, 1) := dk_29 (dk_at dksX4_walk_1 15 rfl rfl)
theorem dX4_walk_40 : decode cX4_walk 40 = .ok (.invokevirtual 89, 3) := dk_182 0 89 (dk_at dksX4_walk_1 16 rfl rfl)
theorem dX4_walk_43 : decode cX4_walk 43 = .ok (.astore 4, 2) := dk_58 4 (dk_at dksX4_walk_1 19 rfl rfl)
theorem dX4_walk_45 : decode cX4_walk 45 = .ok (.aload_n 0, 1) := dk_42 (dk_at dksX4_walk_1 21 rfl rfl)
theorem dX4_walk_46 : decode cX4_walk 46 = .ok (.getfield 18, 3) := dk_180 0 18 (dk_at dksX4_walk_2 0 rfl rfl)
theorem dX4_walk_49 : decode cX4_walk 49 = .ok (.aload_n 0, 1) := dk_42 (dk_at dksX4_walk_2 3 rfl rfl)
theorem dX4_walk_50 : decode cX4_walk 50 = .ok (.getfield 78, 3) := dk_180 0 78 (dk_at dksX4_walk_2 4 rfl rfl)
theorem dX4_walk_53 : decode cX4_walk 53 = .ok (.aload 4, 2) := dk_25 4 (dk_at dksX4_walk_2 7 rfl rfl)
theorem dX4_walk_55 : decode cX4_walk 55 = .ok (.invokevirtual 93, 3) := dk_182 0 93 (dk_at dksX4_walk_2 9 rfl rfl)
theorem dX4_walk_58 : decode cX4_walk 58 = .ok (.iastore, 1) := dk_79 (dk_at dksX4_walk_2 12 rfl rfl)
theorem dX4_walk_59 : decode cX4_walk 59 = .ok (.aload_n 0, 1) := dk_42 (dk_at dksX4_walk_2 13 rfl rfl)
theorem dX4_walk_60 : decode cX4_walk 60 = .ok (.dup, 1) := dk_89 (dk_at dksX4_walk_2 14 rfl rfl)
theorem dX4_walk_61 : decode cX4_walk 61 = .ok (.getfield 78, 3) := dk_180 0 78 (dk_at dksX4_walk_2 15 rfl rfl)
theorem dX4_walk_64 : decode cX4_walk 64 = .ok (.iconst 1, 1) := dk_4 (dk_at dksX4_walk_2 18 rfl rfl)
theorem dX4_walk_65 : decode cX4_walk 65 = .ok (.iadd, 1) := dk_96 (dk_at dksX4_walk_2 19 rfl rfl)
theorem dX4_walk_66 : decode cX4_walk 66 = .ok (.putfield 78, 3) := dk_181 0 78 (dk_at dksX4_walk_2 20 rfl rfl)
theorem dX4_walk_69 : decode cX4_walk 69 = .ok (.aload 4, 2) := dk_25 4 (dk_at dksX4_walk_3 0 rfl rfl)
theorem dX4_walk_71 : decode cX4_walk 71 = .ok (.invokevirtual 76, 3) := dk_182 0 76 (dk_at dksX4_walk_3 2 rfl rfl)
theorem dX4_walk_74 : decode cX4_walk 74 = .ok (.istore_n 3, 1) := dk_62 (dk_at dksX4_walk_3 5 rfl rfl)
theorem dX4_walk_75 : decode cX4_walk 75 = .ok (.goto (-47), 3) := dk_167 255 209 (dk_at dksX4_walk_3 6 rfl rfl)
theorem dX4_walk_78 : decode cX4_walk 78 = .ok (.iconst 1, 1) := dk_4 (dk_at dksX4_walk_3 9 rfl rfl)
theorem dX4_walk_79 : decode cX4_walk 79 = .ok (.ireturn, 1) := dk_172 (dk_at dksX4_walk_3 10 rfl rfl)
abbrev cX4_measure : ByteArray := prog_4_method_2_code
def yX4_measure : MethodName := ⟨RX4, "measure", "(LTollLeader$State;LTollLeader$Trip;LTollLeader$Weight;)J"⟩
def dkwX4_measure_5 : List UInt8 := [167, 255, 183, 42, 180, 0, 9, 44, 182, 0, 67, 47, 173]
abbrev dktX4_measure_5 : List UInt8 := dkwX4_measure_5 ++ []
def dkwX4_measure_4 : List UInt8 := [182, 0, 63, 154, 0, 8, 21, 4, 153, 0, 7, 4, 167, 0, 4, 3, 54, 4, 132, 5, 1, 167, 255, 197]
abbrev dktX4_measure_4 : List UInt8 := dkwX4_measure_4 ++ dktX4_measure_5
def dkwX4_measure_3 : List UInt8 := [162, 0, 48, 42, 43, 43, 180, 0, 28, 180, 0, 48, 21, 5, 185, 0, 57, 2, 0, 192, 0, 61, 44, 45]
abbrev dktX4_measure_3 : List UInt8 := dkwX4_measure_3 ++ dktX4_measure_4
def dkwX4_measure_2 : List UInt8 := [153, 0, 74, 3, 54, 4, 3, 54, 5, 21, 5, 43, 180, 0, 28, 180, 0, 48, 185, 0, 52, 1, 0]
abbrev dktX4_measure_2 : List UInt8 := dkwX4_measure_2 ++ dktX4_measure_3
def dkwX4_measure_1 : List UInt8 := [80, 132, 4, 1, 167, 255, 231, 42, 180, 0, 9, 44, 182, 0, 42, 9, 80, 4, 54, 4, 21, 4]
abbrev dktX4_measure_1 : List UInt8 := dkwX4_measure_1 ++ dktX4_measure_2
def dkwX4_measure_0 : List UInt8 := [3, 54, 4, 21, 4, 43, 180, 0, 28, 180, 0, 34, 162, 0, 19, 42, 180, 0, 9, 21, 4, 20, 0, 40]
abbrev dktX4_measure_0 : List UInt8 := dkwX4_measure_0 ++ dktX4_measure_1
theorem dksX4_measure_0 : cX4_measure.data.toList.drop 0 = dktX4_measure_0 := by decide +kernel
theorem dksX4_measure_1 : cX4_measure.data.toList.drop 24 = dktX4_measure_1 := dk_seg dksX4_measure_0 24 rfl rfl
theorem dksX4_measure_2 : cX4_measure.data.toList.drop 46 = dktX4_measure_2 := dk_seg dksX4_measure_1 22 rfl rfl
theorem dksX4_measure_3 : cX4_measure.data.toList.drop 69 = dktX4_measure_3 := dk_seg dksX4_measure_2 23 rfl rfl
theorem dksX4_measure_4 : cX4_measure.data.toList.drop 93 = dktX4_measure_4 := dk_seg dksX4_measure_3 24 rfl rfl
theorem dksX4_measure_5 : cX4_measure.data.toList.drop 117 = dktX4_measure_5 := dk_seg dksX4_measure_4 24 rfl rfl
theorem dX4_measure_0 : decode cX4_measure 0 = .ok (.iconst 0, 1) := dk_3 (dk_at dksX4_measure_0 0 rfl rfl)
theorem dX4_measure_1 : decode cX4_measure 1 = .ok (.istore 4, 2) := dk_54 4 (dk_at dksX4_measure_0 1 rfl rfl)
theorem dX4_measure_3 : decode cX4_measure 3 = .ok (.iload 4, 2) := dk_21 4 (dk_at dksX4_measure_0 3 rfl rfl)
theorem dX4_measure_5 : decode cX4_measure 5 = .ok (.aload_n 1, 1) := dk_43 (dk_at dksX4_measure_0 5 rfl rfl)
theorem dX4_measure_6 : decode cX4_measure 6 = .ok (.getfield 28, 3) := dk_180 0 28 (dk_at dksX4_measure_0 6 rfl rfl)
theorem dX4_measure_9 : decode cX4_measure 9 = .ok (.getfield 34, 3) := dk_180 0 34 (dk_at dksX4_measure_0 9 rfl rfl)
theorem dX4_measure_12 : decode cX4_measure 12 = .ok (.if_icmp .ge 19, 3) := dk_162 0 19 (dk_at dksX4_measure_0 12 rfl rfl)
theorem dX4_measure_15 : decode cX4_measure 15 = .ok (.aload_n 0, 1) := dk_42 (dk_at dksX4_measure_0 15 rfl rfl)
theorem dX4_measure_16 : decode cX4_measure 16 = .ok (.getfield 9, 3) := dk_180 0 9 (dk_at dksX4_measure_0 16 rfl rfl)
theorem dX4_measure_19 : decode cX4_measure 19 = .ok (.iload 4, 2) := dk_21 4 (dk_at dksX4_measure_0 19 rfl rfl)
theorem dX4_measure_21 : decode cX4_measure 21 = .ok (.ldc2_w 40, 3) := dk_20 0 40 (dk_at dksX4_measure_0 21 rfl rfl)
theorem dX4_measure_24 : decode cX4_measure 24 = .ok (.lastore, 1) := dk_80 (dk_at dksX4_measure_1 0 rfl rfl)
theorem dX4_measure_25 : decode cX4_measure 25 = .ok (.iinc 4 1, 3) := dk_132 4 1 (dk_at dksX4_measure_1 1 rfl rfl)
theorem dX4_measure_28 : decode cX4_measure 28 = .ok (.goto (-25), 3) := dk_167 255 231 (dk_at dksX4_measure_1 4 rfl rfl)
theorem dX4_measure_31 : decode cX4_measure 31 = .ok (.aload_n 0, 1) := dk_42 (dk_at dksX4_measure_1 7 rfl rfl)
theorem dX4_measure_32 : decode cX4_measure 32 = .ok (.getfield 9, 3) := dk_180 0 9 (dk_at dksX4_measure_1 8 rfl rfl)
theorem dX4_measure_35 : decode cX4_measure 35 = .ok (.aload_n 2, 1) := dk_44 (dk_at dksX4_measure_1 11 rfl rfl)
theorem dX4_measure_36 : decode cX4_measure 36 = .ok (.invokevirtual 42, 3) := dk_182 0 42 (dk_at dksX4_measure_1 12 rfl rfl)
theorem dX4_measure_39 : decode cX4_measure 39 = .ok (.lconst 0, 1) := dk_9 (dk_at dksX4_measure_1 15 rfl rfl)
theorem dX4_measure_40 : decode cX4_measure 40 = .ok (.lastore, 1) := dk_80 (dk_at dksX4_measure_1 16 rfl rfl)
theorem dX4_measure_41 : decode cX4_measure 41 = .ok (.iconst 1, 1) := dk_4 (dk_at dksX4_measure_1 17 rfl rfl)
theorem dX4_measure_42 : decode cX4_measure 42 = .ok (.istore 4, 2) := dk_54 4 (dk_at dksX4_measure_1 18 rfl rfl)
theorem dX4_measure_44 : decode cX4_measure 44 = .ok (.iload 4, 2) := dk_21 4 (dk_at dksX4_measure_1 20 rfl rfl)
theorem dX4_measure_46 : decode cX4_measure 46 = .ok (.ifCond .eq 74, 3) := dk_153 0 74 (dk_at dksX4_measure_2 0 rfl rfl)
theorem dX4_measure_49 : decode cX4_measure 49 = .ok (.iconst 0, 1) := dk_3 (dk_at dksX4_measure_2 3 rfl rfl)
theorem dX4_measure_50 : decode cX4_measure 50 = .ok (.istore 4, 2) := dk_54 4 (dk_at dksX4_measure_2 4 rfl rfl)
theorem dX4_measure_52 : decode cX4_measure 52 = .ok (.iconst 0, 1) := dk_3 (dk_at dksX4_measure_2 6 rfl rfl)
theorem dX4_measure_53 : decode cX4_measure 53 = .ok (.istore 5, 2) := dk_54 5 (dk_at dksX4_measure_2 7 rfl rfl)
theorem dX4_measure_55 : decode cX4_measure 55 = .ok (.iload 5, 2) := dk_21 5 (dk_at dksX4_measure_2 9 rfl rfl)
theorem dX4_measure_57 : decode cX4_measure 57 = .ok (.aload_n 1, 1) := dk_43 (dk_at dksX4_measure_2 11 rfl rfl)
theorem dX4_measure_58 : decode cX4_measure 58 = .ok (.getfield 28, 3) := dk_180 0 28 (dk_at dksX4_measure_2 12 rfl rfl)
theorem dX4_measure_61 : decode cX4_measure 61 = .ok (.getfield 48, 3) := dk_180 0 48 (dk_at dksX4_measure_2 15 rfl rfl)
theorem dX4_measure_64 : decode cX4_measure 64 = .ok (.invokeinterface 52 1, 5) := by decide +kernel
theorem dX4_measure_69 : decode cX4_measure 69 = .ok (.if_icmp .ge 48, 3) := dk_162 0 48 (dk_at dksX4_measure_3 0 rfl rfl)
theorem dX4_measure_72 : decode cX4_measure 72 = .ok (.aload_n 0, 1) := dk_42 (dk_at dksX4_measure_3 3 rfl rfl)
theorem dX4_measure_73 : decode cX4_measure 73 = .ok (.aload_n 1, 1) := dk_43 (dk_at dksX4_measure_3 4 rfl rfl)
theorem dX4_measure_74 : decode cX4_measure 74 = .ok (.aload_n 1, 1) := dk_43 (dk_at dksX4_measure_3 5 rfl rfl)
theorem dX4_measure_75 : decode cX4_measure 75 = .ok (.getfield 28, 3) := dk_180 0 28 (dk_at dksX4_measure_3 6 rfl rfl)
theorem dX4_measure_78 : decode cX4_measure 78 = .ok (.getfield 48, 3) := dk_180 0 48 (dk_at dksX4_measure_3 9 rfl rfl)
theorem dX4_measure_81 : decode cX4_measure 81 = .ok (.iload 5, 2) := dk_21 5 (dk_at dksX4_measure_3 12 rfl rfl)
theorem dX4_measure_83 : decode cX4_measure 83 = .ok (.invokeinterface 57 2, 5) := by decide +kernel
theorem dX4_measure_88 : decode cX4_measure 88 = .ok (.checkcast 61, 3) := dk_192 0 61 (dk_at dksX4_measure_3 19 rfl rfl)
theorem dX4_measure_91 : decode cX4_measure 91 = .ok (.aload_n 2, 1) := dk_44 (dk_at dksX4_measure_3 22 rfl rfl)
theorem dX4_measure_92 : decode cX4_measure 92 = .ok (.aload_n 3, 1) := dk_45 (dk_at dksX4_measure_3 23 rfl rfl)
theorem dX4_measure_93 : decode cX4_measure 93 = .ok (.invokevirtual 63, 3) := dk_182 0 63 (dk_at dksX4_measure_4 0 rfl rfl)
theorem dX4_measure_96 : decode cX4_measure 96 = .ok (.ifCond .ne 8, 3) := dk_154 0 8 (dk_at dksX4_measure_4 3 rfl rfl)
theorem dX4_measure_99 : decode cX4_measure 99 = .ok (.iload 4, 2) := dk_21 4 (dk_at dksX4_measure_4 6 rfl rfl)
theorem dX4_measure_101 : decode cX4_measure 101 = .ok (.ifCond .eq 7, 3) := dk_153 0 7 (dk_at dksX4_measure_4 8 rfl rfl)
theorem dX4_measure_104 : decode cX4_measure 104 = .ok (.iconst 1, 1) := dk_4 (dk_at dksX4_measure_4 11 rfl rfl)
theorem dX4_measure_105 : decode cX4_measure 105 = .ok (.goto 4, 3) := dk_167 0 4 (dk_at dksX4_measure_4 12 rfl rfl)
theorem dX4_measure_108 : decode cX4_measure 108 = .ok (.iconst 0, 1) := dk_3 (dk_at dksX4_measure_4 15 rfl rfl)
theorem dX4_measure_109 : decode cX4_measure 109 = .ok (.istore 4, 2) := dk_54 4 (dk_at dksX4_measure_4 16 rfl rfl)
theorem dX4_measure_111 : decode cX4_measure 111 = .ok (.iinc 5 1, 3) := dk_132 5 1 (dk_at dksX4_measure_4 18 rfl rfl)
theorem dX4_measure_114 : decode cX4_measure 114 = .ok (.goto (-59), 3) := dk_167 255 197 (dk_at dksX4_measure_4 21 rfl rfl)
theorem dX4_measure_117 : decode cX4_measure 117 = .ok (.goto (-73), 3) := dk_167 255 183 (dk_at dksX4_measure_5 0 rfl rfl)
theorem dX4_measure_120 : decode cX4_measure 120 = .ok (.aload_n 0, 1) := dk_42 (dk_at dksX4_measure_5 3 rfl rfl)
theorem dX4_measure_121 : decode cX4_measure 121 = .ok (.getfield 9, 3) := dk_180 0 9 (dk_at dksX4_measure_5 4 rfl rfl)
theorem dX4_measure_124 : decode cX4_measure 124 = .ok (.aload_n 2, 1) := dk_44 (dk_at dksX4_measure_5 7 rfl rfl)
theorem dX4_measure_125 : decode cX4_measure 125 = .ok (.invokevirtual 67, 3) := dk_182 0 67 (dk_at dksX4_measure_5 8 rfl rfl)
theorem dX4_measure_128 : decode cX4_measure 128 = .ok (.laload, 1) := dk_47 (dk_at dksX4_measure_5 11 rfl rfl)
theorem dX4_measure_129 : decode cX4_measure 129 = .ok (.lreturn, 1) := dk_173 (dk_at dksX4_measure_5 12 rfl rfl)
abbrev cX4_shorten : ByteArray := prog_4_method_3_code
def yX4_shorten : MethodName := ⟨RX4, "shorten", "(LTollLeader$State;LTollLeader$Arc;LTollLeader$Trip;LTollLeader$Weight;)Z"⟩
def dkwX4_shorten_3 : List UInt8 := [180, 0, 9, 44, 182, 0, 76, 47, 22, 5, 97, 80, 4, 172]
abbrev dktX4_shorten_3 : List UInt8 := dkwX4_shorten_3 ++ []
def dkwX4_shorten_2 : List UInt8 := [180, 0, 9, 44, 182, 0, 77, 47, 148, 155, 0, 5, 3, 172, 42, 180, 0, 9, 44, 182, 0, 77, 42]
abbrev dktX4_shorten_2 : List UInt8 := dkwX4_shorten_2 ++ dktX4_shorten_3
def dkwX4_shorten_1 : List UInt8 := [182, 0, 76, 47, 20, 0, 40, 148, 153, 0, 28, 42, 180, 0, 9, 44, 182, 0, 76, 47, 22, 5, 97, 42]
abbrev dktX4_shorten_1 : List UInt8 := dkwX4_shorten_1 ++ dktX4_shorten_2
def dkwX4_shorten_0 : List UInt8 := [25, 4, 43, 44, 45, 185, 0, 70, 4, 0, 55, 5, 22, 5, 9, 148, 155, 0, 44, 42, 180, 0, 9, 44]
abbrev dktX4_shorten_0 : List UInt8 := dkwX4_shorten_0 ++ dktX4_shorten_1
theorem dksX4_shorten_0 : cX4_shorten.data.toList.drop 0 = dktX4_shorten_0 := by decide +kernel
theorem dksX4_shorten_1 : cX4_shorten.data.toList.drop 24 = dktX4_shorten_1 := dk_seg dksX4_shorten_0 24 rfl rfl
theorem dksX4_shorten_2 : cX4_shorten.data.toList.drop 48 = dktX4_shorten_2 := dk_seg dksX4_shorten_1 24 rfl rfl
theorem dksX4_shorten_3 : cX4_shorten.data.toList.drop 71 = dktX4_shorten_3 := dk_seg dksX4_shorten_2 23 rfl rfl
theorem dX4_shorten_0 : decode cX4_shorten 0 = .ok (.aload 4, 2) := dk_25 4 (dk_at dksX4_shorten_0 0 rfl rfl)
theorem dX4_shorten_2 : decode cX4_shorten 2 = .ok (.aload_n 1, 1) := dk_43 (dk_at dksX4_shorten_0 2 rfl rfl)
theorem dX4_shorten_3 : decode cX4_shorten 3 = .ok (.aload_n 2, 1) := dk_44 (dk_at dksX4_shorten_0 3 rfl rfl)
theorem dX4_shorten_4 : decode cX4_shorten 4 = .ok (.aload_n 3, 1) := dk_45 (dk_at dksX4_shorten_0 4 rfl rfl)
theorem dX4_shorten_5 : decode cX4_shorten 5 = .ok (.invokeinterface 70 4, 5) := by decide +kernel
theorem dX4_shorten_10 : decode cX4_shorten 10 = .ok (.lstore 5, 2) := dk_55 5 (dk_at dksX4_shorten_0 10 rfl rfl)
theorem dX4_shorten_12 : decode cX4_shorten 12 = .ok (.lload 5, 2) := dk_22 5 (dk_at dksX4_shorten_0 12 rfl rfl)
theorem dX4_shorten_14 : decode cX4_shorten 14 = .ok (.lconst 0, 1) := dk_9 (dk_at dksX4_shorten_0 14 rfl rfl)
theorem dX4_shorten_15 : decode cX4_shorten 15 = .ok (.lcmp, 1) := dk_148 (dk_at dksX4_shorten_0 15 rfl rfl)
theorem dX4_shorten_16 : decode cX4_shorten 16 = .ok (.ifCond .lt 44, 3) := dk_155 0 44 (dk_at dksX4_shorten_0 16 rfl rfl)
theorem dX4_shorten_19 : decode cX4_shorten 19 = .ok (.aload_n 0, 1) := dk_42 (dk_at dksX4_shorten_0 19 rfl rfl)
theorem dX4_shorten_20 : decode cX4_shorten 20 = .ok (.getfield 9, 3) := dk_180 0 9 (dk_at dksX4_shorten_0 20 rfl rfl)
theorem dX4_shorten_23 : decode cX4_shorten 23 = .ok (.aload_n 2, 1) := dk_44 (dk_at dksX4_shorten_0 23 rfl rfl)
theorem dX4_shorten_24 : decode cX4_shorten 24 = .ok (.invokevirtual 76, 3) := dk_182 0 76 (dk_at dksX4_shorten_1 0 rfl rfl)
theorem dX4_shorten_27 : decode cX4_shorten 27 = .ok (.laload, 1) := dk_47 (dk_at dksX4_shorten_1 3 rfl rfl)
theorem dX4_shorten_28 : decode cX4_shorten 28 = .ok (.ldc2_w 40, 3) := dk_20 0 40 (dk_at dksX4_shorten_1 4 rfl rfl)
theorem dX4_shorten_31 : decode cX4_shorten 31 = .ok (.lcmp, 1) := dk_148 (dk_at dksX4_shorten_1 7 rfl rfl)
theorem dX4_shorten_32 : decode cX4_shorten 32 = .ok (.ifCond .eq 28, 3) := dk_153 0 28 (dk_at dksX4_shorten_1 8 rfl rfl)
theorem dX4_shorten_35 : decode cX4_shorten 35 = .ok (.aload_n 0, 1) := dk_42 (dk_at dksX4_shorten_1 11 rfl rfl)
theorem dX4_shorten_36 : decode cX4_shorten 36 = .ok (.getfield 9, 3) := dk_180 0 9 (dk_at dksX4_shorten_1 12 rfl rfl)
theorem dX4_shorten_39 : decode cX4_shorten 39 = .ok (.aload_n 2, 1) := dk_44 (dk_at dksX4_shorten_1 15 rfl rfl)
theorem dX4_shorten_40 : decode cX4_shorten 40 = .ok (.invokevirtual 76, 3) := dk_182 0 76 (dk_at dksX4_shorten_1 16 rfl rfl)
theorem dX4_shorten_43 : decode cX4_shorten 43 = .ok (.laload, 1) := dk_47 (dk_at dksX4_shorten_1 19 rfl rfl)
theorem dX4_shorten_44 : decode cX4_shorten 44 = .ok (.lload 5, 2) := dk_22 5 (dk_at dksX4_shorten_1 20 rfl rfl)
theorem dX4_shorten_46 : decode cX4_shorten 46 = .ok (.ladd, 1) := dk_97 (dk_at dksX4_shorten_1 22 rfl rfl)
theorem dX4_shorten_47 : decode cX4_shorten 47 = .ok (.aload_n 0, 1) := dk_42 (dk_at dksX4_shorten_1 23 rfl rfl)
theorem dX4_shorten_48 : decode cX4_shorten 48 = .ok (.getfield 9, 3) := dk_180 0 9 (dk_at dksX4_shorten_2 0 rfl rfl)
theorem dX4_shorten_51 : decode cX4_shorten 51 = .ok (.aload_n 2, 1) := dk_44 (dk_at dksX4_shorten_2 3 rfl rfl)
theorem dX4_shorten_52 : decode cX4_shorten 52 = .ok (.invokevirtual 77, 3) := dk_182 0 77 (dk_at dksX4_shorten_2 4 rfl rfl)
theorem dX4_shorten_55 : decode cX4_shorten 55 = .ok (.laload, 1) := dk_47 (dk_at dksX4_shorten_2 7 rfl rfl)
theorem dX4_shorten_56 : decode cX4_shorten 56 = .ok (.lcmp, 1) := dk_148 (dk_at dksX4_shorten_2 8 rfl rfl)
theorem dX4_shorten_57 : decode cX4_shorten 57 = .ok (.ifCond .lt 5, 3) := dk_155 0 5 (dk_at dksX4_shorten_2 9 rfl rfl)
theorem dX4_shorten_60 : decode cX4_shorten 60 = .ok (.iconst 0, 1) := dk_3 (dk_at dksX4_shorten_2 12 rfl rfl)
theorem dX4_shorten_61 : decode cX4_shorten 61 = .ok (.ireturn, 1) := dk_172 (dk_at dksX4_shorten_2 13 rfl rfl)
theorem dX4_shorten_62 : decode cX4_shorten 62 = .ok (.aload_n 0, 1) := dk_42 (dk_at dksX4_shorten_2 14 rfl rfl)
theorem dX4_shorten_63 : decode cX4_shorten 63 = .ok (.getfield 9, 3) := dk_180 0 9 (dk_at dksX4_shorten_2 15 rfl rfl)
theorem dX4_shorten_66 : decode cX4_shorten 66 = .ok (.aload_n 2, 1) := dk_44 (dk_at dksX4_shorten_2 18 rfl rfl)
theorem dX4_shorten_67 : decode cX4_shorten 67 = .ok (.invokevirtual 77, 3) := dk_182 0 77 (dk_at dksX4_shorten_2 19 rfl rfl)
theorem dX4_shorten_70 : decode cX4_shorten 70 = .ok (.aload_n 0, 1) := dk_42 (dk_at dksX4_shorten_2 22 rfl rfl)
theorem dX4_shorten_71 : decode cX4_shorten 71 = .ok (.getfield 9, 3) := dk_180 0 9 (dk_at dksX4_shorten_3 0 rfl rfl)
theorem dX4_shorten_74 : decode cX4_shorten 74 = .ok (.aload_n 2, 1) := dk_44 (dk_at dksX4_shorten_3 3 rfl rfl)
theorem dX4_shorten_75 : decode cX4_shorten 75 = .ok (.invokevirtual 76, 3) := dk_182 0 76 (dk_at dksX4_shorten_3 4 rfl rfl)
theorem dX4_shorten_78 : decode cX4_shorten 78 = .ok (.laload, 1) := dk_47 (dk_at dksX4_shorten_3 7 rfl rfl)
theorem dX4_shorten_79 : decode cX4_shorten 79 = .ok (.lload 5, 2) := dk_22 5 (dk_at dksX4_shorten_3 8 rfl rfl)
theorem dX4_shorten_81 : decode cX4_shorten 81 = .ok (.ladd, 1) := dk_97 (dk_at dksX4_shorten_3 10 rfl rfl)
theorem dX4_shorten_82 : decode cX4_shorten 82 = .ok (.lastore, 1) := dk_80 (dk_at dksX4_shorten_3 11 rfl rfl)
theorem dX4_shorten_83 : decode cX4_shorten 83 = .ok (.iconst 1, 1) := dk_4 (dk_at dksX4_shorten_3 12 rfl rfl)
theorem dX4_shorten_84 : decode cX4_shorten 84 = .ok (.ireturn, 1) := dk_172 (dk_at dksX4_shorten_3 13 rfl rfl)
abbrev cX4_next : ByteArray := prog_4_method_6_code
def yX4_next : MethodName := ⟨RX4, "next", "(LTollLeader$State;LTollLeader$Trip;I)LTollLeader$Arc;"⟩
def dkwX4_next_3 : List UInt8 := [187, 0, 99, 89, 183, 0, 101, 191]
abbrev dktX4_next_3 : List UInt8 := dkwX4_next_3 ++ []
def dkwX4_next_2 : List UInt8 := [42, 43, 25, 5, 44, 178, 0, 81, 182, 0, 96, 153, 0, 6, 25, 5, 176, 132, 4, 1, 167, 255, 191]
abbrev dktX4_next_2 : List UInt8 := dkwX4_next_2 ++ dktX4_next_3
def dkwX4_next_1 : List UInt8 := [180, 0, 48, 21, 4, 185, 0, 57, 2, 0, 192, 0, 61, 58, 5, 25, 5, 182, 0, 77, 29, 160, 0, 20]
abbrev dktX4_next_1 : List UInt8 := dkwX4_next_1 ++ dktX4_next_2
def dkwX4_next_0 : List UInt8 := [3, 54, 4, 21, 4, 43, 180, 0, 28, 180, 0, 48, 185, 0, 52, 1, 0, 162, 0, 54, 43, 180, 0, 28]
abbrev dktX4_next_0 : List UInt8 := dkwX4_next_0 ++ dktX4_next_1
theorem dksX4_next_0 : cX4_next.data.toList.drop 0 = dktX4_next_0 := by decide +kernel
theorem dksX4_next_1 : cX4_next.data.toList.drop 24 = dktX4_next_1 := dk_seg dksX4_next_0 24 rfl rfl
theorem dksX4_next_2 : cX4_next.data.toList.drop 48 = dktX4_next_2 := dk_seg dksX4_next_1 24 rfl rfl
theorem dksX4_next_3 : cX4_next.data.toList.drop 71 = dktX4_next_3 := dk_seg dksX4_next_2 23 rfl rfl
theorem dX4_next_0 : decode cX4_next 0 = .ok (.iconst 0, 1) := dk_3 (dk_at dksX4_next_0 0 rfl rfl)
theorem dX4_next_1 : decode cX4_next 1 = .ok (.istore 4, 2) := dk_54 4 (dk_at dksX4_next_0 1 rfl rfl)
theorem dX4_next_3 : decode cX4_next 3 = .ok (.iload 4, 2) := dk_21 4 (dk_at dksX4_next_0 3 rfl rfl)
theorem dX4_next_5 : decode cX4_next 5 = .ok (.aload_n 1, 1) := dk_43 (dk_at dksX4_next_0 5 rfl rfl)
theorem dX4_next_6 : decode cX4_next 6 = .ok (.getfield 28, 3) := dk_180 0 28 (dk_at dksX4_next_0 6 rfl rfl)
theorem dX4_next_9 : decode cX4_next 9 = .ok (.getfield 48, 3) := dk_180 0 48 (dk_at dksX4_next_0 9 rfl rfl)
theorem dX4_next_12 : decode cX4_next 12 = .ok (.invokeinterface 52 1, 5) := by decide +kernel
theorem dX4_next_17 : decode cX4_next 17 = .ok (.if_icmp .ge 54, 3) := dk_162 0 54 (dk_at dksX4_next_0 17 rfl rfl)
theorem dX4_next_20 : decode cX4_next 20 = .ok (.aload_n 1, 1) := dk_43 (dk_at dksX4_next_0 20 rfl rfl)
theorem dX4_next_21 : decode cX4_next 21 = .ok (.getfield 28, 3) := dk_180 0 28 (dk_at dksX4_next_0 21 rfl rfl)
theorem dX4_next_24 : decode cX4_next 24 = .ok (.getfield 48, 3) := dk_180 0 48 (dk_at dksX4_next_1 0 rfl rfl)
theorem dX4_next_27 : decode cX4_next 27 = .ok (.iload 4, 2) := dk_21 4 (dk_at dksX4_next_1 3 rfl rfl)
theorem dX4_next_29 : decode cX4_next 29 = .ok (.invokeinterface 57 2, 5) := by decide +kernel
theorem dX4_next_34 : decode cX4_next 34 = .ok (.checkcast 61, 3) := dk_192 0 61 (dk_at dksX4_next_1 10 rfl rfl)
theorem dX4_next_37 : decode cX4_next 37 = .ok (.astore 5, 2) := dk_58 5 (dk_at dksX4_next_1 13 rfl rfl)
theorem dX4_next_39 : decode cX4_next 39 = .ok (.aload 5, 2) := dk_25 5 (dk_at dksX4_next_1 15 rfl rfl)
theorem dX4_next_41 : decode cX4_next 41 = .ok (.invokevirtual 77, 3) := dk_182 0 77 (dk_at dksX4_next_1 17 rfl rfl)
theorem dX4_next_44 : decode cX4_next 44 = .ok (.iload_n 3, 1) := dk_29 (dk_at dksX4_next_1 20 rfl rfl)
theorem dX4_next_45 : decode cX4_next 45 = .ok (.if_icmp .ne 20, 3) := dk_160 0 20 (dk_at dksX4_next_1 21 rfl rfl)
theorem dX4_next_48 : decode cX4_next 48 = .ok (.aload_n 0, 1) := dk_42 (dk_at dksX4_next_2 0 rfl rfl)
theorem dX4_next_49 : decode cX4_next 49 = .ok (.aload_n 1, 1) := dk_43 (dk_at dksX4_next_2 1 rfl rfl)
theorem dX4_next_50 : decode cX4_next 50 = .ok (.aload 5, 2) := dk_25 5 (dk_at dksX4_next_2 2 rfl rfl)
theorem dX4_next_52 : decode cX4_next 52 = .ok (.aload_n 2, 1) := dk_44 (dk_at dksX4_next_2 4 rfl rfl)
theorem dX4_next_53 : decode cX4_next 53 = .ok (.getstatic 81, 3) := dk_178 0 81 (dk_at dksX4_next_2 5 rfl rfl)
theorem dX4_next_56 : decode cX4_next 56 = .ok (.invokevirtual 96, 3) := dk_182 0 96 (dk_at dksX4_next_2 8 rfl rfl)
theorem dX4_next_59 : decode cX4_next 59 = .ok (.ifCond .eq 6, 3) := dk_153 0 6 (dk_at dksX4_next_2 11 rfl rfl)
theorem dX4_next_62 : decode cX4_next 62 = .ok (.aload 5, 2) := dk_25 5 (dk_at dksX4_next_2 14 rfl rfl)
theorem dX4_next_64 : decode cX4_next 64 = .ok (.areturn, 1) := dk_176 (dk_at dksX4_next_2 16 rfl rfl)
theorem dX4_next_65 : decode cX4_next 65 = .ok (.iinc 4 1, 3) := dk_132 4 1 (dk_at dksX4_next_2 17 rfl rfl)
theorem dX4_next_68 : decode cX4_next 68 = .ok (.goto (-65), 3) := dk_167 255 191 (dk_at dksX4_next_2 20 rfl rfl)
theorem dX4_next_71 : decode cX4_next 71 = .ok (.new 99, 3) := dk_187 0 99 (dk_at dksX4_next_3 0 rfl rfl)
theorem dX4_next_74 : decode cX4_next 74 = .ok (.dup, 1) := dk_89 (dk_at dksX4_next_3 3 rfl rfl)
theorem dX4_next_75 : decode cX4_next 75 = .ok (.invokespecial 101, 3) := dk_183 0 101 (dk_at dksX4_next_3 4 rfl rfl)
theorem dX4_next_78 : decode cX4_next 78 = .ok (.athrow, 1) := dk_191 (dk_at dksX4_next_3 7 rfl rfl)
abbrev cX4_isTight : ByteArray := prog_4_method_4_code
def yX4_isTight : MethodName := ⟨RX4, "isTight", "(LTollLeader$State;LTollLeader$Arc;LTollLeader$Trip;LTollLeader$Weight;)Z"⟩
def dkwX4_isTight_2 : List UInt8 := [180, 0, 9, 44, 182, 0, 77, 47, 148, 154, 0, 7, 4, 167, 0, 4, 3, 172]
abbrev dktX4_isTight_2 : List UInt8 := dkwX4_isTight_2 ++ []
def dkwX4_isTight_1 : List UInt8 := [182, 0, 76, 47, 20, 0, 40, 148, 153, 0, 32, 42, 180, 0, 9, 44, 182, 0, 76, 47, 22, 5, 97, 42]
abbrev dktX4_isTight_1 : List UInt8 := dkwX4_isTight_1 ++ dktX4_isTight_2
def dkwX4_isTight_0 : List UInt8 := [25, 4, 43, 44, 45, 185, 0, 70, 4, 0, 55, 5, 22, 5, 9, 148, 155, 0, 48, 42, 180, 0, 9, 44]
abbrev dktX4_isTight_0 : List UInt8 := dkwX4_isTight_0 ++ dktX4_isTight_1
theorem dksX4_isTight_0 : cX4_isTight.data.toList.drop 0 = dktX4_isTight_0 := by decide +kernel
theorem dksX4_isTight_1 : cX4_isTight.data.toList.drop 24 = dktX4_isTight_1 := dk_seg dksX4_isTight_0 24 rfl rfl
theorem dksX4_isTight_2 : cX4_isTight.data.toList.drop 48 = dktX4_isTight_2 := dk_seg dksX4_isTight_1 24 rfl rfl
theorem dX4_isTight_0 : decode cX4_isTight 0 = .ok (.aload 4, 2) := dk_25 4 (dk_at dksX4_isTight_0 0 rfl rfl)
theorem dX4_isTight_2 : decode cX4_isTight 2 = .ok (.aload_n 1, 1) := dk_43 (dk_at dksX4_isTight_0 2 rfl rfl)
theorem dX4_isTight_3 : decode cX4_isTight 3 = .ok (.aload_n 2, 1) := dk_44 (dk_at dksX4_isTight_0 3 rfl rfl)
theorem dX4_isTight_4 : decode cX4_isTight 4 = .ok (.aload_n 3, 1) := dk_45 (dk_at dksX4_isTight_0 4 rfl rfl)
theorem dX4_isTight_5 : decode cX4_isTight 5 = .ok (.invokeinterface 70 4, 5) := by decide +kernel
theorem dX4_isTight_10 : decode cX4_isTight 10 = .ok (.lstore 5, 2) := dk_55 5 (dk_at dksX4_isTight_0 10 rfl rfl)
theorem dX4_isTight_12 : decode cX4_isTight 12 = .ok (.lload 5, 2) := dk_22 5 (dk_at dksX4_isTight_0 12 rfl rfl)
theorem dX4_isTight_14 : decode cX4_isTight 14 = .ok (.lconst 0, 1) := dk_9 (dk_at dksX4_isTight_0 14 rfl rfl)
theorem dX4_isTight_15 : decode cX4_isTight 15 = .ok (.lcmp, 1) := dk_148 (dk_at dksX4_isTight_0 15 rfl rfl)
theorem dX4_isTight_16 : decode cX4_isTight 16 = .ok (.ifCond .lt 48, 3) := dk_155 0 48 (dk_at dksX4_isTight_0 16 rfl rfl)
theorem dX4_isTight_19 : decode cX4_isTight 19 = .ok (.aload_n 0, 1) := dk_42 (dk_at dksX4_isTight_0 19 rfl rfl)
theorem dX4_isTight_20 : decode cX4_isTight 20 = .ok (.getfield 9, 3) := dk_180 0 9 (dk_at dksX4_isTight_0 20 rfl rfl)
theorem dX4_isTight_23 : decode cX4_isTight 23 = .ok (.aload_n 2, 1) := dk_44 (dk_at dksX4_isTight_0 23 rfl rfl)
theorem dX4_isTight_24 : decode cX4_isTight 24 = .ok (.invokevirtual 76, 3) := dk_182 0 76 (dk_at dksX4_isTight_1 0 rfl rfl)
theorem dX4_isTight_27 : decode cX4_isTight 27 = .ok (.laload, 1) := dk_47 (dk_at dksX4_isTight_1 3 rfl rfl)
theorem dX4_isTight_28 : decode cX4_isTight 28 = .ok (.ldc2_w 40, 3) := dk_20 0 40 (dk_at dksX4_isTight_1 4 rfl rfl)
theorem dX4_isTight_31 : decode cX4_isTight 31 = .ok (.lcmp, 1) := dk_148 (dk_at dksX4_isTight_1 7 rfl rfl)
theorem dX4_isTight_32 : decode cX4_isTight 32 = .ok (.ifCond .eq 32, 3) := dk_153 0 32 (dk_at dksX4_isTight_1 8 rfl rfl)
theorem dX4_isTight_35 : decode cX4_isTight 35 = .ok (.aload_n 0, 1) := dk_42 (dk_at dksX4_isTight_1 11 rfl rfl)
theorem dX4_isTight_36 : decode cX4_isTight 36 = .ok (.getfield 9, 3) := dk_180 0 9 (dk_at dksX4_isTight_1 12 rfl rfl)
theorem dX4_isTight_39 : decode cX4_isTight 39 = .ok (.aload_n 2, 1) := dk_44 (dk_at dksX4_isTight_1 15 rfl rfl)
theorem dX4_isTight_40 : decode cX4_isTight 40 = .ok (.invokevirtual 76, 3) := dk_182 0 76 (dk_at dksX4_isTight_1 16 rfl rfl)
theorem dX4_isTight_43 : decode cX4_isTight 43 = .ok (.laload, 1) := dk_47 (dk_at dksX4_isTight_1 19 rfl rfl)
theorem dX4_isTight_44 : decode cX4_isTight 44 = .ok (.lload 5, 2) := dk_22 5 (dk_at dksX4_isTight_1 20 rfl rfl)
theorem dX4_isTight_46 : decode cX4_isTight 46 = .ok (.ladd, 1) := dk_97 (dk_at dksX4_isTight_1 22 rfl rfl)
theorem dX4_isTight_47 : decode cX4_isTight 47 = .ok (.aload_n 0, 1) := dk_42 (dk_at dksX4_isTight_1 23 rfl rfl)
theorem dX4_isTight_48 : decode cX4_isTight 48 = .ok (.getfield 9, 3) := dk_180 0 9 (dk_at dksX4_isTight_2 0 rfl rfl)
theorem dX4_isTight_51 : decode cX4_isTight 51 = .ok (.aload_n 2, 1) := dk_44 (dk_at dksX4_isTight_2 3 rfl rfl)
theorem dX4_isTight_52 : decode cX4_isTight 52 = .ok (.invokevirtual 77, 3) := dk_182 0 77 (dk_at dksX4_isTight_2 4 rfl rfl)
theorem dX4_isTight_55 : decode cX4_isTight 55 = .ok (.laload, 1) := dk_47 (dk_at dksX4_isTight_2 7 rfl rfl)
theorem dX4_isTight_56 : decode cX4_isTight 56 = .ok (.lcmp, 1) := dk_148 (dk_at dksX4_isTight_2 8 rfl rfl)
theorem dX4_isTight_57 : decode cX4_isTight 57 = .ok (.ifCond .ne 7, 3) := dk_154 0 7 (dk_at dksX4_isTight_2 9 rfl rfl)
theorem dX4_isTight_60 : decode cX4_isTight 60 = .ok (.iconst 1, 1) := dk_4 (dk_at dksX4_isTight_2 12 rfl rfl)
theorem dX4_isTight_61 : decode cX4_isTight 61 = .ok (.goto 4, 3) := dk_167 0 4 (dk_at dksX4_isTight_2 13 rfl rfl)
theorem dX4_isTight_64 : decode cX4_isTight 64 = .ok (.iconst 0, 1) := dk_3 (dk_at dksX4_isTight_2 16 rfl rfl)
theorem dX4_isTight_65 : decode cX4_isTight 65 = .ok (.ireturn, 1) := dk_172 (dk_at dksX4_isTight_2 17 rfl rfl)
abbrev cX4_has : ByteArray := prog_4_method_7_code
def yX4_has : MethodName := ⟨RX4, "has", "(I)Z"⟩
def dkwX4_has_1 : List UInt8 := [132, 2, 1, 167, 255, 233, 3, 172]
abbrev dktX4_has_1 : List UInt8 := dkwX4_has_1 ++ []
def dkwX4_has_0 : List UInt8 := [3, 61, 28, 42, 180, 0, 78, 162, 0, 21, 42, 180, 0, 18, 28, 46, 27, 160, 0, 5, 4, 172]
abbrev dktX4_has_0 : List UInt8 := dkwX4_has_0 ++ dktX4_has_1
theorem dksX4_has_0 : cX4_has.data.toList.drop 0 = dktX4_has_0 := by decide +kernel
theorem dksX4_has_1 : cX4_has.data.toList.drop 22 = dktX4_has_1 := dk_seg dksX4_has_0 22 rfl rfl
theorem dX4_has_0 : decode cX4_has 0 = .ok (.iconst 0, 1) := dk_3 (dk_at dksX4_has_0 0 rfl rfl)
theorem dX4_has_1 : decode cX4_has 1 = .ok (.istore_n 2, 1) := dk_61 (dk_at dksX4_has_0 1 rfl rfl)
theorem dX4_has_2 : decode cX4_has 2 = .ok (.iload_n 2, 1) := dk_28 (dk_at dksX4_has_0 2 rfl rfl)
theorem dX4_has_3 : decode cX4_has 3 = .ok (.aload_n 0, 1) := dk_42 (dk_at dksX4_has_0 3 rfl rfl)
theorem dX4_has_4 : decode cX4_has 4 = .ok (.getfield 78, 3) := dk_180 0 78 (dk_at dksX4_has_0 4 rfl rfl)
theorem dX4_has_7 : decode cX4_has 7 = .ok (.if_icmp .ge 21, 3) := dk_162 0 21 (dk_at dksX4_has_0 7 rfl rfl)
theorem dX4_has_10 : decode cX4_has 10 = .ok (.aload_n 0, 1) := dk_42 (dk_at dksX4_has_0 10 rfl rfl)
theorem dX4_has_11 : decode cX4_has 11 = .ok (.getfield 18, 3) := dk_180 0 18 (dk_at dksX4_has_0 11 rfl rfl)
theorem dX4_has_14 : decode cX4_has 14 = .ok (.iload_n 2, 1) := dk_28 (dk_at dksX4_has_0 14 rfl rfl)
theorem dX4_has_15 : decode cX4_has 15 = .ok (.iaload, 1) := dk_46 (dk_at dksX4_has_0 15 rfl rfl)
theorem dX4_has_16 : decode cX4_has 16 = .ok (.iload_n 1, 1) := dk_27 (dk_at dksX4_has_0 16 rfl rfl)
theorem dX4_has_17 : decode cX4_has 17 = .ok (.if_icmp .ne 5, 3) := dk_160 0 5 (dk_at dksX4_has_0 17 rfl rfl)
theorem dX4_has_20 : decode cX4_has 20 = .ok (.iconst 1, 1) := dk_4 (dk_at dksX4_has_0 20 rfl rfl)
theorem dX4_has_21 : decode cX4_has 21 = .ok (.ireturn, 1) := dk_172 (dk_at dksX4_has_0 21 rfl rfl)
theorem dX4_has_22 : decode cX4_has 22 = .ok (.iinc 2 1, 3) := dk_132 2 1 (dk_at dksX4_has_1 0 rfl rfl)
theorem dX4_has_25 : decode cX4_has 25 = .ok (.goto (-23), 3) := dk_167 255 233 (dk_at dksX4_has_1 3 rfl rfl)
theorem dX4_has_28 : decode cX4_has 28 = .ok (.iconst 0, 1) := dk_3 (dk_at dksX4_has_1 6 rfl rfl)
theorem dX4_has_29 : decode cX4_has 29 = .ok (.ireturn, 1) := dk_172 (dk_at dksX4_has_1 7 rfl rfl)
abbrev cX4_tolls : ByteArray := prog_4_method_8_code
def yX4_tolls : MethodName := ⟨RX4, "tolls", "(LTollLeader$State;)I"⟩
def dkwX4_tolls_1 : List UInt8 := [96, 61, 132, 3, 1, 167, 255, 231, 28, 172]
abbrev dktX4_tolls_1 : List UInt8 := dkwX4_tolls_1 ++ []
def dkwX4_tolls_0 : List UInt8 := [3, 61, 3, 62, 29, 42, 180, 0, 78, 162, 0, 23, 28, 43, 180, 0, 102, 42, 180, 0, 18, 29, 46, 46]
abbrev dktX4_tolls_0 : List UInt8 := dkwX4_tolls_0 ++ dktX4_tolls_1
theorem dksX4_tolls_0 : cX4_tolls.data.toList.drop 0 = dktX4_tolls_0 := by decide +kernel
theorem dksX4_tolls_1 : cX4_tolls.data.toList.drop 24 = dktX4_tolls_1 := dk_seg dksX4_tolls_0 24 rfl rfl
theorem dX4_tolls_0 : decode cX4_tolls 0 = .ok (.iconst 0, 1) := dk_3 (dk_at dksX4_tolls_0 0 rfl rfl)
theorem dX4_tolls_1 : decode cX4_tolls 1 = .ok (.istore_n 2, 1) := dk_61 (dk_at dksX4_tolls_0 1 rfl rfl)
theorem dX4_tolls_2 : decode cX4_tolls 2 = .ok (.iconst 0, 1) := dk_3 (dk_at dksX4_tolls_0 2 rfl rfl)
theorem dX4_tolls_3 : decode cX4_tolls 3 = .ok (.istore_n 3, 1) := dk_62 (dk_at dksX4_tolls_0 3 rfl rfl)
theorem dX4_tolls_4 : decode cX4_tolls 4 = .ok (.iload_n 3, 1) := dk_29 (dk_at dksX4_tolls_0 4 rfl rfl)
theorem dX4_tolls_5 : decode cX4_tolls 5 = .ok (.aload_n 0, 1) := dk_42 (dk_at dksX4_tolls_0 5 rfl rfl)
theorem dX4_tolls_6 : decode cX4_tolls 6 = .ok (.getfield 78, 3) := dk_180 0 78 (dk_at dksX4_tolls_0 6 rfl rfl)
theorem dX4_tolls_9 : decode cX4_tolls 9 = .ok (.if_icmp .ge 23, 3) := dk_162 0 23 (dk_at dksX4_tolls_0 9 rfl rfl)
theorem dX4_tolls_12 : decode cX4_tolls 12 = .ok (.iload_n 2, 1) := dk_28 (dk_at dksX4_tolls_0 12 rfl rfl)
theorem dX4_tolls_13 : decode cX4_tolls 13 = .ok (.aload_n 1, 1) := dk_43 (dk_at dksX4_tolls_0 13 rfl rfl)
theorem dX4_tolls_14 : decode cX4_tolls 14 = .ok (.getfield 102, 3) := dk_180 0 102 (dk_at dksX4_tolls_0 14 rfl rfl)
theorem dX4_tolls_17 : decode cX4_tolls 17 = .ok (.aload_n 0, 1) := dk_42 (dk_at dksX4_tolls_0 17 rfl rfl)
theorem dX4_tolls_18 : decode cX4_tolls 18 = .ok (.getfield 18, 3) := dk_180 0 18 (dk_at dksX4_tolls_0 18 rfl rfl)
theorem dX4_tolls_21 : decode cX4_tolls 21 = .ok (.iload_n 3, 1) := dk_29 (dk_at dksX4_tolls_0 21 rfl rfl)
theorem dX4_tolls_22 : decode cX4_tolls 22 = .ok (.iaload, 1) := dk_46 (dk_at dksX4_tolls_0 22 rfl rfl)
theorem dX4_tolls_23 : decode cX4_tolls 23 = .ok (.iaload, 1) := dk_46 (dk_at dksX4_tolls_0 23 rfl rfl)
theorem dX4_tolls_24 : decode cX4_tolls 24 = .ok (.iadd, 1) := dk_96 (dk_at dksX4_tolls_1 0 rfl rfl)
theorem dX4_tolls_25 : decode cX4_tolls 25 = .ok (.istore_n 2, 1) := dk_61 (dk_at dksX4_tolls_1 1 rfl rfl)
theorem dX4_tolls_26 : decode cX4_tolls 26 = .ok (.iinc 3 1, 3) := dk_132 3 1 (dk_at dksX4_tolls_1 2 rfl rfl)
theorem dX4_tolls_29 : decode cX4_tolls 29 = .ok (.goto (-25), 3) := dk_167 255 231 (dk_at dksX4_tolls_1 5 rfl rfl)
theorem dX4_tolls_32 : decode cX4_tolls 32 = .ok (.iload_n 2, 1) := dk_28 (dk_at dksX4_tolls_1 8 rfl rfl)
theorem dX4_tolls_33 : decode cX4_tolls 33 = .ok (.ireturn, 1) := dk_172 (dk_at dksX4_tolls_1 9 rfl rfl)
abbrev cX4_costs : ByteArray := prog_4_method_9_code
def yX4_costs : MethodName := ⟨RX4, "costs", "(LTollLeader$State;)I"⟩
def dkwX4_costs_1 : List UInt8 := [29, 46, 185, 0, 57, 2, 0, 192, 0, 61, 182, 0, 105, 96, 61, 132, 3, 1, 167, 255, 218, 28, 172]
abbrev dktX4_costs_1 : List UInt8 := dkwX4_costs_1 ++ []
def dkwX4_costs_0 : List UInt8 := [3, 61, 3, 62, 29, 42, 180, 0, 78, 162, 0, 36, 28, 43, 180, 0, 28, 180, 0, 48, 42, 180, 0, 18]
abbrev dktX4_costs_0 : List UInt8 := dkwX4_costs_0 ++ dktX4_costs_1
theorem dksX4_costs_0 : cX4_costs.data.toList.drop 0 = dktX4_costs_0 := by decide +kernel
theorem dksX4_costs_1 : cX4_costs.data.toList.drop 24 = dktX4_costs_1 := dk_seg dksX4_costs_0 24 rfl rfl
theorem dX4_costs_0 : decode cX4_costs 0 = .ok (.iconst 0, 1) := dk_3 (dk_at dksX4_costs_0 0 rfl rfl)
theorem dX4_costs_1 : decode cX4_costs 1 = .ok (.istore_n 2, 1) := dk_61 (dk_at dksX4_costs_0 1 rfl rfl)
theorem dX4_costs_2 : decode cX4_costs 2 = .ok (.iconst 0, 1) := dk_3 (dk_at dksX4_costs_0 2 rfl rfl)
theorem dX4_costs_3 : decode cX4_costs 3 = .ok (.istore_n 3, 1) := dk_62 (dk_at dksX4_costs_0 3 rfl rfl)
theorem dX4_costs_4 : decode cX4_costs 4 = .ok (.iload_n 3, 1) := dk_29 (dk_at dksX4_costs_0 4 rfl rfl)
theorem dX4_costs_5 : decode cX4_costs 5 = .ok (.aload_n 0, 1) := dk_42 (dk_at dksX4_costs_0 5 rfl rfl)
theorem dX4_costs_6 : decode cX4_costs 6 = .ok (.getfield 78, 3) := dk_180 0 78 (dk_at dksX4_costs_0 6 rfl rfl)
theorem dX4_costs_9 : decode cX4_costs 9 = .ok (.if_icmp .ge 36, 3) := dk_162 0 36 (dk_at dksX4_costs_0 9 rfl rfl)
theorem dX4_costs_12 : decode cX4_costs 12 = .ok (.iload_n 2, 1) := dk_28 (dk_at dksX4_costs_0 12 rfl rfl)
theorem dX4_costs_13 : decode cX4_costs 13 = .ok (.aload_n 1, 1) := dk_43 (dk_at dksX4_costs_0 13 rfl rfl)
theorem dX4_costs_14 : decode cX4_costs 14 = .ok (.getfield 28, 3) := dk_180 0 28 (dk_at dksX4_costs_0 14 rfl rfl)
theorem dX4_costs_17 : decode cX4_costs 17 = .ok (.getfield 48, 3) := dk_180 0 48 (dk_at dksX4_costs_0 17 rfl rfl)
theorem dX4_costs_20 : decode cX4_costs 20 = .ok (.aload_n 0, 1) := dk_42 (dk_at dksX4_costs_0 20 rfl rfl)
theorem dX4_costs_21 : decode cX4_costs 21 = .ok (.getfield 18, 3) := dk_180 0 18 (dk_at dksX4_costs_0 21 rfl rfl)
theorem dX4_costs_24 : decode cX4_costs 24 = .ok (.iload_n 3, 1) := dk_29 (dk_at dksX4_costs_1 0 rfl rfl)
theorem dX4_costs_25 : decode cX4_costs 25 = .ok (.iaload, 1) := dk_46 (dk_at dksX4_costs_1 1 rfl rfl)
theorem dX4_costs_26 : decode cX4_costs 26 = .ok (.invokeinterface 57 2, 5) := by decide +kernel
theorem dX4_costs_31 : decode cX4_costs 31 = .ok (.checkcast 61, 3) := dk_192 0 61 (dk_at dksX4_costs_1 7 rfl rfl)
theorem dX4_costs_34 : decode cX4_costs 34 = .ok (.invokevirtual 105, 3) := dk_182 0 105 (dk_at dksX4_costs_1 10 rfl rfl)
theorem dX4_costs_37 : decode cX4_costs 37 = .ok (.iadd, 1) := dk_96 (dk_at dksX4_costs_1 13 rfl rfl)
theorem dX4_costs_38 : decode cX4_costs 38 = .ok (.istore_n 2, 1) := dk_61 (dk_at dksX4_costs_1 14 rfl rfl)
theorem dX4_costs_39 : decode cX4_costs 39 = .ok (.iinc 3 1, 3) := dk_132 3 1 (dk_at dksX4_costs_1 15 rfl rfl)
theorem dX4_costs_42 : decode cX4_costs 42 = .ok (.goto (-38), 3) := dk_167 255 218 (dk_at dksX4_costs_1 18 rfl rfl)
theorem dX4_costs_45 : decode cX4_costs 45 = .ok (.iload_n 2, 1) := dk_28 (dk_at dksX4_costs_1 21 rfl rfl)
theorem dX4_costs_46 : decode cX4_costs 46 = .ok (.ireturn, 1) := dk_172 (dk_at dksX4_costs_1 22 rfl rfl)
abbrev cX4_count : ByteArray := prog_4_method_10_code
def yX4_count : MethodName := ⟨RX4, "count", "(LTollLeader$State;LTollLeader$Trip;)J"⟩
def dkwX4_count_3 : List UInt8 := [44, 182, 0, 42, 3, 79, 42, 43, 44, 44, 182, 0, 67, 182, 0, 113, 173]
abbrev dktX4_count_3 : List UInt8 := dkwX4_count_3 ++ []
def dkwX4_count_2 : List UInt8 := [42, 180, 0, 15, 44, 182, 0, 42, 10, 80, 42, 180, 0, 22, 44, 182, 0, 42, 3, 79, 42, 180, 0, 25]
abbrev dktX4_count_2 : List UInt8 := dkwX4_count_2 ++ dktX4_count_3
def dkwX4_count_1 : List UInt8 := [180, 0, 28, 180, 0, 34, 162, 0, 18, 42, 180, 0, 15, 29, 20, 0, 111, 80, 132, 3, 1, 167, 255, 233]
abbrev dktX4_count_1 : List UInt8 := dkwX4_count_1 ++ dktX4_count_2
def dkwX4_count_0 : List UInt8 := [42, 43, 44, 178, 0, 108, 182, 0, 85, 20, 0, 40, 148, 154, 0, 5, 9, 173, 3, 62, 29, 43]
abbrev dktX4_count_0 : List UInt8 := dkwX4_count_0 ++ dktX4_count_1
theorem dksX4_count_0 : cX4_count.data.toList.drop 0 = dktX4_count_0 := by decide +kernel
theorem dksX4_count_1 : cX4_count.data.toList.drop 22 = dktX4_count_1 := dk_seg dksX4_count_0 22 rfl rfl
theorem dksX4_count_2 : cX4_count.data.toList.drop 46 = dktX4_count_2 := dk_seg dksX4_count_1 24 rfl rfl
theorem dksX4_count_3 : cX4_count.data.toList.drop 70 = dktX4_count_3 := dk_seg dksX4_count_2 24 rfl rfl
theorem dX4_count_0 : decode cX4_count 0 = .ok (.aload_n 0, 1) := dk_42 (dk_at dksX4_count_0 0 rfl rfl)
theorem dX4_count_1 : decode cX4_count 1 = .ok (.aload_n 1, 1) := dk_43 (dk_at dksX4_count_0 1 rfl rfl)
theorem dX4_count_2 : decode cX4_count 2 = .ok (.aload_n 2, 1) := dk_44 (dk_at dksX4_count_0 2 rfl rfl)
theorem dX4_count_3 : decode cX4_count 3 = .ok (.getstatic 108, 3) := dk_178 0 108 (dk_at dksX4_count_0 3 rfl rfl)
theorem dX4_count_6 : decode cX4_count 6 = .ok (.invokevirtual 85, 3) := dk_182 0 85 (dk_at dksX4_count_0 6 rfl rfl)
theorem dX4_count_9 : decode cX4_count 9 = .ok (.ldc2_w 40, 3) := dk_20 0 40 (dk_at dksX4_count_0 9 rfl rfl)
theorem dX4_count_12 : decode cX4_count 12 = .ok (.lcmp, 1) := dk_148 (dk_at dksX4_count_0 12 rfl rfl)
theorem dX4_count_13 : decode cX4_count 13 = .ok (.ifCond .ne 5, 3) := dk_154 0 5 (dk_at dksX4_count_0 13 rfl rfl)
theorem dX4_count_16 : decode cX4_count 16 = .ok (.lconst 0, 1) := dk_9 (dk_at dksX4_count_0 16 rfl rfl)
theorem dX4_count_17 : decode cX4_count 17 = .ok (.lreturn, 1) := dk_173 (dk_at dksX4_count_0 17 rfl rfl)
theorem dX4_count_18 : decode cX4_count 18 = .ok (.iconst 0, 1) := dk_3 (dk_at dksX4_count_0 18 rfl rfl)
theorem dX4_count_19 : decode cX4_count 19 = .ok (.istore_n 3, 1) := dk_62 (dk_at dksX4_count_0 19 rfl rfl)
theorem dX4_count_20 : decode cX4_count 20 = .ok (.iload_n 3, 1) := dk_29 (dk_at dksX4_count_0 20 rfl rfl)
theorem dX4_count_21 : decode cX4_count 21 = .ok (.aload_n 1, 1) := dk_43 (dk_at dksX4_count_0 21 rfl rfl)
theorem dX4_count_22 : decode cX4_count 22 = .ok (.getfield 28, 3) := dk_180 0 28 (dk_at dksX4_count_1 0 rfl rfl)
theorem dX4_count_25 : decode cX4_count 25 = .ok (.getfield 34, 3) := dk_180 0 34 (dk_at dksX4_count_1 3 rfl rfl)
theorem dX4_count_28 : decode cX4_count 28 = .ok (.if_icmp .ge 18, 3) := dk_162 0 18 (dk_at dksX4_count_1 6 rfl rfl)
theorem dX4_count_31 : decode cX4_count 31 = .ok (.aload_n 0, 1) := dk_42 (dk_at dksX4_count_1 9 rfl rfl)
theorem dX4_count_32 : decode cX4_count 32 = .ok (.getfield 15, 3) := dk_180 0 15 (dk_at dksX4_count_1 10 rfl rfl)
theorem dX4_count_35 : decode cX4_count 35 = .ok (.iload_n 3, 1) := dk_29 (dk_at dksX4_count_1 13 rfl rfl)
theorem dX4_count_36 : decode cX4_count 36 = .ok (.ldc2_w 111, 3) := dk_20 0 111 (dk_at dksX4_count_1 14 rfl rfl)
theorem dX4_count_39 : decode cX4_count 39 = .ok (.lastore, 1) := dk_80 (dk_at dksX4_count_1 17 rfl rfl)
theorem dX4_count_40 : decode cX4_count 40 = .ok (.iinc 3 1, 3) := dk_132 3 1 (dk_at dksX4_count_1 18 rfl rfl)
theorem dX4_count_43 : decode cX4_count 43 = .ok (.goto (-23), 3) := dk_167 255 233 (dk_at dksX4_count_1 21 rfl rfl)
theorem dX4_count_46 : decode cX4_count 46 = .ok (.aload_n 0, 1) := dk_42 (dk_at dksX4_count_2 0 rfl rfl)
theorem dX4_count_47 : decode cX4_count 47 = .ok (.getfield 15, 3) := dk_180 0 15 (dk_at dksX4_count_2 1 rfl rfl)
theorem dX4_count_50 : decode cX4_count 50 = .ok (.aload_n 2, 1) := dk_44 (dk_at dksX4_count_2 4 rfl rfl)
theorem dX4_count_51 : decode cX4_count 51 = .ok (.invokevirtual 42, 3) := dk_182 0 42 (dk_at dksX4_count_2 5 rfl rfl)
theorem dX4_count_54 : decode cX4_count 54 = .ok (.lconst 1, 1) := dk_10 (dk_at dksX4_count_2 8 rfl rfl)
theorem dX4_count_55 : decode cX4_count 55 = .ok (.lastore, 1) := dk_80 (dk_at dksX4_count_2 9 rfl rfl)
theorem dX4_count_56 : decode cX4_count 56 = .ok (.aload_n 0, 1) := dk_42 (dk_at dksX4_count_2 10 rfl rfl)
theorem dX4_count_57 : decode cX4_count 57 = .ok (.getfield 22, 3) := dk_180 0 22 (dk_at dksX4_count_2 11 rfl rfl)
theorem dX4_count_60 : decode cX4_count 60 = .ok (.aload_n 2, 1) := dk_44 (dk_at dksX4_count_2 14 rfl rfl)
theorem dX4_count_61 : decode cX4_count 61 = .ok (.invokevirtual 42, 3) := dk_182 0 42 (dk_at dksX4_count_2 15 rfl rfl)
theorem dX4_count_64 : decode cX4_count 64 = .ok (.iconst 0, 1) := dk_3 (dk_at dksX4_count_2 18 rfl rfl)
theorem dX4_count_65 : decode cX4_count 65 = .ok (.iastore, 1) := dk_79 (dk_at dksX4_count_2 19 rfl rfl)
theorem dX4_count_66 : decode cX4_count 66 = .ok (.aload_n 0, 1) := dk_42 (dk_at dksX4_count_2 20 rfl rfl)
theorem dX4_count_67 : decode cX4_count 67 = .ok (.getfield 25, 3) := dk_180 0 25 (dk_at dksX4_count_2 21 rfl rfl)
theorem dX4_count_70 : decode cX4_count 70 = .ok (.aload_n 2, 1) := dk_44 (dk_at dksX4_count_3 0 rfl rfl)
theorem dX4_count_71 : decode cX4_count 71 = .ok (.invokevirtual 42, 3) := dk_182 0 42 (dk_at dksX4_count_3 1 rfl rfl)
theorem dX4_count_74 : decode cX4_count 74 = .ok (.iconst 0, 1) := dk_3 (dk_at dksX4_count_3 4 rfl rfl)
theorem dX4_count_75 : decode cX4_count 75 = .ok (.iastore, 1) := dk_79 (dk_at dksX4_count_3 5 rfl rfl)
theorem dX4_count_76 : decode cX4_count 76 = .ok (.aload_n 0, 1) := dk_42 (dk_at dksX4_count_3 6 rfl rfl)
theorem dX4_count_77 : decode cX4_count 77 = .ok (.aload_n 1, 1) := dk_43 (dk_at dksX4_count_3 7 rfl rfl)
theorem dX4_count_78 : decode cX4_count 78 = .ok (.aload_n 2, 1) := dk_44 (dk_at dksX4_count_3 8 rfl rfl)
theorem dX4_count_79 : decode cX4_count 79 = .ok (.aload_n 2, 1) := dk_44 (dk_at dksX4_count_3 9 rfl rfl)
theorem dX4_count_80 : decode cX4_count 80 = .ok (.invokevirtual 67, 3) := dk_182 0 67 (dk_at dksX4_count_3 10 rfl rfl)
theorem dX4_count_83 : decode cX4_count 83 = .ok (.invokevirtual 113, 3) := dk_182 0 113 (dk_at dksX4_count_3 13 rfl rfl)
theorem dX4_count_86 : decode cX4_count 86 = .ok (.lreturn, 1) := dk_173 (dk_at dksX4_count_3 16 rfl rfl)
abbrev cX4_countFrom : ByteArray := prog_4_method_11_code
def yX4_countFrom : MethodName := ⟨RX4, "countFrom", "(LTollLeader$State;LTollLeader$Trip;I)J"⟩
def dkwX4_countFrom_9 : List UInt8 := [22, 4, 80, 22, 4, 173]
abbrev dktX4_countFrom_9 : List UInt8 := dkwX4_countFrom_9 ++ []
def dkwX4_countFrom_8 : List UInt8 := [21, 11, 184, 0, 127, 79, 22, 4, 22, 8, 97, 55, 4, 132, 6, 1, 167, 255, 75, 42, 180, 0, 15, 29]
abbrev dktX4_countFrom_8 : List UInt8 := dkwX4_countFrom_8 ++ dktX4_countFrom_9
def dkwX4_countFrom_7 : List UInt8 := [42, 180, 0, 25, 29, 22, 4, 9, 148, 154, 0, 8, 21, 11, 167, 0, 14, 42, 180, 0, 25, 29, 46]
abbrev dktX4_countFrom_7 : List UInt8 := dkwX4_countFrom_7 ++ dktX4_countFrom_8
def dkwX4_countFrom_6 : List UInt8 := [22, 4, 9, 148, 154, 0, 8, 21, 10, 167, 0, 14, 42, 180, 0, 22, 29, 46, 21, 10, 184, 0, 121, 79]
abbrev dktX4_countFrom_6 : List UInt8 := dkwX4_countFrom_6 ++ dktX4_countFrom_7
def dkwX4_countFrom_5 : List UInt8 := [42, 180, 0, 25, 25, 7, 182, 0, 76, 46, 43, 25, 7, 182, 0, 117, 96, 54, 11, 42, 180, 0, 22, 29]
abbrev dktX4_countFrom_5 : List UInt8 := dkwX4_countFrom_5 ++ dktX4_countFrom_6
def dkwX4_countFrom_4 : List UInt8 := [182, 0, 113, 55, 8, 42, 180, 0, 22, 25, 7, 182, 0, 76, 46, 43, 25, 7, 182, 0, 117, 96, 54, 10]
abbrev dktX4_countFrom_4 : List UInt8 := dkwX4_countFrom_4 ++ dktX4_countFrom_5
def dkwX4_countFrom_3 : List UInt8 := [25, 7, 44, 178, 0, 108, 182, 0, 96, 154, 0, 6, 167, 0, 119, 42, 43, 44, 25, 7, 182, 0, 76]
abbrev dktX4_countFrom_3 : List UInt8 := dkwX4_countFrom_3 ++ dktX4_countFrom_4
def dkwX4_countFrom_2 : List UInt8 := [21, 6, 185, 0, 57, 2, 0, 192, 0, 61, 58, 7, 25, 7, 182, 0, 77, 29, 160, 0, 136, 42, 43]
abbrev dktX4_countFrom_2 : List UInt8 := dkwX4_countFrom_2 ++ dktX4_countFrom_3
def dkwX4_countFrom_1 : List UInt8 := [21, 6, 43, 180, 0, 28, 180, 0, 48, 185, 0, 52, 1, 0, 162, 0, 170, 43, 180, 0, 28, 180, 0, 48]
abbrev dktX4_countFrom_1 : List UInt8 := dkwX4_countFrom_1 ++ dktX4_countFrom_2
def dkwX4_countFrom_0 : List UInt8 := [42, 180, 0, 15, 29, 47, 9, 148, 155, 0, 10, 42, 180, 0, 15, 29, 47, 173, 9, 55, 4, 3, 54, 6]
abbrev dktX4_countFrom_0 : List UInt8 := dkwX4_countFrom_0 ++ dktX4_countFrom_1
theorem dksX4_countFrom_0 : cX4_countFrom.data.toList.drop 0 = dktX4_countFrom_0 := by decide +kernel
theorem dksX4_countFrom_1 : cX4_countFrom.data.toList.drop 24 = dktX4_countFrom_1 := dk_seg dksX4_countFrom_0 24 rfl rfl
theorem dksX4_countFrom_2 : cX4_countFrom.data.toList.drop 48 = dktX4_countFrom_2 := dk_seg dksX4_countFrom_1 24 rfl rfl
theorem dksX4_countFrom_3 : cX4_countFrom.data.toList.drop 71 = dktX4_countFrom_3 := dk_seg dksX4_countFrom_2 23 rfl rfl
theorem dksX4_countFrom_4 : cX4_countFrom.data.toList.drop 94 = dktX4_countFrom_4 := dk_seg dksX4_countFrom_3 23 rfl rfl
theorem dksX4_countFrom_5 : cX4_countFrom.data.toList.drop 118 = dktX4_countFrom_5 := dk_seg dksX4_countFrom_4 24 rfl rfl
theorem dksX4_countFrom_6 : cX4_countFrom.data.toList.drop 142 = dktX4_countFrom_6 := dk_seg dksX4_countFrom_5 24 rfl rfl
theorem dksX4_countFrom_7 : cX4_countFrom.data.toList.drop 166 = dktX4_countFrom_7 := dk_seg dksX4_countFrom_6 24 rfl rfl
theorem dksX4_countFrom_8 : cX4_countFrom.data.toList.drop 189 = dktX4_countFrom_8 := dk_seg dksX4_countFrom_7 23 rfl rfl
theorem dksX4_countFrom_9 : cX4_countFrom.data.toList.drop 213 = dktX4_countFrom_9 := dk_seg dksX4_countFrom_8 24 rfl rfl
theorem dX4_countFrom_0 : decode cX4_countFrom 0 = .ok (.aload_n 0, 1) := dk_42 (dk_at dksX4_countFrom_0 0 rfl rfl)
theorem dX4_countFrom_1 : decode cX4_countFrom 1 = .ok (.getfield 15, 3) := dk_180 0 15 (dk_at dksX4_countFrom_0 1 rfl rfl)
theorem dX4_countFrom_4 : decode cX4_countFrom 4 = .ok (.iload_n 3, 1) := dk_29 (dk_at dksX4_countFrom_0 4 rfl rfl)
theorem dX4_countFrom_5 : decode cX4_countFrom 5 = .ok (.laload, 1) := dk_47 (dk_at dksX4_countFrom_0 5 rfl rfl)
theorem dX4_countFrom_6 : decode cX4_countFrom 6 = .ok (.lconst 0, 1) := dk_9 (dk_at dksX4_countFrom_0 6 rfl rfl)
theorem dX4_countFrom_7 : decode cX4_countFrom 7 = .ok (.lcmp, 1) := dk_148 (dk_at dksX4_countFrom_0 7 rfl rfl)
theorem dX4_countFrom_8 : decode cX4_countFrom 8 = .ok (.ifCond .lt 10, 3) := dk_155 0 10 (dk_at dksX4_countFrom_0 8 rfl rfl)
theorem dX4_countFrom_11 : decode cX4_countFrom 11 = .ok (.aload_n 0, 1) := dk_42 (dk_at dksX4_countFrom_0 11 rfl rfl)
theorem dX4_countFrom_12 : decode cX4_countFrom 12 = .ok (.getfield 15, 3) := dk_180 0 15 (dk_at dksX4_countFrom_0 12 rfl rfl)
theorem dX4_countFrom_15 : decode cX4_countFrom 15 = .ok (.iload_n 3, 1) := dk_29 (dk_at dksX4_countFrom_0 15 rfl rfl)
theorem dX4_countFrom_16 : decode cX4_countFrom 16 = .ok (.laload, 1) := dk_47 (dk_at dksX4_countFrom_0 16 rfl rfl)
theorem dX4_countFrom_17 : decode cX4_countFrom 17 = .ok (.lreturn, 1) := dk_173 (dk_at dksX4_countFrom_0 17 rfl rfl)
theorem dX4_countFrom_18 : decode cX4_countFrom 18 = .ok (.lconst 0, 1) := dk_9 (dk_at dksX4_countFrom_0 18 rfl rfl)
theorem dX4_countFrom_19 : decode cX4_countFrom 19 = .ok (.lstore 4, 2) := dk_55 4 (dk_at dksX4_countFrom_0 19 rfl rfl)
theorem dX4_countFrom_21 : decode cX4_countFrom 21 = .ok (.iconst 0, 1) := dk_3 (dk_at dksX4_countFrom_0 21 rfl rfl)
theorem dX4_countFrom_22 : decode cX4_countFrom 22 = .ok (.istore 6, 2) := dk_54 6 (dk_at dksX4_countFrom_0 22 rfl rfl)
theorem dX4_countFrom_24 : decode cX4_countFrom 24 = .ok (.iload 6, 2) := dk_21 6 (dk_at dksX4_countFrom_1 0 rfl rfl)
theorem dX4_countFrom_26 : decode cX4_countFrom 26 = .ok (.aload_n 1, 1) := dk_43 (dk_at dksX4_countFrom_1 2 rfl rfl)
theorem dX4_countFrom_27 : decode cX4_countFrom 27 = .ok (.getfield 28, 3) := dk_180 0 28 (dk_at dksX4_countFrom_1 3 rfl rfl)
theorem dX4_countFrom_30 : decode cX4_countFrom 30 = .ok (.getfield 48, 3) := dk_180 0 48 (dk_at dksX4_countFrom_1 6 rfl rfl)
theorem dX4_countFrom_33 : decode cX4_countFrom 33 = .ok (.invokeinterface 52 1, 5) := by decide +kernel
theorem dX4_countFrom_38 : decode cX4_countFrom 38 = .ok (.if_icmp .ge 170, 3) := dk_162 0 170 (dk_at dksX4_countFrom_1 14 rfl rfl)
theorem dX4_countFrom_41 : decode cX4_countFrom 41 = .ok (.aload_n 1, 1) := dk_43 (dk_at dksX4_countFrom_1 17 rfl rfl)
theorem dX4_countFrom_42 : decode cX4_countFrom 42 = .ok (.getfield 28, 3) := dk_180 0 28 (dk_at dksX4_countFrom_1 18 rfl rfl)
theorem dX4_countFrom_45 : decode cX4_countFrom 45 = .ok (.getfield 48, 3) := dk_180 0 48 (dk_at dksX4_countFrom_1 21 rfl rfl)
theorem dX4_countFrom_48 : decode cX4_countFrom 48 = .ok (.iload 6, 2) := dk_21 6 (dk_at dksX4_countFrom_2 0 rfl rfl)
theorem dX4_countFrom_50 : decode cX4_countFrom 50 = .ok (.invokeinterface 57 2, 5) := by decide +kernel
theorem dX4_countFrom_55 : decode cX4_countFrom 55 = .ok (.checkcast 61, 3) := dk_192 0 61 (dk_at dksX4_countFrom_2 7 rfl rfl)
theorem dX4_countFrom_58 : decode cX4_countFrom 58 = .ok (.astore 7, 2) := dk_58 7 (dk_at dksX4_countFrom_2 10 rfl rfl)
theorem dX4_countFrom_60 : decode cX4_countFrom 60 = .ok (.aload 7, 2) := dk_25 7 (dk_at dksX4_countFrom_2 12 rfl rfl)
theorem dX4_countFrom_62 : decode cX4_countFrom 62 = .ok (.invokevirtual 77, 3) := dk_182 0 77 (dk_at dksX4_countFrom_2 14 rfl rfl)
theorem dX4_countFrom_65 : decode cX4_countFrom 65 = .ok (.iload_n 3, 1) := dk_29 (dk_at dksX4_countFrom_2 17 rfl rfl)
theorem dX4_countFrom_66 : decode cX4_countFrom 66 = .ok (.if_icmp .ne 136, 3) := dk_160 0 136 (dk_at dksX4_countFrom_2 18 rfl rfl)
theorem dX4_countFrom_69 : decode cX4_countFrom 69 = .ok (.aload_n 0, 1) := dk_42 (dk_at dksX4_countFrom_2 21 rfl rfl)
theorem dX4_countFrom_70 : decode cX4_countFrom 70 = .ok (.aload_n 1, 1) := dk_43 (dk_at dksX4_countFrom_2 22 rfl rfl)
theorem dX4_countFrom_71 : decode cX4_countFrom 71 = .ok (.aload 7, 2) := dk_25 7 (dk_at dksX4_countFrom_3 0 rfl rfl)
theorem dX4_countFrom_73 : decode cX4_countFrom 73 = .ok (.aload_n 2, 1) := dk_44 (dk_at dksX4_countFrom_3 2 rfl rfl)
theorem dX4_countFrom_74 : decode cX4_countFrom 74 = .ok (.getstatic 108, 3) := dk_178 0 108 (dk_at dksX4_countFrom_3 3 rfl rfl)
theorem dX4_countFrom_77 : decode cX4_countFrom 77 = .ok (.invokevirtual 96, 3) := dk_182 0 96 (dk_at dksX4_countFrom_3 6 rfl rfl)
theorem dX4_countFrom_80 : decode cX4_countFrom 80 = .ok (.ifCond .ne 6, 3) := dk_154 0 6 (dk_at dksX4_countFrom_3 9 rfl rfl)
theorem dX4_countFrom_83 : decode cX4_countFrom 83 = .ok (.goto 119, 3) := dk_167 0 119 (dk_at dksX4_countFrom_3 12 rfl rfl)
theorem dX4_countFrom_86 : decode cX4_countFrom 86 = .ok (.aload_n 0, 1) := dk_42 (dk_at dksX4_countFrom_3 15 rfl rfl)
theorem dX4_countFrom_87 : decode cX4_countFrom 87 = .ok (.aload_n 1, 1) := dk_43 (dk_at dksX4_countFrom_3 16 rfl rfl)
theorem dX4_countFrom_88 : decode cX4_countFrom 88 = .ok (.aload_n 2, 1) := dk_44 (dk_at dksX4_countFrom_3 17 rfl rfl)
theorem dX4_countFrom_89 : decode cX4_countFrom 89 = .ok (.aload 7, 2) := dk_25 7 (dk_at dksX4_countFrom_3 18 rfl rfl)
theorem dX4_countFrom_91 : decode cX4_countFrom 91 = .ok (.invokevirtual 76, 3) := dk_182 0 76 (dk_at dksX4_countFrom_3 20 rfl rfl)
theorem dX4_countFrom_94 : decode cX4_countFrom 94 = .ok (.invokevirtual 113, 3) := dk_182 0 113 (dk_at dksX4_countFrom_4 0 rfl rfl)
theorem dX4_countFrom_97 : decode cX4_countFrom 97 = .ok (.lstore 8, 2) := dk_55 8 (dk_at dksX4_countFrom_4 3 rfl rfl)
theorem dX4_countFrom_99 : decode cX4_countFrom 99 = .ok (.aload_n 0, 1) := dk_42 (dk_at dksX4_countFrom_4 5 rfl rfl)
theorem dX4_countFrom_100 : decode cX4_countFrom 100 = .ok (.getfield 22, 3) := dk_180 0 22 (dk_at dksX4_countFrom_4 6 rfl rfl)
theorem dX4_countFrom_103 : decode cX4_countFrom 103 = .ok (.aload 7, 2) := dk_25 7 (dk_at dksX4_countFrom_4 9 rfl rfl)
theorem dX4_countFrom_105 : decode cX4_countFrom 105 = .ok (.invokevirtual 76, 3) := dk_182 0 76 (dk_at dksX4_countFrom_4 11 rfl rfl)
theorem dX4_countFrom_108 : decode cX4_countFrom 108 = .ok (.iaload, 1) := dk_46 (dk_at dksX4_countFrom_4 14 rfl rfl)
theorem dX4_countFrom_109 : decode cX4_countFrom 109 = .ok (.aload_n 1, 1) := dk_43 (dk_at dksX4_countFrom_4 15 rfl rfl)
theorem dX4_countFrom_110 : decode cX4_countFrom 110 = .ok (.aload 7, 2) := dk_25 7 (dk_at dksX4_countFrom_4 16 rfl rfl)
theorem dX4_countFrom_112 : decode cX4_countFrom 112 = .ok (.invokevirtual 117, 3) := dk_182 0 117 (dk_at dksX4_countFrom_4 18 rfl rfl)
theorem dX4_countFrom_115 : decode cX4_countFrom 115 = .ok (.iadd, 1) := dk_96 (dk_at dksX4_countFrom_4 21 rfl rfl)
theorem dX4_countFrom_116 : decode cX4_countFrom 116 = .ok (.istore 10, 2) := dk_54 10 (dk_at dksX4_countFrom_4 22 rfl rfl)
theorem dX4_countFrom_118 : decode cX4_countFrom 118 = .ok (.aload_n 0, 1) := dk_42 (dk_at dksX4_countFrom_5 0 rfl rfl)
theorem dX4_countFrom_119 : decode cX4_countFrom 119 = .ok (.getfield 25, 3) := dk_180 0 25 (dk_at dksX4_countFrom_5 1 rfl rfl)
theorem dX4_countFrom_122 : decode cX4_countFrom 122 = .ok (.aload 7, 2) := dk_25 7 (dk_at dksX4_countFrom_5 4 rfl rfl)
theorem dX4_countFrom_124 : decode cX4_countFrom 124 = .ok (.invokevirtual 76, 3) := dk_182 0 76 (dk_at dksX4_countFrom_5 6 rfl rfl)
theorem dX4_countFrom_127 : decode cX4_countFrom 127 = .ok (.iaload, 1) := dk_46 (dk_at dksX4_countFrom_5 9 rfl rfl)
theorem dX4_countFrom_128 : decode cX4_countFrom 128 = .ok (.aload_n 1, 1) := dk_43 (dk_at dksX4_countFrom_5 10 rfl rfl)
theorem dX4_countFrom_129 : decode cX4_countFrom 129 = .ok (.aload 7, 2) := dk_25 7 (dk_at dksX4_countFrom_5 11 rfl rfl)
theorem dX4_countFrom_131 : decode cX4_countFrom 131 = .ok (.invokevirtual 117, 3) := dk_182 0 117 (dk_at dksX4_countFrom_5 13 rfl rfl)
theorem dX4_countFrom_134 : decode cX4_countFrom 134 = .ok (.iadd, 1) := dk_96 (dk_at dksX4_countFrom_5 16 rfl rfl)
theorem dX4_countFrom_135 : decode cX4_countFrom 135 = .ok (.istore 11, 2) := dk_54 11 (dk_at dksX4_countFrom_5 17 rfl rfl)
theorem dX4_countFrom_137 : decode cX4_countFrom 137 = .ok (.aload_n 0, 1) := dk_42 (dk_at dksX4_countFrom_5 19 rfl rfl)
theorem dX4_countFrom_138 : decode cX4_countFrom 138 = .ok (.getfield 22, 3) := dk_180 0 22 (dk_at dksX4_countFrom_5 20 rfl rfl)
theorem dX4_countFrom_141 : decode cX4_countFrom 141 = .ok (.iload_n 3, 1) := dk_29 (dk_at dksX4_countFrom_5 23 rfl rfl)
theorem dX4_countFrom_142 : decode cX4_countFrom 142 = .ok (.lload 4, 2) := dk_22 4 (dk_at dksX4_countFrom_6 0 rfl rfl)
theorem dX4_countFrom_144 : decode cX4_countFrom 144 = .ok (.lconst 0, 1) := dk_9 (dk_at dksX4_countFrom_6 2 rfl rfl)
theorem dX4_countFrom_145 : decode cX4_countFrom 145 = .ok (.lcmp, 1) := dk_148 (dk_at dksX4_countFrom_6 3 rfl rfl)
theorem dX4_countFrom_146 : decode cX4_countFrom 146 = .ok (.ifCond .ne 8, 3) := dk_154 0 8 (dk_at dksX4_countFrom_6 4 rfl rfl)
theorem dX4_countFrom_149 : decode cX4_countFrom 149 = .ok (.iload 10, 2) := dk_21 10 (dk_at dksX4_countFrom_6 7 rfl rfl)
theorem dX4_countFrom_151 : decode cX4_countFrom 151 = .ok (.goto 14, 3) := dk_167 0 14 (dk_at dksX4_countFrom_6 9 rfl rfl)
theorem dX4_countFrom_154 : decode cX4_countFrom 154 = .ok (.aload_n 0, 1) := dk_42 (dk_at dksX4_countFrom_6 12 rfl rfl)
theorem dX4_countFrom_155 : decode cX4_countFrom 155 = .ok (.getfield 22, 3) := dk_180 0 22 (dk_at dksX4_countFrom_6 13 rfl rfl)
theorem dX4_countFrom_158 : decode cX4_countFrom 158 = .ok (.iload_n 3, 1) := dk_29 (dk_at dksX4_countFrom_6 16 rfl rfl)
theorem dX4_countFrom_159 : decode cX4_countFrom 159 = .ok (.iaload, 1) := dk_46 (dk_at dksX4_countFrom_6 17 rfl rfl)
theorem dX4_countFrom_160 : decode cX4_countFrom 160 = .ok (.iload 10, 2) := dk_21 10 (dk_at dksX4_countFrom_6 18 rfl rfl)
theorem dX4_countFrom_162 : decode cX4_countFrom 162 = .ok (.invokestatic 121, 3) := dk_184 0 121 (dk_at dksX4_countFrom_6 20 rfl rfl)
theorem dX4_countFrom_165 : decode cX4_countFrom 165 = .ok (.iastore, 1) := dk_79 (dk_at dksX4_countFrom_6 23 rfl rfl)
theorem dX4_countFrom_166 : decode cX4_countFrom 166 = .ok (.aload_n 0, 1) := dk_42 (dk_at dksX4_countFrom_7 0 rfl rfl)
theorem dX4_countFrom_167 : decode cX4_countFrom 167 = .ok (.getfield 25, 3) := dk_180 0 25 (dk_at dksX4_countFrom_7 1 rfl rfl)
theorem dX4_countFrom_170 : decode cX4_countFrom 170 = .ok (.iload_n 3, 1) := dk_29 (dk_at dksX4_countFrom_7 4 rfl rfl)
theorem dX4_countFrom_171 : decode cX4_countFrom 171 = .ok (.lload 4, 2) := dk_22 4 (dk_at dksX4_countFrom_7 5 rfl rfl)
theorem dX4_countFrom_173 : decode cX4_countFrom 173 = .ok (.lconst 0, 1) := dk_9 (dk_at dksX4_countFrom_7 7 rfl rfl)
theorem dX4_countFrom_174 : decode cX4_countFrom 174 = .ok (.lcmp, 1) := dk_148 (dk_at dksX4_countFrom_7 8 rfl rfl)
theorem dX4_countFrom_175 : decode cX4_countFrom 175 = .ok (.ifCond .ne 8, 3) := dk_154 0 8 (dk_at dksX4_countFrom_7 9 rfl rfl)
theorem dX4_countFrom_178 : decode cX4_countFrom 178 = .ok (.iload 11, 2) := dk_21 11 (dk_at dksX4_countFrom_7 12 rfl rfl)
theorem dX4_countFrom_180 : decode cX4_countFrom 180 = .ok (.goto 14, 3) := dk_167 0 14 (dk_at dksX4_countFrom_7 14 rfl rfl)
theorem dX4_countFrom_183 : decode cX4_countFrom 183 = .ok (.aload_n 0, 1) := dk_42 (dk_at dksX4_countFrom_7 17 rfl rfl)
theorem dX4_countFrom_184 : decode cX4_countFrom 184 = .ok (.getfield 25, 3) := dk_180 0 25 (dk_at dksX4_countFrom_7 18 rfl rfl)
theorem dX4_countFrom_187 : decode cX4_countFrom 187 = .ok (.iload_n 3, 1) := dk_29 (dk_at dksX4_countFrom_7 21 rfl rfl)
theorem dX4_countFrom_188 : decode cX4_countFrom 188 = .ok (.iaload, 1) := dk_46 (dk_at dksX4_countFrom_7 22 rfl rfl)
theorem dX4_countFrom_189 : decode cX4_countFrom 189 = .ok (.iload 11, 2) := dk_21 11 (dk_at dksX4_countFrom_8 0 rfl rfl)
theorem dX4_countFrom_191 : decode cX4_countFrom 191 = .ok (.invokestatic 127, 3) := dk_184 0 127 (dk_at dksX4_countFrom_8 2 rfl rfl)
theorem dX4_countFrom_194 : decode cX4_countFrom 194 = .ok (.iastore, 1) := dk_79 (dk_at dksX4_countFrom_8 5 rfl rfl)
theorem dX4_countFrom_195 : decode cX4_countFrom 195 = .ok (.lload 4, 2) := dk_22 4 (dk_at dksX4_countFrom_8 6 rfl rfl)
theorem dX4_countFrom_197 : decode cX4_countFrom 197 = .ok (.lload 8, 2) := dk_22 8 (dk_at dksX4_countFrom_8 8 rfl rfl)
theorem dX4_countFrom_199 : decode cX4_countFrom 199 = .ok (.ladd, 1) := dk_97 (dk_at dksX4_countFrom_8 10 rfl rfl)
theorem dX4_countFrom_200 : decode cX4_countFrom 200 = .ok (.lstore 4, 2) := dk_55 4 (dk_at dksX4_countFrom_8 11 rfl rfl)
theorem dX4_countFrom_202 : decode cX4_countFrom 202 = .ok (.iinc 6 1, 3) := dk_132 6 1 (dk_at dksX4_countFrom_8 13 rfl rfl)
theorem dX4_countFrom_205 : decode cX4_countFrom 205 = .ok (.goto (-181), 3) := dk_167 255 75 (dk_at dksX4_countFrom_8 16 rfl rfl)
theorem dX4_countFrom_208 : decode cX4_countFrom 208 = .ok (.aload_n 0, 1) := dk_42 (dk_at dksX4_countFrom_8 19 rfl rfl)
theorem dX4_countFrom_209 : decode cX4_countFrom 209 = .ok (.getfield 15, 3) := dk_180 0 15 (dk_at dksX4_countFrom_8 20 rfl rfl)
theorem dX4_countFrom_212 : decode cX4_countFrom 212 = .ok (.iload_n 3, 1) := dk_29 (dk_at dksX4_countFrom_8 23 rfl rfl)
theorem dX4_countFrom_213 : decode cX4_countFrom 213 = .ok (.lload 4, 2) := dk_22 4 (dk_at dksX4_countFrom_9 0 rfl rfl)
theorem dX4_countFrom_215 : decode cX4_countFrom 215 = .ok (.lastore, 1) := dk_80 (dk_at dksX4_countFrom_9 2 rfl rfl)
theorem dX4_countFrom_216 : decode cX4_countFrom 216 = .ok (.lload 4, 2) := dk_22 4 (dk_at dksX4_countFrom_9 3 rfl rfl)
theorem dX4_countFrom_218 : decode cX4_countFrom 218 = .ok (.lreturn, 1) := dk_173 (dk_at dksX4_countFrom_9 5 rfl rfl)
abbrev cX4_span : ByteArray := prog_4_method_12_code
def yX4_span : MethodName := ⟨RX4, "span", "(I)I"⟩
def dkwX4_span_0 : List UInt8 := [42, 180, 0, 22, 27, 46, 42, 180, 0, 25, 27, 46, 100, 172]
abbrev dktX4_span_0 : List UInt8 := dkwX4_span_0 ++ []
theorem dksX4_span_0 : cX4_span.data.toList.drop 0 = dktX4_span_0 := by decide +kernel
theorem dX4_span_0 : decode cX4_span 0 = .ok (.aload_n 0, 1) := dk_42 (dk_at dksX4_span_0 0 rfl rfl)
theorem dX4_span_1 : decode cX4_span 1 = .ok (.getfield 22, 3) := dk_180 0 22 (dk_at dksX4_span_0 1 rfl rfl)
theorem dX4_span_4 : decode cX4_span 4 = .ok (.iload_n 1, 1) := dk_27 (dk_at dksX4_span_0 4 rfl rfl)
theorem dX4_span_5 : decode cX4_span 5 = .ok (.iaload, 1) := dk_46 (dk_at dksX4_span_0 5 rfl rfl)
theorem dX4_span_6 : decode cX4_span 6 = .ok (.aload_n 0, 1) := dk_42 (dk_at dksX4_span_0 6 rfl rfl)
theorem dX4_span_7 : decode cX4_span 7 = .ok (.getfield 25, 3) := dk_180 0 25 (dk_at dksX4_span_0 7 rfl rfl)
theorem dX4_span_10 : decode cX4_span 10 = .ok (.iload_n 1, 1) := dk_27 (dk_at dksX4_span_0 10 rfl rfl)
theorem dX4_span_11 : decode cX4_span 11 = .ok (.iaload, 1) := dk_46 (dk_at dksX4_span_0 11 rfl rfl)
theorem dX4_span_12 : decode cX4_span 12 = .ok (.isub, 1) := dk_100 (dk_at dksX4_span_0 12 rfl rfl)
theorem dX4_span_13 : decode cX4_span 13 = .ok (.ireturn, 1) := dk_172 (dk_at dksX4_span_0 13 rfl rfl)
theorem q135 : (Jvm.Cond.initialized "TollLeader$Finder") ∈ lw_all := lw_g (lw_at lw_m1 24 rfl) rfl
theorem q532 : (Jvm.Cond.fieldLinkNest "TollLeader$Finder" (34 : Nat) "TollLeader$Net" "nodes" "I" "TollLeader") ∈ lw_tbl := lw_at lw_m2 181 rfl
theorem q537 : (Jvm.Cond.fieldLinkNest "TollLeader$Finder" (48 : Nat) "TollLeader$Net" "arcs" "Ljava/util/List;" "TollLeader") ∈ lw_tbl := lw_at lw_m2 186 rfl
theorem q588 : (Jvm.Cond.fieldLinkNest "TollLeader$Finder" (28 : Nat) "TollLeader$State" "net" "LTollLeader$Net;" "TollLeader") ∈ lw_tbl := lw_at lw_m2 237 rfl
theorem q592 : (Jvm.Cond.fieldLinkNest "TollLeader$Finder" (102 : Nat) "TollLeader$State" "tolls" "[I" "TollLeader") ∈ lw_tbl := lw_at lw_m3 1 rfl
theorem q613 : (Jvm.Cond.instantiable "TollLeader$Finder" (6 : Nat)) ∈ lw_all := lw_g (lw_at lw_m3 22 rfl) rfl
theorem q615 : (Jvm.Cond.instanceMethod ({ cls := "TollLeader$Finder", name := "<init>", desc := "()V" } : Jvm.MethodName)) ∈ lw_all := lw_g (lw_at lw_m3 24 rfl) rfl
theorem q616 : (Jvm.Cond.code ({ cls := "TollLeader$Finder", name := "<init>", desc := "()V" } : Jvm.MethodName) prog_4_method_1_code (1 : Nat) (Option.none : Option Jvm.ClassFile.FieldType)) ∈ lw_all := lw_g (lw_at lw_m3 25 rfl) rfl
theorem q617 : (Jvm.Cond.methodLink "TollLeader$Finder" (3 : Nat) ({ cls := "java/lang/Object", name := "<init>", desc := "()V" } : Jvm.MethodName)) ∈ lw_all := lw_g (lw_at lw_m3 26 rfl) rfl
theorem q618 : (Jvm.Cond.fieldLink "TollLeader$Finder" (9 : Nat) "TollLeader$Finder" "far" "[J") ∈ lw_all := lw_g (lw_at lw_m3 27 rfl) rfl
theorem q619 : (Jvm.Cond.fieldLink "TollLeader$Finder" (15 : Nat) "TollLeader$Finder" "ways" "[J") ∈ lw_all := lw_g (lw_at lw_m3 28 rfl) rfl
theorem q620 : (Jvm.Cond.fieldLink "TollLeader$Finder" (18 : Nat) "TollLeader$Finder" "path" "[I") ∈ lw_all := lw_g (lw_at lw_m3 29 rfl) rfl
theorem q622 : (Jvm.Cond.fieldLink "TollLeader$Finder" (22 : Nat) "TollLeader$Finder" "most" "[I") ∈ lw_all := lw_g (lw_at lw_m3 31 rfl) rfl
theorem q623 : (Jvm.Cond.fieldLink "TollLeader$Finder" (25 : Nat) "TollLeader$Finder" "least" "[I") ∈ lw_all := lw_g (lw_at lw_m3 32 rfl) rfl
theorem q624 : (Jvm.Cond.fieldLink "TollLeader$Finder" (78 : Nat) "TollLeader$Finder" "length" "I") ∈ lw_all := lw_g (lw_at lw_m3 33 rfl) rfl
theorem q626 : (Jvm.Cond.laysFinal "TollLeader$Finder" "TollLeader$Finder" "far" "[J") ∈ lw_all := lw_g (lw_at lw_m3 35 rfl) rfl
theorem q627 : (Jvm.Cond.soleField "TollLeader$Finder" "far") ∈ lw_all := lw_g (lw_at lw_m3 36 rfl) rfl
theorem q628 : (Jvm.Cond.laysFinal "TollLeader$Finder" "TollLeader$Finder" "ways" "[J") ∈ lw_all := lw_g (lw_at lw_m3 37 rfl) rfl
theorem q629 : (Jvm.Cond.soleField "TollLeader$Finder" "ways") ∈ lw_all := lw_g (lw_at lw_m3 38 rfl) rfl
theorem q630 : (Jvm.Cond.laysFinal "TollLeader$Finder" "TollLeader$Finder" "path" "[I") ∈ lw_all := lw_g (lw_at lw_m3 39 rfl) rfl
theorem q631 : (Jvm.Cond.soleField "TollLeader$Finder" "path") ∈ lw_all := lw_g (lw_at lw_m3 40 rfl) rfl
theorem q632 : (Jvm.Cond.laysFinal "TollLeader$Finder" "TollLeader$Finder" "most" "[I") ∈ lw_all := lw_g (lw_at lw_m3 41 rfl) rfl
theorem q633 : (Jvm.Cond.soleField "TollLeader$Finder" "most") ∈ lw_all := lw_g (lw_at lw_m3 42 rfl) rfl
theorem q634 : (Jvm.Cond.laysFinal "TollLeader$Finder" "TollLeader$Finder" "least" "[I") ∈ lw_all := lw_g (lw_at lw_m3 43 rfl) rfl
theorem q635 : (Jvm.Cond.soleField "TollLeader$Finder" "least") ∈ lw_all := lw_g (lw_at lw_m3 44 rfl) rfl
theorem q636 : (Jvm.Cond.lays "TollLeader$Finder" "TollLeader$Finder" "length" "I") ∈ lw_all := lw_g (lw_at lw_m3 45 rfl) rfl
theorem q637 : (Jvm.Cond.soleField "TollLeader$Finder" "length") ∈ lw_all := lw_g (lw_at lw_m3 46 rfl) rfl
theorem q638 : (Jvm.Cond.superclass "TollLeader$Finder" "java/lang/Object") ∈ lw_all := lw_g (lw_at lw_m3 47 rfl) rfl
theorem q981 : (Jvm.Cond.selects "TollLeader$Finder" ({ cls := "java/lang/Object", name := "getClass", desc := "()Ljava/lang/Class;" } : Jvm.MethodName) ({ cls := "java/lang/Object", name := "getClass", desc := "()Ljava/lang/Class;" } : Jvm.MethodName)) ∈ lw_all := lw_g (lw_at lw_m4 150 rfl) rfl
theorem q1267 : (Jvm.Cond.instanceMethod ({ cls := "TollLeader$Finder", name := "walk", desc := "(LTollLeader$State;LTollLeader$Trip;)Z" } : Jvm.MethodName)) ∈ lw_all := lw_g (lw_at lw_m5 196 rfl) rfl
theorem q1268 : (Jvm.Cond.selects "TollLeader$Finder" ({ cls := "TollLeader$Finder", name := "walk", desc := "(LTollLeader$State;LTollLeader$Trip;)Z" } : Jvm.MethodName) ({ cls := "TollLeader$Finder", name := "walk", desc := "(LTollLeader$State;LTollLeader$Trip;)Z" } : Jvm.MethodName)) ∈ lw_all := lw_g (lw_at lw_m5 197 rfl) rfl
theorem q1269 : (Jvm.Cond.code ({ cls := "TollLeader$Finder", name := "walk", desc := "(LTollLeader$State;LTollLeader$Trip;)Z" } : Jvm.MethodName) prog_4_method_5_code (5 : Nat) (Option.some Jvm.ClassFile.FieldType.boolean)) ∈ lw_all := lw_g (lw_at lw_m5 198 rfl) rfl
theorem q1270 : (Jvm.Cond.fieldLinkNest "TollLeader$Finder" (81 : Nat) "TollLeader" "WHOLE" "LTollLeader$Weight;" "TollLeader") ∈ lw_tbl := lw_at lw_m5 199 rfl
theorem q1272 : (Jvm.Cond.methodLink "TollLeader$Finder" (85 : Nat) ({ cls := "TollLeader$Finder", name := "measure", desc := "(LTollLeader$State;LTollLeader$Trip;LTollLeader$Weight;)J" } : Jvm.MethodName)) ∈ lw_all := lw_g (lw_at lw_m5 201 rfl) rfl
theorem q1273 : (Jvm.Cond.instanceMethod ({ cls := "TollLeader$Finder", name := "measure", desc := "(LTollLeader$State;LTollLeader$Trip;LTollLeader$Weight;)J" } : Jvm.MethodName)) ∈ lw_all := lw_g (lw_at lw_m5 202 rfl) rfl
theorem q1274 : (Jvm.Cond.selects "TollLeader$Finder" ({ cls := "TollLeader$Finder", name := "measure", desc := "(LTollLeader$State;LTollLeader$Trip;LTollLeader$Weight;)J" } : Jvm.MethodName) ({ cls := "TollLeader$Finder", name := "measure", desc := "(LTollLeader$State;LTollLeader$Trip;LTollLeader$Weight;)J" } : Jvm.MethodName)) ∈ lw_all := lw_g (lw_at lw_m5 203 rfl) rfl
theorem q1275 : (Jvm.Cond.code ({ cls := "TollLeader$Finder", name := "measure", desc := "(LTollLeader$State;LTollLeader$Trip;LTollLeader$Weight;)J" } : Jvm.MethodName) prog_4_method_2_code (6 : Nat) (Option.some Jvm.ClassFile.FieldType.long)) ∈ lw_all := lw_g (lw_at lw_m5 204 rfl) rfl
theorem q1276 : (Jvm.Cond.constantLong "TollLeader$Finder" (40 : Nat) (2305843009213693951 : Int64)) ∈ lw_all := lw_g (lw_at lw_m5 205 rfl) rfl
theorem q1277 : (Jvm.Cond.methodLink "TollLeader$Finder" (42 : Nat) ({ cls := "TollLeader$Trip", name := "to", desc := "()I" } : Jvm.MethodName)) ∈ lw_all := lw_g (lw_at lw_m5 206 rfl) rfl
theorem q1281 : (Jvm.Cond.interfaceEntry "TollLeader$Finder" (52 : Nat)) ∈ lw_tbl := lw_at lw_m5 210 rfl
theorem q1282 : (Jvm.Cond.methodLink "TollLeader$Finder" (52 : Nat) ({ cls := "java/util/List", name := "size", desc := "()I" } : Jvm.MethodName)) ∈ lw_all := lw_g (lw_at lw_m5 211 rfl) rfl
theorem q1283 : (Jvm.Cond.interfaceEntry "TollLeader$Finder" (57 : Nat)) ∈ lw_tbl := lw_at lw_m5 212 rfl
theorem q1284 : (Jvm.Cond.methodLink "TollLeader$Finder" (57 : Nat) ({ cls := "java/util/List", name := "get", desc := "(I)Ljava/lang/Object;" } : Jvm.MethodName)) ∈ lw_all := lw_g (lw_at lw_m5 213 rfl) rfl
theorem q1285 : (Jvm.Cond.classLink "TollLeader$Finder" (61 : Nat) "TollLeader$Arc") ∈ lw_all := lw_g (lw_at lw_m5 214 rfl) rfl
theorem q1286 : (Jvm.Cond.methodLink "TollLeader$Finder" (63 : Nat) ({ cls := "TollLeader$Finder", name := "shorten", desc := "(LTollLeader$State;LTollLeader$Arc;LTollLeader$Trip;LTollLeader$Weight;)Z" } : Jvm.MethodName)) ∈ lw_all := lw_g (lw_at lw_m5 215 rfl) rfl
theorem q1287 : (Jvm.Cond.privateMethod ({ cls := "TollLeader$Finder", name := "shorten", desc := "(LTollLeader$State;LTollLeader$Arc;LTollLeader$Trip;LTollLeader$Weight;)Z" } : Jvm.MethodName)) ∈ lw_tbl := lw_at lw_m5 216 rfl
theorem q1288 : (Jvm.Cond.instanceMethod ({ cls := "TollLeader$Finder", name := "shorten", desc := "(LTollLeader$State;LTollLeader$Arc;LTollLeader$Trip;LTollLeader$Weight;)Z" } : Jvm.MethodName)) ∈ lw_all := lw_g (lw_at lw_m5 217 rfl) rfl
theorem q1289 : (Jvm.Cond.code ({ cls := "TollLeader$Finder", name := "shorten", desc := "(LTollLeader$State;LTollLeader$Arc;LTollLeader$Trip;LTollLeader$Weight;)Z" } : Jvm.MethodName) prog_4_method_3_code (7 : Nat) (Option.some Jvm.ClassFile.FieldType.boolean)) ∈ lw_all := lw_g (lw_at lw_m5 218 rfl) rfl
theorem q1290 : (Jvm.Cond.interfaceEntry "TollLeader$Finder" (70 : Nat)) ∈ lw_tbl := lw_at lw_m5 219 rfl
theorem q1291 : (Jvm.Cond.methodLink "TollLeader$Finder" (70 : Nat) ({ cls := "TollLeader$Weight", name := "of", desc := "(LTollLeader$State;LTollLeader$Arc;LTollLeader$Trip;)J" } : Jvm.MethodName)) ∈ lw_all := lw_g (lw_at lw_m5 220 rfl) rfl
theorem q1362 : (Jvm.Cond.methodLink "TollLeader$Finder" (76 : Nat) ({ cls := "TollLeader$Arc", name := "to", desc := "()I" } : Jvm.MethodName)) ∈ lw_all := lw_g (lw_at lw_m6 51 rfl) rfl
theorem q1366 : (Jvm.Cond.methodLink "TollLeader$Finder" (77 : Nat) ({ cls := "TollLeader$Arc", name := "from", desc := "()I" } : Jvm.MethodName)) ∈ lw_all := lw_g (lw_at lw_m6 55 rfl) rfl
theorem q1370 : (Jvm.Cond.methodLink "TollLeader$Finder" (67 : Nat) ({ cls := "TollLeader$Trip", name := "from", desc := "()I" } : Jvm.MethodName)) ∈ lw_all := lw_g (lw_at lw_m6 59 rfl) rfl
theorem q1374 : (Jvm.Cond.methodLink "TollLeader$Finder" (89 : Nat) ({ cls := "TollLeader$Finder", name := "next", desc := "(LTollLeader$State;LTollLeader$Trip;I)LTollLeader$Arc;" } : Jvm.MethodName)) ∈ lw_all := lw_g (lw_at lw_m6 63 rfl) rfl
theorem q1375 : (Jvm.Cond.privateMethod ({ cls := "TollLeader$Finder", name := "next", desc := "(LTollLeader$State;LTollLeader$Trip;I)LTollLeader$Arc;" } : Jvm.MethodName)) ∈ lw_tbl := lw_at lw_m6 64 rfl
theorem q1376 : (Jvm.Cond.instanceMethod ({ cls := "TollLeader$Finder", name := "next", desc := "(LTollLeader$State;LTollLeader$Trip;I)LTollLeader$Arc;" } : Jvm.MethodName)) ∈ lw_all := lw_g (lw_at lw_m6 65 rfl) rfl
theorem q1377 : (Jvm.Cond.code ({ cls := "TollLeader$Finder", name := "next", desc := "(LTollLeader$State;LTollLeader$Trip;I)LTollLeader$Arc;" } : Jvm.MethodName) prog_4_method_6_code (6 : Nat) (Option.some (Jvm.ClassFile.FieldType.object "TollLeader$Arc"))) ∈ lw_all := lw_g (lw_at lw_m6 66 rfl) rfl
theorem q1378 : (Jvm.Cond.methodLink "TollLeader$Finder" (96 : Nat) ({ cls := "TollLeader$Finder", name := "isTight", desc := "(LTollLeader$State;LTollLeader$Arc;LTollLeader$Trip;LTollLeader$Weight;)Z" } : Jvm.MethodName)) ∈ lw_all := lw_g (lw_at lw_m6 67 rfl) rfl
theorem q1379 : (Jvm.Cond.privateMethod ({ cls := "TollLeader$Finder", name := "isTight", desc := "(LTollLeader$State;LTollLeader$Arc;LTollLeader$Trip;LTollLeader$Weight;)Z" } : Jvm.MethodName)) ∈ lw_tbl := lw_at lw_m6 68 rfl
theorem q1380 : (Jvm.Cond.instanceMethod ({ cls := "TollLeader$Finder", name := "isTight", desc := "(LTollLeader$State;LTollLeader$Arc;LTollLeader$Trip;LTollLeader$Weight;)Z" } : Jvm.MethodName)) ∈ lw_all := lw_g (lw_at lw_m6 69 rfl) rfl
theorem q1381 : (Jvm.Cond.code ({ cls := "TollLeader$Finder", name := "isTight", desc := "(LTollLeader$State;LTollLeader$Arc;LTollLeader$Trip;LTollLeader$Weight;)Z" } : Jvm.MethodName) prog_4_method_4_code (7 : Nat) (Option.some Jvm.ClassFile.FieldType.boolean)) ∈ lw_all := lw_g (lw_at lw_m6 70 rfl) rfl
theorem q1382 : (Jvm.Cond.classLink "TollLeader$Finder" (99 : Nat) "java/util/NoSuchElementException") ∈ lw_all := lw_g (lw_at lw_m6 71 rfl) rfl
theorem q1391 : (Jvm.Cond.methodLink "TollLeader$Finder" (101 : Nat) ({ cls := "java/util/NoSuchElementException", name := "<init>", desc := "()V" } : Jvm.MethodName)) ∈ lw_all := lw_g (lw_at lw_m6 80 rfl) rfl
theorem q1403 : (Jvm.Cond.methodLink "TollLeader$Finder" (93 : Nat) ({ cls := "TollLeader$Arc", name := "number", desc := "()I" } : Jvm.MethodName)) ∈ lw_all := lw_g (lw_at lw_m6 92 rfl) rfl
theorem q1405 : (Jvm.Cond.instanceMethod ({ cls := "TollLeader$Finder", name := "has", desc := "(I)Z" } : Jvm.MethodName)) ∈ lw_all := lw_g (lw_at lw_m6 94 rfl) rfl
theorem q1406 : (Jvm.Cond.selects "TollLeader$Finder" ({ cls := "TollLeader$Finder", name := "has", desc := "(I)Z" } : Jvm.MethodName) ({ cls := "TollLeader$Finder", name := "has", desc := "(I)Z" } : Jvm.MethodName)) ∈ lw_all := lw_g (lw_at lw_m6 95 rfl) rfl
theorem q1407 : (Jvm.Cond.code ({ cls := "TollLeader$Finder", name := "has", desc := "(I)Z" } : Jvm.MethodName) prog_4_method_7_code (3 : Nat) (Option.some Jvm.ClassFile.FieldType.boolean)) ∈ lw_all := lw_g (lw_at lw_m6 96 rfl) rfl
theorem q1736 : (Jvm.Cond.instanceMethod ({ cls := "TollLeader$Finder", name := "tolls", desc := "(LTollLeader$State;)I" } : Jvm.MethodName)) ∈ lw_all := lw_g (lw_at lw_m7 185 rfl) rfl
theorem q1737 : (Jvm.Cond.selects "TollLeader$Finder" ({ cls := "TollLeader$Finder", name := "tolls", desc := "(LTollLeader$State;)I" } : Jvm.MethodName) ({ cls := "TollLeader$Finder", name := "tolls", desc := "(LTollLeader$State;)I" } : Jvm.MethodName)) ∈ lw_all := lw_g (lw_at lw_m7 186 rfl) rfl
theorem q1738 : (Jvm.Cond.code ({ cls := "TollLeader$Finder", name := "tolls", desc := "(LTollLeader$State;)I" } : Jvm.MethodName) prog_4_method_8_code (4 : Nat) (Option.some Jvm.ClassFile.FieldType.int)) ∈ lw_all := lw_g (lw_at lw_m7 187 rfl) rfl
theorem q2094 : (Jvm.Cond.instanceMethod ({ cls := "TollLeader$Finder", name := "costs", desc := "(LTollLeader$State;)I" } : Jvm.MethodName)) ∈ lw_all := lw_g (lw_at lw_m9 63 rfl) rfl
theorem q2095 : (Jvm.Cond.selects "TollLeader$Finder" ({ cls := "TollLeader$Finder", name := "costs", desc := "(LTollLeader$State;)I" } : Jvm.MethodName) ({ cls := "TollLeader$Finder", name := "costs", desc := "(LTollLeader$State;)I" } : Jvm.MethodName)) ∈ lw_all := lw_g (lw_at lw_m9 64 rfl) rfl
theorem q2096 : (Jvm.Cond.code ({ cls := "TollLeader$Finder", name := "costs", desc := "(LTollLeader$State;)I" } : Jvm.MethodName) prog_4_method_9_code (4 : Nat) (Option.some Jvm.ClassFile.FieldType.int)) ∈ lw_all := lw_g (lw_at lw_m9 65 rfl) rfl
theorem q2097 : (Jvm.Cond.methodLink "TollLeader$Finder" (105 : Nat) ({ cls := "TollLeader$Arc", name := "cost", desc := "()I" } : Jvm.MethodName)) ∈ lw_all := lw_g (lw_at lw_m9 66 rfl) rfl
theorem q2141 : (Jvm.Cond.instanceMethod ({ cls := "TollLeader$Finder", name := "count", desc := "(LTollLeader$State;LTollLeader$Trip;)J" } : Jvm.MethodName)) ∈ lw_all := lw_g (lw_at lw_m9 110 rfl) rfl
theorem q2142 : (Jvm.Cond.selects "TollLeader$Finder" ({ cls := "TollLeader$Finder", name := "count", desc := "(LTollLeader$State;LTollLeader$Trip;)J" } : Jvm.MethodName) ({ cls := "TollLeader$Finder", name := "count", desc := "(LTollLeader$State;LTollLeader$Trip;)J" } : Jvm.MethodName)) ∈ lw_all := lw_g (lw_at lw_m9 111 rfl) rfl
theorem q2143 : (Jvm.Cond.code ({ cls := "TollLeader$Finder", name := "count", desc := "(LTollLeader$State;LTollLeader$Trip;)J" } : Jvm.MethodName) prog_4_method_10_code (4 : Nat) (Option.some Jvm.ClassFile.FieldType.long)) ∈ lw_all := lw_g (lw_at lw_m9 112 rfl) rfl
theorem q2144 : (Jvm.Cond.fieldLinkNest "TollLeader$Finder" (108 : Nat) "TollLeader" "PLAIN" "LTollLeader$Weight;" "TollLeader") ∈ lw_tbl := lw_at lw_m9 113 rfl
theorem q2145 : (Jvm.Cond.constantLong "TollLeader$Finder" (111 : Nat) (-1 : Int64)) ∈ lw_all := lw_g (lw_at lw_m9 114 rfl) rfl
theorem q2146 : (Jvm.Cond.methodLink "TollLeader$Finder" (113 : Nat) ({ cls := "TollLeader$Finder", name := "countFrom", desc := "(LTollLeader$State;LTollLeader$Trip;I)J" } : Jvm.MethodName)) ∈ lw_all := lw_g (lw_at lw_m9 115 rfl) rfl
theorem q2147 : (Jvm.Cond.privateMethod ({ cls := "TollLeader$Finder", name := "countFrom", desc := "(LTollLeader$State;LTollLeader$Trip;I)J" } : Jvm.MethodName)) ∈ lw_tbl := lw_at lw_m9 116 rfl
theorem q2148 : (Jvm.Cond.instanceMethod ({ cls := "TollLeader$Finder", name := "countFrom", desc := "(LTollLeader$State;LTollLeader$Trip;I)J" } : Jvm.MethodName)) ∈ lw_all := lw_g (lw_at lw_m9 117 rfl) rfl
theorem q2149 : (Jvm.Cond.code ({ cls := "TollLeader$Finder", name := "countFrom", desc := "(LTollLeader$State;LTollLeader$Trip;I)J" } : Jvm.MethodName) prog_4_method_11_code (12 : Nat) (Option.some Jvm.ClassFile.FieldType.long)) ∈ lw_all := lw_g (lw_at lw_m9 118 rfl) rfl
theorem q2150 : (Jvm.Cond.methodLink "TollLeader$Finder" (117 : Nat) ({ cls := "TollLeader$State", name := "toll", desc := "(LTollLeader$Arc;)I" } : Jvm.MethodName)) ∈ lw_all := lw_g (lw_at lw_m9 119 rfl) rfl
theorem q2151 : (Jvm.Cond.methodLink "TollLeader$Finder" (121 : Nat) ({ cls := "java/lang/Math", name := "max", desc := "(II)I" } : Jvm.MethodName)) ∈ lw_all := lw_g (lw_at lw_m9 120 rfl) rfl
theorem q2152 : (Jvm.Cond.methodLink "TollLeader$Finder" (127 : Nat) ({ cls := "java/lang/Math", name := "min", desc := "(II)I" } : Jvm.MethodName)) ∈ lw_all := lw_g (lw_at lw_m9 121 rfl) rfl
theorem q2161 : (Jvm.Cond.instanceMethod ({ cls := "TollLeader$Finder", name := "span", desc := "(I)I" } : Jvm.MethodName)) ∈ lw_all := lw_g (lw_at lw_m9 130 rfl) rfl
theorem q2162 : (Jvm.Cond.selects "TollLeader$Finder" ({ cls := "TollLeader$Finder", name := "span", desc := "(I)I" } : Jvm.MethodName) ({ cls := "TollLeader$Finder", name := "span", desc := "(I)I" } : Jvm.MethodName)) ∈ lw_all := lw_g (lw_at lw_m9 131 rfl) rfl
theorem q2163 : (Jvm.Cond.code ({ cls := "TollLeader$Finder", name := "span", desc := "(I)I" } : Jvm.MethodName) prog_4_method_12_code (2 : Nat) (Option.some Jvm.ClassFile.FieldType.int)) ∈ lw_all := lw_g (lw_at lw_m9 132 rfl) rfl
theorem q3064 : (Jvm.Cond.castable "TollLeader$Finder" "java/lang/Object") ∈ lw_tbl := lw_at lw_m13 73 rfl
theorem in_X4 : ∀ w ∈ wsX40, w ∈ lw_all := lw_in wsX40 [626, 628, 630, 632, 634, 636] (by decide +kernel) (by decide +kernel)
/-! TollLeader$Parser -/
set_option maxRecDepth 100000
def RX6 : String := "TollLeader$Parser"
def TX6 : u_T := fun k => match k with
  | 0 => ("TollLeader$Parser", "net", "LTollLeader$Net;", false)
  | 1 => ("TollLeader$Parser", "position", "I", false)
  | 2 => ("TollLeader$Parser", "start", "I", false)
  | 3 => ("TollLeader$Parser", "statement", "I", false)
  | _ => ("TollLeader$Parser", "this$0", "LTollLeader;", true)
def tyX6 : Nat → FieldType := fun k => match k with
  | 0 => .object "TollLeader$Net"
  | 1 => .int
  | 2 => .int
  | 3 => .int
  | _ => .object "TollLeader"
abbrev wsX60 : List Cond := u_ws RX6 TX6 5
theorem nmX6 : ∀ a, a < 5 → ∀ b, b < 5 → a ≠ b → (TX6 a).2.1 ≠ (TX6 b).2.1 := by decide +kernel
theorem tyX6_ok : ∀ k, k < 5 → parseFieldDescriptor (TX6 k).2.2.1 = some (tyX6 k) := by decide +kernel
abbrev cX6_init : ByteArray := prog_8_method_1_code
def yX6_init : MethodName := ⟨RX6, "<init>", "(LTollLeader;)V"⟩
def dkwX6_init_0 : List UInt8 := [42, 43, 181, 0, 3, 42, 183, 0, 9, 42, 187, 0, 15, 89, 5, 183, 0, 17, 181, 0, 20, 177]
abbrev dktX6_init_0 : List UInt8 := dkwX6_init_0 ++ []
theorem dksX6_init_0 : cX6_init.data.toList.drop 0 = dktX6_init_0 := by decide +kernel
theorem dX6_init_0 : decode cX6_init 0 = .ok (.aload_n 0, 1) := dk_42 (dk_at dksX6_init_0 0 rfl rfl)
theorem dX6_init_1 : decode cX6_init 1 = .ok (.aload_n 1, 1) := dk_43 (dk_at dksX6_init_0 1 rfl rfl)
theorem dX6_init_2 : decode cX6_init 2 = .ok (.putfield 3, 3) := dk_181 0 3 (dk_at dksX6_init_0 2 rfl rfl)
theorem dX6_init_5 : decode cX6_init 5 = .ok (.aload_n 0, 1) := dk_42 (dk_at dksX6_init_0 5 rfl rfl)
theorem dX6_init_6 : decode cX6_init 6 = .ok (.invokespecial 9, 3) := dk_183 0 9 (dk_at dksX6_init_0 6 rfl rfl)
theorem dX6_init_9 : decode cX6_init 9 = .ok (.aload_n 0, 1) := dk_42 (dk_at dksX6_init_0 9 rfl rfl)
theorem dX6_init_10 : decode cX6_init 10 = .ok (.new 15, 3) := dk_187 0 15 (dk_at dksX6_init_0 10 rfl rfl)
theorem dX6_init_13 : decode cX6_init 13 = .ok (.dup, 1) := dk_89 (dk_at dksX6_init_0 13 rfl rfl)
theorem dX6_init_14 : decode cX6_init 14 = .ok (.iconst 2, 1) := dk_5 (dk_at dksX6_init_0 14 rfl rfl)
theorem dX6_init_15 : decode cX6_init 15 = .ok (.invokespecial 17, 3) := dk_183 0 17 (dk_at dksX6_init_0 15 rfl rfl)
theorem dX6_init_18 : decode cX6_init 18 = .ok (.putfield 20, 3) := dk_181 0 20 (dk_at dksX6_init_0 18 rfl rfl)
theorem dX6_init_21 : decode cX6_init 21 = .ok (.return_, 1) := dk_177 (dk_at dksX6_init_0 21 rfl rfl)
abbrev cX6_parse : ByteArray := prog_8_method_13_code
def yX6_parse : MethodName := ⟨RX6, "parse", "()LTollLeader$Net;"⟩
def dkwX6_parse_2 : List UInt8 := [181, 0, 154, 42, 182, 0, 157, 167, 255, 235, 42, 180, 0, 20, 176]
abbrev dktX6_parse_2 : List UInt8 := dkwX6_parse_2 ++ []
def dkwX6_parse_1 : List UInt8 := [182, 0, 88, 183, 0, 17, 181, 0, 20, 42, 182, 0, 150, 153, 0, 20, 42, 89, 180, 0, 154, 4, 96]
abbrev dktX6_parse_1 : List UInt8 := dkwX6_parse_1 ++ dktX6_parse_2
def dkwX6_parse_0 : List UInt8 := [42, 42, 182, 0, 107, 18, 149, 182, 0, 112, 4, 182, 0, 55, 42, 187, 0, 15, 89, 42, 5, 16, 10]
abbrev dktX6_parse_0 : List UInt8 := dkwX6_parse_0 ++ dktX6_parse_1
theorem dksX6_parse_0 : cX6_parse.data.toList.drop 0 = dktX6_parse_0 := by decide +kernel
theorem dksX6_parse_1 : cX6_parse.data.toList.drop 23 = dktX6_parse_1 := dk_seg dksX6_parse_0 23 rfl rfl
theorem dksX6_parse_2 : cX6_parse.data.toList.drop 46 = dktX6_parse_2 := dk_seg dksX6_parse_1 23 rfl rfl
theorem dX6_parse_0 : decode cX6_parse 0 = .ok (.aload_n 0, 1) := dk_42 (dk_at dksX6_parse_0 0 rfl rfl)
theorem dX6_parse_1 : decode cX6_parse 1 = .ok (.aload_n 0, 1) := dk_42 (dk_at dksX6_parse_0 1 rfl rfl)
theorem dX6_parse_2 : decode cX6_parse 2 = .ok (.invokevirtual 107, 3) := dk_182 0 107 (dk_at dksX6_parse_0 2 rfl rfl)
theorem dX6_parse_5 : decode cX6_parse 5 = .ok (.ldc 149, 2) := dk_18 149 (dk_at dksX6_parse_0 5 rfl rfl)
theorem dX6_parse_7 : decode cX6_parse 7 = .ok (.invokevirtual 112, 3) := dk_182 0 112 (dk_at dksX6_parse_0 7 rfl rfl)
theorem dX6_parse_10 : decode cX6_parse 10 = .ok (.iconst 1, 1) := dk_4 (dk_at dksX6_parse_0 10 rfl rfl)
theorem dX6_parse_11 : decode cX6_parse 11 = .ok (.invokevirtual 55, 3) := dk_182 0 55 (dk_at dksX6_parse_0 11 rfl rfl)
theorem dX6_parse_14 : decode cX6_parse 14 = .ok (.aload_n 0, 1) := dk_42 (dk_at dksX6_parse_0 14 rfl rfl)
theorem dX6_parse_15 : decode cX6_parse 15 = .ok (.new 15, 3) := dk_187 0 15 (dk_at dksX6_parse_0 15 rfl rfl)
theorem dX6_parse_18 : decode cX6_parse 18 = .ok (.dup, 1) := dk_89 (dk_at dksX6_parse_0 18 rfl rfl)
theorem dX6_parse_19 : decode cX6_parse 19 = .ok (.aload_n 0, 1) := dk_42 (dk_at dksX6_parse_0 19 rfl rfl)
theorem dX6_parse_20 : decode cX6_parse 20 = .ok (.iconst 2, 1) := dk_5 (dk_at dksX6_parse_0 20 rfl rfl)
theorem dX6_parse_21 : decode cX6_parse 21 = .ok (.bipush 10, 2) := dk_16 10 (dk_at dksX6_parse_0 21 rfl rfl)
theorem dX6_parse_23 : decode cX6_parse 23 = .ok (.invokevirtual 88, 3) := dk_182 0 88 (dk_at dksX6_parse_1 0 rfl rfl)
theorem dX6_parse_26 : decode cX6_parse 26 = .ok (.invokespecial 17, 3) := dk_183 0 17 (dk_at dksX6_parse_1 3 rfl rfl)
theorem dX6_parse_29 : decode cX6_parse 29 = .ok (.putfield 20, 3) := dk_181 0 20 (dk_at dksX6_parse_1 6 rfl rfl)
theorem dX6_parse_32 : decode cX6_parse 32 = .ok (.aload_n 0, 1) := dk_42 (dk_at dksX6_parse_1 9 rfl rfl)
theorem dX6_parse_33 : decode cX6_parse 33 = .ok (.invokevirtual 150, 3) := dk_182 0 150 (dk_at dksX6_parse_1 10 rfl rfl)
theorem dX6_parse_36 : decode cX6_parse 36 = .ok (.ifCond .eq 20, 3) := dk_153 0 20 (dk_at dksX6_parse_1 13 rfl rfl)
theorem dX6_parse_39 : decode cX6_parse 39 = .ok (.aload_n 0, 1) := dk_42 (dk_at dksX6_parse_1 16 rfl rfl)
theorem dX6_parse_40 : decode cX6_parse 40 = .ok (.dup, 1) := dk_89 (dk_at dksX6_parse_1 17 rfl rfl)
theorem dX6_parse_41 : decode cX6_parse 41 = .ok (.getfield 154, 3) := dk_180 0 154 (dk_at dksX6_parse_1 18 rfl rfl)
theorem dX6_parse_44 : decode cX6_parse 44 = .ok (.iconst 1, 1) := dk_4 (dk_at dksX6_parse_1 21 rfl rfl)
theorem dX6_parse_45 : decode cX6_parse 45 = .ok (.iadd, 1) := dk_96 (dk_at dksX6_parse_1 22 rfl rfl)
theorem dX6_parse_46 : decode cX6_parse 46 = .ok (.putfield 154, 3) := dk_181 0 154 (dk_at dksX6_parse_2 0 rfl rfl)
theorem dX6_parse_49 : decode cX6_parse 49 = .ok (.aload_n 0, 1) := dk_42 (dk_at dksX6_parse_2 3 rfl rfl)
theorem dX6_parse_50 : decode cX6_parse 50 = .ok (.invokevirtual 157, 3) := dk_182 0 157 (dk_at dksX6_parse_2 4 rfl rfl)
theorem dX6_parse_53 : decode cX6_parse 53 = .ok (.goto (-21), 3) := dk_167 255 235 (dk_at dksX6_parse_2 7 rfl rfl)
theorem dX6_parse_56 : decode cX6_parse 56 = .ok (.aload_n 0, 1) := dk_42 (dk_at dksX6_parse_2 10 rfl rfl)
theorem dX6_parse_57 : decode cX6_parse 57 = .ok (.getfield 20, 3) := dk_180 0 20 (dk_at dksX6_parse_2 11 rfl rfl)
theorem dX6_parse_60 : decode cX6_parse 60 = .ok (.areturn, 1) := dk_176 (dk_at dksX6_parse_2 14 rfl rfl)
abbrev cX6_word : ByteArray := prog_8_method_5_code
def yX6_word : MethodName := ⟨RX6, "word", "()Ljava/lang/String;"⟩
def dkwX6_word_3 : List UInt8 := [182, 0, 70, 176]
abbrev dktX6_word_3 : List UInt8 := dkwX6_word_3 ++ []
def dkwX6_word_2 : List UInt8 := [180, 0, 24, 51, 146, 182, 0, 66, 87, 42, 89, 180, 0, 24, 4, 96, 181, 0, 24, 167, 255, 217, 43]
abbrev dktX6_word_2 : List UInt8 := dkwX6_word_2 ++ dktX6_word_3
def dkwX6_word_1 : List UInt8 := [183, 0, 61, 76, 42, 16, 97, 16, 122, 182, 0, 62, 153, 0, 34, 43, 42, 180, 0, 3, 180, 0, 31, 42]
abbrev dktX6_word_1 : List UInt8 := dkwX6_word_1 ++ dktX6_word_2
def dkwX6_word_0 : List UInt8 := [42, 42, 182, 0, 47, 133, 20, 0, 51, 20, 0, 53, 184, 0, 43, 4, 182, 0, 55, 187, 0, 59, 89]
abbrev dktX6_word_0 : List UInt8 := dkwX6_word_0 ++ dktX6_word_1
theorem dksX6_word_0 : cX6_word.data.toList.drop 0 = dktX6_word_0 := by decide +kernel
theorem dksX6_word_1 : cX6_word.data.toList.drop 23 = dktX6_word_1 := dk_seg dksX6_word_0 23 rfl rfl
theorem dksX6_word_2 : cX6_word.data.toList.drop 47 = dktX6_word_2 := dk_seg dksX6_word_1 24 rfl rfl
theorem dksX6_word_3 : cX6_word.data.toList.drop 70 = dktX6_word_3 := dk_seg dksX6_word_2 23 rfl rfl
theorem dX6_word_0 : decode cX6_word 0 = .ok (.aload_n 0, 1) := dk_42 (dk_at dksX6_word_0 0 rfl rfl)
theorem dX6_word_1 : decode cX6_word 1 = .ok (.aload_n 0, 1) := dk_42 (dk_at dksX6_word_0 1 rfl rfl)
theorem dX6_word_2 : decode cX6_word 2 = .ok (.invokevirtual 47, 3) := dk_182 0 47 (dk_at dksX6_word_0 2 rfl rfl)
theorem dX6_word_5 : decode cX6_word 5 = .ok (.i2l, 1) := dk_133 (dk_at dksX6_word_0 5 rfl rfl)
theorem dX6_word_6 : decode cX6_word 6 = .ok (.ldc2_w 51, 3) := dk_20 0 51 (dk_at dksX6_word_0 6 rfl rfl)
theorem dX6_word_9 : decode cX6_word 9 = .ok (.ldc2_w 53, 3) := dk_20 0 53 (dk_at dksX6_word_0 9 rfl rfl)
theorem dX6_word_12 : decode cX6_word 12 = .ok (.invokestatic 43, 3) := dk_184 0 43 (dk_at dksX6_word_0 12 rfl rfl)
theorem dX6_word_15 : decode cX6_word 15 = .ok (.iconst 1, 1) := dk_4 (dk_at dksX6_word_0 15 rfl rfl)
theorem dX6_word_16 : decode cX6_word 16 = .ok (.invokevirtual 55, 3) := dk_182 0 55 (dk_at dksX6_word_0 16 rfl rfl)
theorem dX6_word_19 : decode cX6_word 19 = .ok (.new 59, 3) := dk_187 0 59 (dk_at dksX6_word_0 19 rfl rfl)
theorem dX6_word_22 : decode cX6_word 22 = .ok (.dup, 1) := dk_89 (dk_at dksX6_word_0 22 rfl rfl)
theorem dX6_word_23 : decode cX6_word 23 = .ok (.invokespecial 61, 3) := dk_183 0 61 (dk_at dksX6_word_1 0 rfl rfl)
theorem dX6_word_26 : decode cX6_word 26 = .ok (.astore_n 1, 1) := dk_76 (dk_at dksX6_word_1 3 rfl rfl)
theorem dX6_word_27 : decode cX6_word 27 = .ok (.aload_n 0, 1) := dk_42 (dk_at dksX6_word_1 4 rfl rfl)
theorem dX6_word_28 : decode cX6_word 28 = .ok (.bipush 97, 2) := dk_16 97 (dk_at dksX6_word_1 5 rfl rfl)
theorem dX6_word_30 : decode cX6_word 30 = .ok (.bipush 122, 2) := dk_16 122 (dk_at dksX6_word_1 7 rfl rfl)
theorem dX6_word_32 : decode cX6_word 32 = .ok (.invokevirtual 62, 3) := dk_182 0 62 (dk_at dksX6_word_1 9 rfl rfl)
theorem dX6_word_35 : decode cX6_word 35 = .ok (.ifCond .eq 34, 3) := dk_153 0 34 (dk_at dksX6_word_1 12 rfl rfl)
theorem dX6_word_38 : decode cX6_word 38 = .ok (.aload_n 1, 1) := dk_43 (dk_at dksX6_word_1 15 rfl rfl)
theorem dX6_word_39 : decode cX6_word 39 = .ok (.aload_n 0, 1) := dk_42 (dk_at dksX6_word_1 16 rfl rfl)
theorem dX6_word_40 : decode cX6_word 40 = .ok (.getfield 3, 3) := dk_180 0 3 (dk_at dksX6_word_1 17 rfl rfl)
theorem dX6_word_43 : decode cX6_word 43 = .ok (.getfield 31, 3) := dk_180 0 31 (dk_at dksX6_word_1 20 rfl rfl)
theorem dX6_word_46 : decode cX6_word 46 = .ok (.aload_n 0, 1) := dk_42 (dk_at dksX6_word_1 23 rfl rfl)
theorem dX6_word_47 : decode cX6_word 47 = .ok (.getfield 24, 3) := dk_180 0 24 (dk_at dksX6_word_2 0 rfl rfl)
theorem dX6_word_50 : decode cX6_word 50 = .ok (.baload, 1) := dk_51 (dk_at dksX6_word_2 3 rfl rfl)
theorem dX6_word_51 : decode cX6_word 51 = .ok (.i2c, 1) := dk_146 (dk_at dksX6_word_2 4 rfl rfl)
theorem dX6_word_52 : decode cX6_word 52 = .ok (.invokevirtual 66, 3) := dk_182 0 66 (dk_at dksX6_word_2 5 rfl rfl)
theorem dX6_word_55 : decode cX6_word 55 = .ok (.pop, 1) := dk_87 (dk_at dksX6_word_2 8 rfl rfl)
theorem dX6_word_56 : decode cX6_word 56 = .ok (.aload_n 0, 1) := dk_42 (dk_at dksX6_word_2 9 rfl rfl)
theorem dX6_word_57 : decode cX6_word 57 = .ok (.dup, 1) := dk_89 (dk_at dksX6_word_2 10 rfl rfl)
theorem dX6_word_58 : decode cX6_word 58 = .ok (.getfield 24, 3) := dk_180 0 24 (dk_at dksX6_word_2 11 rfl rfl)
theorem dX6_word_61 : decode cX6_word 61 = .ok (.iconst 1, 1) := dk_4 (dk_at dksX6_word_2 14 rfl rfl)
theorem dX6_word_62 : decode cX6_word 62 = .ok (.iadd, 1) := dk_96 (dk_at dksX6_word_2 15 rfl rfl)
theorem dX6_word_63 : decode cX6_word 63 = .ok (.putfield 24, 3) := dk_181 0 24 (dk_at dksX6_word_2 16 rfl rfl)
theorem dX6_word_66 : decode cX6_word 66 = .ok (.goto (-39), 3) := dk_167 255 217 (dk_at dksX6_word_2 19 rfl rfl)
theorem dX6_word_69 : decode cX6_word 69 = .ok (.aload_n 1, 1) := dk_43 (dk_at dksX6_word_2 22 rfl rfl)
theorem dX6_word_70 : decode cX6_word 70 = .ok (.invokevirtual 70, 3) := dk_182 0 70 (dk_at dksX6_word_3 0 rfl rfl)
theorem dX6_word_73 : decode cX6_word 73 = .ok (.areturn, 1) := dk_176 (dk_at dksX6_word_3 3 rfl rfl)
abbrev cX6_peek : ByteArray := prog_8_method_2_code
def yX6_peek : MethodName := ⟨RX6, "peek", "()I"⟩
def dkwX6_peek_3 : List UInt8 := [180, 0, 31, 42, 180, 0, 24, 51, 17, 0, 255, 126, 167, 0, 4, 2, 172]
abbrev dktX6_peek_3 : List UInt8 := dkwX6_peek_3 ++ []
def dkwX6_peek_2 : List UInt8 := [180, 0, 24, 181, 0, 35, 42, 180, 0, 24, 42, 180, 0, 3, 180, 0, 28, 162, 0, 22, 42, 180, 0, 3]
abbrev dktX6_peek_2 : List UInt8 := dkwX6_peek_2 ++ dktX6_peek_3
def dkwX6_peek_1 : List UInt8 := [180, 0, 24, 51, 16, 32, 160, 0, 16, 42, 89, 180, 0, 24, 4, 96, 181, 0, 24, 167, 255, 215, 42, 42]
abbrev dktX6_peek_1 : List UInt8 := dkwX6_peek_1 ++ dktX6_peek_2
def dkwX6_peek_0 : List UInt8 := [42, 180, 0, 24, 42, 180, 0, 3, 180, 0, 28, 162, 0, 33, 42, 180, 0, 3, 180, 0, 31, 42]
abbrev dktX6_peek_0 : List UInt8 := dkwX6_peek_0 ++ dktX6_peek_1
theorem dksX6_peek_0 : cX6_peek.data.toList.drop 0 = dktX6_peek_0 := by decide +kernel
theorem dksX6_peek_1 : cX6_peek.data.toList.drop 22 = dktX6_peek_1 := dk_seg dksX6_peek_0 22 rfl rfl
theorem dksX6_peek_2 : cX6_peek.data.toList.drop 46 = dktX6_peek_2 := dk_seg dksX6_peek_1 24 rfl rfl
theorem dksX6_peek_3 : cX6_peek.data.toList.drop 70 = dktX6_peek_3 := dk_seg dksX6_peek_2 24 rfl rfl
theorem dX6_peek_0 : decode cX6_peek 0 = .ok (.aload_n 0, 1) := dk_42 (dk_at dksX6_peek_0 0 rfl rfl)
theorem dX6_peek_1 : decode cX6_peek 1 = .ok (.getfield 24, 3) := dk_180 0 24 (dk_at dksX6_peek_0 1 rfl rfl)
theorem dX6_peek_4 : decode cX6_peek 4 = .ok (.aload_n 0, 1) := dk_42 (dk_at dksX6_peek_0 4 rfl rfl)
theorem dX6_peek_5 : decode cX6_peek 5 = .ok (.getfield 3, 3) := dk_180 0 3 (dk_at dksX6_peek_0 5 rfl rfl)
theorem dX6_peek_8 : decode cX6_peek 8 = .ok (.getfield 28, 3) := dk_180 0 28 (dk_at dksX6_peek_0 8 rfl rfl)
theorem dX6_peek_11 : decode cX6_peek 11 = .ok (.if_icmp .ge 33, 3) := dk_162 0 33 (dk_at dksX6_peek_0 11 rfl rfl)
theorem dX6_peek_14 : decode cX6_peek 14 = .ok (.aload_n 0, 1) := dk_42 (dk_at dksX6_peek_0 14 rfl rfl)
theorem dX6_peek_15 : decode cX6_peek 15 = .ok (.getfield 3, 3) := dk_180 0 3 (dk_at dksX6_peek_0 15 rfl rfl)
theorem dX6_peek_18 : decode cX6_peek 18 = .ok (.getfield 31, 3) := dk_180 0 31 (dk_at dksX6_peek_0 18 rfl rfl)
theorem dX6_peek_21 : decode cX6_peek 21 = .ok (.aload_n 0, 1) := dk_42 (dk_at dksX6_peek_0 21 rfl rfl)
theorem dX6_peek_22 : decode cX6_peek 22 = .ok (.getfield 24, 3) := dk_180 0 24 (dk_at dksX6_peek_1 0 rfl rfl)
theorem dX6_peek_25 : decode cX6_peek 25 = .ok (.baload, 1) := dk_51 (dk_at dksX6_peek_1 3 rfl rfl)
theorem dX6_peek_26 : decode cX6_peek 26 = .ok (.bipush 32, 2) := dk_16 32 (dk_at dksX6_peek_1 4 rfl rfl)
theorem dX6_peek_28 : decode cX6_peek 28 = .ok (.if_icmp .ne 16, 3) := dk_160 0 16 (dk_at dksX6_peek_1 6 rfl rfl)
theorem dX6_peek_31 : decode cX6_peek 31 = .ok (.aload_n 0, 1) := dk_42 (dk_at dksX6_peek_1 9 rfl rfl)
theorem dX6_peek_32 : decode cX6_peek 32 = .ok (.dup, 1) := dk_89 (dk_at dksX6_peek_1 10 rfl rfl)
theorem dX6_peek_33 : decode cX6_peek 33 = .ok (.getfield 24, 3) := dk_180 0 24 (dk_at dksX6_peek_1 11 rfl rfl)
theorem dX6_peek_36 : decode cX6_peek 36 = .ok (.iconst 1, 1) := dk_4 (dk_at dksX6_peek_1 14 rfl rfl)
theorem dX6_peek_37 : decode cX6_peek 37 = .ok (.iadd, 1) := dk_96 (dk_at dksX6_peek_1 15 rfl rfl)
theorem dX6_peek_38 : decode cX6_peek 38 = .ok (.putfield 24, 3) := dk_181 0 24 (dk_at dksX6_peek_1 16 rfl rfl)
theorem dX6_peek_41 : decode cX6_peek 41 = .ok (.goto (-41), 3) := dk_167 255 215 (dk_at dksX6_peek_1 19 rfl rfl)
theorem dX6_peek_44 : decode cX6_peek 44 = .ok (.aload_n 0, 1) := dk_42 (dk_at dksX6_peek_1 22 rfl rfl)
theorem dX6_peek_45 : decode cX6_peek 45 = .ok (.aload_n 0, 1) := dk_42 (dk_at dksX6_peek_1 23 rfl rfl)
theorem dX6_peek_46 : decode cX6_peek 46 = .ok (.getfield 24, 3) := dk_180 0 24 (dk_at dksX6_peek_2 0 rfl rfl)
theorem dX6_peek_49 : decode cX6_peek 49 = .ok (.putfield 35, 3) := dk_181 0 35 (dk_at dksX6_peek_2 3 rfl rfl)
theorem dX6_peek_52 : decode cX6_peek 52 = .ok (.aload_n 0, 1) := dk_42 (dk_at dksX6_peek_2 6 rfl rfl)
theorem dX6_peek_53 : decode cX6_peek 53 = .ok (.getfield 24, 3) := dk_180 0 24 (dk_at dksX6_peek_2 7 rfl rfl)
theorem dX6_peek_56 : decode cX6_peek 56 = .ok (.aload_n 0, 1) := dk_42 (dk_at dksX6_peek_2 10 rfl rfl)
theorem dX6_peek_57 : decode cX6_peek 57 = .ok (.getfield 3, 3) := dk_180 0 3 (dk_at dksX6_peek_2 11 rfl rfl)
theorem dX6_peek_60 : decode cX6_peek 60 = .ok (.getfield 28, 3) := dk_180 0 28 (dk_at dksX6_peek_2 14 rfl rfl)
theorem dX6_peek_63 : decode cX6_peek 63 = .ok (.if_icmp .ge 22, 3) := dk_162 0 22 (dk_at dksX6_peek_2 17 rfl rfl)
theorem dX6_peek_66 : decode cX6_peek 66 = .ok (.aload_n 0, 1) := dk_42 (dk_at dksX6_peek_2 20 rfl rfl)
theorem dX6_peek_67 : decode cX6_peek 67 = .ok (.getfield 3, 3) := dk_180 0 3 (dk_at dksX6_peek_2 21 rfl rfl)
theorem dX6_peek_70 : decode cX6_peek 70 = .ok (.getfield 31, 3) := dk_180 0 31 (dk_at dksX6_peek_3 0 rfl rfl)
theorem dX6_peek_73 : decode cX6_peek 73 = .ok (.aload_n 0, 1) := dk_42 (dk_at dksX6_peek_3 3 rfl rfl)
theorem dX6_peek_74 : decode cX6_peek 74 = .ok (.getfield 24, 3) := dk_180 0 24 (dk_at dksX6_peek_3 4 rfl rfl)
theorem dX6_peek_77 : decode cX6_peek 77 = .ok (.baload, 1) := dk_51 (dk_at dksX6_peek_3 7 rfl rfl)
theorem dX6_peek_78 : decode cX6_peek 78 = .ok (.sipush 255, 3) := dk_17 0 255 (dk_at dksX6_peek_3 8 rfl rfl)
theorem dX6_peek_81 : decode cX6_peek 81 = .ok (.iand, 1) := dk_126 (dk_at dksX6_peek_3 11 rfl rfl)
theorem dX6_peek_82 : decode cX6_peek 82 = .ok (.goto 4, 3) := dk_167 0 4 (dk_at dksX6_peek_3 12 rfl rfl)
theorem dX6_peek_85 : decode cX6_peek 85 = .ok (.iconst (-1), 1) := dk_2 (dk_at dksX6_peek_3 15 rfl rfl)
theorem dX6_peek_86 : decode cX6_peek 86 = .ok (.ireturn, 1) := dk_172 (dk_at dksX6_peek_3 16 rfl rfl)
abbrev cX6_require : ByteArray := prog_8_method_3_code
def yX6_require : MethodName := ⟨RX6, "require", "(ZI)V"⟩
def dkwX6_require_0 : List UInt8 := [27, 154, 0, 16, 187, 0, 38, 89, 28, 42, 180, 0, 35, 183, 0, 40, 191, 177]
abbrev dktX6_require_0 : List UInt8 := dkwX6_require_0 ++ []
theorem dksX6_require_0 : cX6_require.data.toList.drop 0 = dktX6_require_0 := by decide +kernel
theorem dX6_require_0 : decode cX6_require 0 = .ok (.iload_n 1, 1) := dk_27 (dk_at dksX6_require_0 0 rfl rfl)
theorem dX6_require_1 : decode cX6_require 1 = .ok (.ifCond .ne 16, 3) := dk_154 0 16 (dk_at dksX6_require_0 1 rfl rfl)
theorem dX6_require_4 : decode cX6_require 4 = .ok (.new 38, 3) := dk_187 0 38 (dk_at dksX6_require_0 4 rfl rfl)
theorem dX6_require_7 : decode cX6_require 7 = .ok (.dup, 1) := dk_89 (dk_at dksX6_require_0 7 rfl rfl)
theorem dX6_require_8 : decode cX6_require 8 = .ok (.iload_n 2, 1) := dk_28 (dk_at dksX6_require_0 8 rfl rfl)
theorem dX6_require_9 : decode cX6_require 9 = .ok (.aload_n 0, 1) := dk_42 (dk_at dksX6_require_0 9 rfl rfl)
theorem dX6_require_10 : decode cX6_require 10 = .ok (.getfield 35, 3) := dk_180 0 35 (dk_at dksX6_require_0 10 rfl rfl)
theorem dX6_require_13 : decode cX6_require 13 = .ok (.invokespecial 40, 3) := dk_183 0 40 (dk_at dksX6_require_0 13 rfl rfl)
theorem dX6_require_16 : decode cX6_require 16 = .ok (.athrow, 1) := dk_191 (dk_at dksX6_require_0 16 rfl rfl)
theorem dX6_require_17 : decode cX6_require 17 = .ok (.return_, 1) := dk_177 (dk_at dksX6_require_0 17 rfl rfl)
abbrev cX6_isAt : ByteArray := prog_8_method_4_code
def yX6_isAt : MethodName := ⟨RX6, "isAt", "(CC)Z"⟩
def dkwX6_isAt_1 : List UInt8 := [180, 0, 24, 51, 133, 27, 133, 28, 133, 184, 0, 43, 153, 0, 7, 4, 167, 0, 4, 3, 172]
abbrev dktX6_isAt_1 : List UInt8 := dkwX6_isAt_1 ++ []
def dkwX6_isAt_0 : List UInt8 := [42, 180, 0, 24, 42, 180, 0, 3, 180, 0, 28, 162, 0, 30, 42, 180, 0, 3, 180, 0, 31, 42]
abbrev dktX6_isAt_0 : List UInt8 := dkwX6_isAt_0 ++ dktX6_isAt_1
theorem dksX6_isAt_0 : cX6_isAt.data.toList.drop 0 = dktX6_isAt_0 := by decide +kernel
theorem dksX6_isAt_1 : cX6_isAt.data.toList.drop 22 = dktX6_isAt_1 := dk_seg dksX6_isAt_0 22 rfl rfl
theorem dX6_isAt_0 : decode cX6_isAt 0 = .ok (.aload_n 0, 1) := dk_42 (dk_at dksX6_isAt_0 0 rfl rfl)
theorem dX6_isAt_1 : decode cX6_isAt 1 = .ok (.getfield 24, 3) := dk_180 0 24 (dk_at dksX6_isAt_0 1 rfl rfl)
theorem dX6_isAt_4 : decode cX6_isAt 4 = .ok (.aload_n 0, 1) := dk_42 (dk_at dksX6_isAt_0 4 rfl rfl)
theorem dX6_isAt_5 : decode cX6_isAt 5 = .ok (.getfield 3, 3) := dk_180 0 3 (dk_at dksX6_isAt_0 5 rfl rfl)
theorem dX6_isAt_8 : decode cX6_isAt 8 = .ok (.getfield 28, 3) := dk_180 0 28 (dk_at dksX6_isAt_0 8 rfl rfl)
theorem dX6_isAt_11 : decode cX6_isAt 11 = .ok (.if_icmp .ge 30, 3) := dk_162 0 30 (dk_at dksX6_isAt_0 11 rfl rfl)
theorem dX6_isAt_14 : decode cX6_isAt 14 = .ok (.aload_n 0, 1) := dk_42 (dk_at dksX6_isAt_0 14 rfl rfl)
theorem dX6_isAt_15 : decode cX6_isAt 15 = .ok (.getfield 3, 3) := dk_180 0 3 (dk_at dksX6_isAt_0 15 rfl rfl)
theorem dX6_isAt_18 : decode cX6_isAt 18 = .ok (.getfield 31, 3) := dk_180 0 31 (dk_at dksX6_isAt_0 18 rfl rfl)
theorem dX6_isAt_21 : decode cX6_isAt 21 = .ok (.aload_n 0, 1) := dk_42 (dk_at dksX6_isAt_0 21 rfl rfl)
theorem dX6_isAt_22 : decode cX6_isAt 22 = .ok (.getfield 24, 3) := dk_180 0 24 (dk_at dksX6_isAt_1 0 rfl rfl)
theorem dX6_isAt_25 : decode cX6_isAt 25 = .ok (.baload, 1) := dk_51 (dk_at dksX6_isAt_1 3 rfl rfl)
theorem dX6_isAt_26 : decode cX6_isAt 26 = .ok (.i2l, 1) := dk_133 (dk_at dksX6_isAt_1 4 rfl rfl)
theorem dX6_isAt_27 : decode cX6_isAt 27 = .ok (.iload_n 1, 1) := dk_27 (dk_at dksX6_isAt_1 5 rfl rfl)
theorem dX6_isAt_28 : decode cX6_isAt 28 = .ok (.i2l, 1) := dk_133 (dk_at dksX6_isAt_1 6 rfl rfl)
theorem dX6_isAt_29 : decode cX6_isAt 29 = .ok (.iload_n 2, 1) := dk_28 (dk_at dksX6_isAt_1 7 rfl rfl)
theorem dX6_isAt_30 : decode cX6_isAt 30 = .ok (.i2l, 1) := dk_133 (dk_at dksX6_isAt_1 8 rfl rfl)
theorem dX6_isAt_31 : decode cX6_isAt 31 = .ok (.invokestatic 43, 3) := dk_184 0 43 (dk_at dksX6_isAt_1 9 rfl rfl)
theorem dX6_isAt_34 : decode cX6_isAt 34 = .ok (.ifCond .eq 7, 3) := dk_153 0 7 (dk_at dksX6_isAt_1 12 rfl rfl)
theorem dX6_isAt_37 : decode cX6_isAt 37 = .ok (.iconst 1, 1) := dk_4 (dk_at dksX6_isAt_1 15 rfl rfl)
theorem dX6_isAt_38 : decode cX6_isAt 38 = .ok (.goto 4, 3) := dk_167 0 4 (dk_at dksX6_isAt_1 16 rfl rfl)
theorem dX6_isAt_41 : decode cX6_isAt 41 = .ok (.iconst 0, 1) := dk_3 (dk_at dksX6_isAt_1 19 rfl rfl)
theorem dX6_isAt_42 : decode cX6_isAt 42 = .ok (.ireturn, 1) := dk_172 (dk_at dksX6_isAt_1 20 rfl rfl)
abbrev cX6_number : ByteArray := prog_8_method_6_code
def yX6_number : MethodName := ⟨RX6, "number", "(II)I"⟩
def dkwX6_number_3 : List UInt8 := [167, 255, 209, 42, 29, 133, 27, 133, 28, 133, 184, 0, 43, 5, 182, 0, 55, 29, 172]
abbrev dktX6_number_3 : List UInt8 := dkwX6_number_3 ++ []
def dkwX6_number_2 : List UInt8 := [180, 0, 24, 51, 96, 16, 48, 100, 184, 0, 79, 62, 42, 89, 180, 0, 24, 4, 96, 181, 0, 24]
abbrev dktX6_number_2 : List UInt8 := dkwX6_number_2 ++ dktX6_number_3
def dkwX6_number_1 : List UInt8 := [16, 57, 182, 0, 62, 153, 0, 42, 18, 78, 16, 10, 29, 104, 42, 180, 0, 3, 180, 0, 31, 42]
abbrev dktX6_number_1 : List UInt8 := dkwX6_number_1 ++ dktX6_number_2
def dkwX6_number_0 : List UInt8 := [42, 42, 182, 0, 47, 133, 20, 0, 74, 20, 0, 76, 184, 0, 43, 4, 182, 0, 55, 3, 62, 42, 16, 48]
abbrev dktX6_number_0 : List UInt8 := dkwX6_number_0 ++ dktX6_number_1
theorem dksX6_number_0 : cX6_number.data.toList.drop 0 = dktX6_number_0 := by decide +kernel
theorem dksX6_number_1 : cX6_number.data.toList.drop 24 = dktX6_number_1 := dk_seg dksX6_number_0 24 rfl rfl
theorem dksX6_number_2 : cX6_number.data.toList.drop 46 = dktX6_number_2 := dk_seg dksX6_number_1 22 rfl rfl
theorem dksX6_number_3 : cX6_number.data.toList.drop 68 = dktX6_number_3 := dk_seg dksX6_number_2 22 rfl rfl
theorem dX6_number_0 : decode cX6_number 0 = .ok (.aload_n 0, 1) := dk_42 (dk_at dksX6_number_0 0 rfl rfl)
theorem dX6_number_1 : decode cX6_number 1 = .ok (.aload_n 0, 1) := dk_42 (dk_at dksX6_number_0 1 rfl rfl)
theorem dX6_number_2 : decode cX6_number 2 = .ok (.invokevirtual 47, 3) := dk_182 0 47 (dk_at dksX6_number_0 2 rfl rfl)
theorem dX6_number_5 : decode cX6_number 5 = .ok (.i2l, 1) := dk_133 (dk_at dksX6_number_0 5 rfl rfl)
theorem dX6_number_6 : decode cX6_number 6 = .ok (.ldc2_w 74, 3) := dk_20 0 74 (dk_at dksX6_number_0 6 rfl rfl)
theorem dX6_number_9 : decode cX6_number 9 = .ok (.ldc2_w 76, 3) := dk_20 0 76 (dk_at dksX6_number_0 9 rfl rfl)
theorem dX6_number_12 : decode cX6_number 12 = .ok (.invokestatic 43, 3) := dk_184 0 43 (dk_at dksX6_number_0 12 rfl rfl)
theorem dX6_number_15 : decode cX6_number 15 = .ok (.iconst 1, 1) := dk_4 (dk_at dksX6_number_0 15 rfl rfl)
theorem dX6_number_16 : decode cX6_number 16 = .ok (.invokevirtual 55, 3) := dk_182 0 55 (dk_at dksX6_number_0 16 rfl rfl)
theorem dX6_number_19 : decode cX6_number 19 = .ok (.iconst 0, 1) := dk_3 (dk_at dksX6_number_0 19 rfl rfl)
theorem dX6_number_20 : decode cX6_number 20 = .ok (.istore_n 3, 1) := dk_62 (dk_at dksX6_number_0 20 rfl rfl)
theorem dX6_number_21 : decode cX6_number 21 = .ok (.aload_n 0, 1) := dk_42 (dk_at dksX6_number_0 21 rfl rfl)
theorem dX6_number_22 : decode cX6_number 22 = .ok (.bipush 48, 2) := dk_16 48 (dk_at dksX6_number_0 22 rfl rfl)
theorem dX6_number_24 : decode cX6_number 24 = .ok (.bipush 57, 2) := dk_16 57 (dk_at dksX6_number_1 0 rfl rfl)
theorem dX6_number_26 : decode cX6_number 26 = .ok (.invokevirtual 62, 3) := dk_182 0 62 (dk_at dksX6_number_1 2 rfl rfl)
theorem dX6_number_29 : decode cX6_number 29 = .ok (.ifCond .eq 42, 3) := dk_153 0 42 (dk_at dksX6_number_1 5 rfl rfl)
theorem dX6_number_32 : decode cX6_number 32 = .ok (.ldc 78, 2) := dk_18 78 (dk_at dksX6_number_1 8 rfl rfl)
theorem dX6_number_34 : decode cX6_number 34 = .ok (.bipush 10, 2) := dk_16 10 (dk_at dksX6_number_1 10 rfl rfl)
theorem dX6_number_36 : decode cX6_number 36 = .ok (.iload_n 3, 1) := dk_29 (dk_at dksX6_number_1 12 rfl rfl)
theorem dX6_number_37 : decode cX6_number 37 = .ok (.imul, 1) := dk_104 (dk_at dksX6_number_1 13 rfl rfl)
theorem dX6_number_38 : decode cX6_number 38 = .ok (.aload_n 0, 1) := dk_42 (dk_at dksX6_number_1 14 rfl rfl)
theorem dX6_number_39 : decode cX6_number 39 = .ok (.getfield 3, 3) := dk_180 0 3 (dk_at dksX6_number_1 15 rfl rfl)
theorem dX6_number_42 : decode cX6_number 42 = .ok (.getfield 31, 3) := dk_180 0 31 (dk_at dksX6_number_1 18 rfl rfl)
theorem dX6_number_45 : decode cX6_number 45 = .ok (.aload_n 0, 1) := dk_42 (dk_at dksX6_number_1 21 rfl rfl)
theorem dX6_number_46 : decode cX6_number 46 = .ok (.getfield 24, 3) := dk_180 0 24 (dk_at dksX6_number_2 0 rfl rfl)
theorem dX6_number_49 : decode cX6_number 49 = .ok (.baload, 1) := dk_51 (dk_at dksX6_number_2 3 rfl rfl)
theorem dX6_number_50 : decode cX6_number 50 = .ok (.iadd, 1) := dk_96 (dk_at dksX6_number_2 4 rfl rfl)
theorem dX6_number_51 : decode cX6_number 51 = .ok (.bipush 48, 2) := dk_16 48 (dk_at dksX6_number_2 5 rfl rfl)
theorem dX6_number_53 : decode cX6_number 53 = .ok (.isub, 1) := dk_100 (dk_at dksX6_number_2 7 rfl rfl)
theorem dX6_number_54 : decode cX6_number 54 = .ok (.invokestatic 79, 3) := dk_184 0 79 (dk_at dksX6_number_2 8 rfl rfl)
theorem dX6_number_57 : decode cX6_number 57 = .ok (.istore_n 3, 1) := dk_62 (dk_at dksX6_number_2 11 rfl rfl)
theorem dX6_number_58 : decode cX6_number 58 = .ok (.aload_n 0, 1) := dk_42 (dk_at dksX6_number_2 12 rfl rfl)
theorem dX6_number_59 : decode cX6_number 59 = .ok (.dup, 1) := dk_89 (dk_at dksX6_number_2 13 rfl rfl)
theorem dX6_number_60 : decode cX6_number 60 = .ok (.getfield 24, 3) := dk_180 0 24 (dk_at dksX6_number_2 14 rfl rfl)
theorem dX6_number_63 : decode cX6_number 63 = .ok (.iconst 1, 1) := dk_4 (dk_at dksX6_number_2 17 rfl rfl)
theorem dX6_number_64 : decode cX6_number 64 = .ok (.iadd, 1) := dk_96 (dk_at dksX6_number_2 18 rfl rfl)
theorem dX6_number_65 : decode cX6_number 65 = .ok (.putfield 24, 3) := dk_181 0 24 (dk_at dksX6_number_2 19 rfl rfl)
theorem dX6_number_68 : decode cX6_number 68 = .ok (.goto (-47), 3) := dk_167 255 209 (dk_at dksX6_number_3 0 rfl rfl)
theorem dX6_number_71 : decode cX6_number 71 = .ok (.aload_n 0, 1) := dk_42 (dk_at dksX6_number_3 3 rfl rfl)
theorem dX6_number_72 : decode cX6_number 72 = .ok (.iload_n 3, 1) := dk_29 (dk_at dksX6_number_3 4 rfl rfl)
theorem dX6_number_73 : decode cX6_number 73 = .ok (.i2l, 1) := dk_133 (dk_at dksX6_number_3 5 rfl rfl)
theorem dX6_number_74 : decode cX6_number 74 = .ok (.iload_n 1, 1) := dk_27 (dk_at dksX6_number_3 6 rfl rfl)
theorem dX6_number_75 : decode cX6_number 75 = .ok (.i2l, 1) := dk_133 (dk_at dksX6_number_3 7 rfl rfl)
theorem dX6_number_76 : decode cX6_number 76 = .ok (.iload_n 2, 1) := dk_28 (dk_at dksX6_number_3 8 rfl rfl)
theorem dX6_number_77 : decode cX6_number 77 = .ok (.i2l, 1) := dk_133 (dk_at dksX6_number_3 9 rfl rfl)
theorem dX6_number_78 : decode cX6_number 78 = .ok (.invokestatic 43, 3) := dk_184 0 43 (dk_at dksX6_number_3 10 rfl rfl)
theorem dX6_number_81 : decode cX6_number 81 = .ok (.iconst 2, 1) := dk_5 (dk_at dksX6_number_3 13 rfl rfl)
theorem dX6_number_82 : decode cX6_number 82 = .ok (.invokevirtual 55, 3) := dk_182 0 55 (dk_at dksX6_number_3 14 rfl rfl)
theorem dX6_number_85 : decode cX6_number 85 = .ok (.iload_n 3, 1) := dk_29 (dk_at dksX6_number_3 17 rfl rfl)
theorem dX6_number_86 : decode cX6_number 86 = .ok (.ireturn, 1) := dk_172 (dk_at dksX6_number_3 18 rfl rfl)
abbrev cX6_goesOn : ByteArray := prog_8_method_12_code
def yX6_goesOn : MethodName := ⟨RX6, "goesOn", "()Z"⟩
def dkwX6_goesOn_2 : List UInt8 := [172]
abbrev dktX6_goesOn_2 : List UInt8 := dkwX6_goesOn_2 ++ []
def dkwX6_goesOn_1 : List UInt8 := [182, 0, 55, 42, 89, 180, 0, 24, 4, 96, 181, 0, 24, 27, 16, 59, 160, 0, 7, 4, 167, 0, 4, 3]
abbrev dktX6_goesOn_1 : List UInt8 := dkwX6_goesOn_1 ++ dktX6_goesOn_2
def dkwX6_goesOn_0 : List UInt8 := [42, 182, 0, 47, 60, 42, 27, 16, 59, 159, 0, 8, 27, 2, 160, 0, 7, 4, 167, 0, 4, 3, 4]
abbrev dktX6_goesOn_0 : List UInt8 := dkwX6_goesOn_0 ++ dktX6_goesOn_1
theorem dksX6_goesOn_0 : cX6_goesOn.data.toList.drop 0 = dktX6_goesOn_0 := by decide +kernel
theorem dksX6_goesOn_1 : cX6_goesOn.data.toList.drop 23 = dktX6_goesOn_1 := dk_seg dksX6_goesOn_0 23 rfl rfl
theorem dksX6_goesOn_2 : cX6_goesOn.data.toList.drop 47 = dktX6_goesOn_2 := dk_seg dksX6_goesOn_1 24 rfl rfl
theorem dX6_goesOn_0 : decode cX6_goesOn 0 = .ok (.aload_n 0, 1) := dk_42 (dk_at dksX6_goesOn_0 0 rfl rfl)
theorem dX6_goesOn_1 : decode cX6_goesOn 1 = .ok (.invokevirtual 47, 3) := dk_182 0 47 (dk_at dksX6_goesOn_0 1 rfl rfl)
theorem dX6_goesOn_4 : decode cX6_goesOn 4 = .ok (.istore_n 1, 1) := dk_60 (dk_at dksX6_goesOn_0 4 rfl rfl)
theorem dX6_goesOn_5 : decode cX6_goesOn 5 = .ok (.aload_n 0, 1) := dk_42 (dk_at dksX6_goesOn_0 5 rfl rfl)
theorem dX6_goesOn_6 : decode cX6_goesOn 6 = .ok (.iload_n 1, 1) := dk_27 (dk_at dksX6_goesOn_0 6 rfl rfl)
theorem dX6_goesOn_7 : decode cX6_goesOn 7 = .ok (.bipush 59, 2) := dk_16 59 (dk_at dksX6_goesOn_0 7 rfl rfl)
theorem dX6_goesOn_9 : decode cX6_goesOn 9 = .ok (.if_icmp .eq 8, 3) := dk_159 0 8 (dk_at dksX6_goesOn_0 9 rfl rfl)
theorem dX6_goesOn_12 : decode cX6_goesOn 12 = .ok (.iload_n 1, 1) := dk_27 (dk_at dksX6_goesOn_0 12 rfl rfl)
theorem dX6_goesOn_13 : decode cX6_goesOn 13 = .ok (.iconst (-1), 1) := dk_2 (dk_at dksX6_goesOn_0 13 rfl rfl)
theorem dX6_goesOn_14 : decode cX6_goesOn 14 = .ok (.if_icmp .ne 7, 3) := dk_160 0 7 (dk_at dksX6_goesOn_0 14 rfl rfl)
theorem dX6_goesOn_17 : decode cX6_goesOn 17 = .ok (.iconst 1, 1) := dk_4 (dk_at dksX6_goesOn_0 17 rfl rfl)
theorem dX6_goesOn_18 : decode cX6_goesOn 18 = .ok (.goto 4, 3) := dk_167 0 4 (dk_at dksX6_goesOn_0 18 rfl rfl)
theorem dX6_goesOn_21 : decode cX6_goesOn 21 = .ok (.iconst 0, 1) := dk_3 (dk_at dksX6_goesOn_0 21 rfl rfl)
theorem dX6_goesOn_22 : decode cX6_goesOn 22 = .ok (.iconst 1, 1) := dk_4 (dk_at dksX6_goesOn_0 22 rfl rfl)
theorem dX6_goesOn_23 : decode cX6_goesOn 23 = .ok (.invokevirtual 55, 3) := dk_182 0 55 (dk_at dksX6_goesOn_1 0 rfl rfl)
theorem dX6_goesOn_26 : decode cX6_goesOn 26 = .ok (.aload_n 0, 1) := dk_42 (dk_at dksX6_goesOn_1 3 rfl rfl)
theorem dX6_goesOn_27 : decode cX6_goesOn 27 = .ok (.dup, 1) := dk_89 (dk_at dksX6_goesOn_1 4 rfl rfl)
theorem dX6_goesOn_28 : decode cX6_goesOn 28 = .ok (.getfield 24, 3) := dk_180 0 24 (dk_at dksX6_goesOn_1 5 rfl rfl)
theorem dX6_goesOn_31 : decode cX6_goesOn 31 = .ok (.iconst 1, 1) := dk_4 (dk_at dksX6_goesOn_1 8 rfl rfl)
theorem dX6_goesOn_32 : decode cX6_goesOn 32 = .ok (.iadd, 1) := dk_96 (dk_at dksX6_goesOn_1 9 rfl rfl)
theorem dX6_goesOn_33 : decode cX6_goesOn 33 = .ok (.putfield 24, 3) := dk_181 0 24 (dk_at dksX6_goesOn_1 10 rfl rfl)
theorem dX6_goesOn_36 : decode cX6_goesOn 36 = .ok (.iload_n 1, 1) := dk_27 (dk_at dksX6_goesOn_1 13 rfl rfl)
theorem dX6_goesOn_37 : decode cX6_goesOn 37 = .ok (.bipush 59, 2) := dk_16 59 (dk_at dksX6_goesOn_1 14 rfl rfl)
theorem dX6_goesOn_39 : decode cX6_goesOn 39 = .ok (.if_icmp .ne 7, 3) := dk_160 0 7 (dk_at dksX6_goesOn_1 16 rfl rfl)
theorem dX6_goesOn_42 : decode cX6_goesOn 42 = .ok (.iconst 1, 1) := dk_4 (dk_at dksX6_goesOn_1 19 rfl rfl)
theorem dX6_goesOn_43 : decode cX6_goesOn 43 = .ok (.goto 4, 3) := dk_167 0 4 (dk_at dksX6_goesOn_1 20 rfl rfl)
theorem dX6_goesOn_46 : decode cX6_goesOn 46 = .ok (.iconst 0, 1) := dk_3 (dk_at dksX6_goesOn_1 23 rfl rfl)
theorem dX6_goesOn_47 : decode cX6_goesOn 47 = .ok (.ireturn, 1) := dk_172 (dk_at dksX6_goesOn_2 0 rfl rfl)
abbrev cX6_statement : ByteArray := prog_8_method_11_code
def yX6_statement : MethodName := ⟨RX6, "statement", "()V"⟩
def dkwX6_statement_5 : List UInt8 := [42, 182, 0, 145, 167, 0, 16, 42, 182, 0, 147, 167, 0, 9, 42, 3, 4, 182, 0, 55, 177]
abbrev dktX6_statement_5 : List UInt8 := dkwX6_statement_5 ++ []
def dkwX6_statement_4 : List UInt8 := [171, 0, 0, 0, 0, 40, 0, 0, 0, 2, 0, 0, 0, 0, 0, 0, 0, 26, 0, 0, 0, 1, 0, 0, 0, 33]
abbrev dktX6_statement_4 : List UInt8 := dkwX6_statement_4 ++ dktX6_statement_5
def dkwX6_statement_3 : List UInt8 := [61, 28]
abbrev dktX6_statement_3 : List UInt8 := dkwX6_statement_3 ++ dktX6_statement_4
def dkwX6_statement_2 : List UInt8 := [43, 18, 141, 182, 0, 112, 153, 0, 19, 3, 61, 167, 0, 14, 43, 18, 143, 182, 0, 112, 153, 0, 5, 4]
abbrev dktX6_statement_2 : List UInt8 := dkwX6_statement_2 ++ dktX6_statement_3
def dkwX6_statement_1 : List UInt8 := [171, 0, 0, 0, 50, 0, 0, 0, 2, 0, 1, 122, 82, 0, 0, 0, 25, 0, 54, 116, 37, 0, 0, 0, 39]
abbrev dktX6_statement_1 : List UInt8 := dkwX6_statement_1 ++ dktX6_statement_2
def dkwX6_statement_0 : List UInt8 := [42, 182, 0, 107, 76, 2, 61, 43, 182, 0, 138]
abbrev dktX6_statement_0 : List UInt8 := dkwX6_statement_0 ++ dktX6_statement_1
theorem dksX6_statement_0 : cX6_statement.data.toList.drop 0 = dktX6_statement_0 := by decide +kernel
theorem dksX6_statement_1 : cX6_statement.data.toList.drop 11 = dktX6_statement_1 := dk_seg dksX6_statement_0 11 rfl rfl
theorem dksX6_statement_2 : cX6_statement.data.toList.drop 36 = dktX6_statement_2 := dk_seg dksX6_statement_1 25 rfl rfl
theorem dksX6_statement_3 : cX6_statement.data.toList.drop 60 = dktX6_statement_3 := dk_seg dksX6_statement_2 24 rfl rfl
theorem dksX6_statement_4 : cX6_statement.data.toList.drop 62 = dktX6_statement_4 := dk_seg dksX6_statement_3 2 rfl rfl
theorem dksX6_statement_5 : cX6_statement.data.toList.drop 88 = dktX6_statement_5 := dk_seg dksX6_statement_4 26 rfl rfl
theorem dX6_statement_0 : decode cX6_statement 0 = .ok (.aload_n 0, 1) := dk_42 (dk_at dksX6_statement_0 0 rfl rfl)
theorem dX6_statement_1 : decode cX6_statement 1 = .ok (.invokevirtual 107, 3) := dk_182 0 107 (dk_at dksX6_statement_0 1 rfl rfl)
theorem dX6_statement_4 : decode cX6_statement 4 = .ok (.astore_n 1, 1) := dk_76 (dk_at dksX6_statement_0 4 rfl rfl)
theorem dX6_statement_5 : decode cX6_statement 5 = .ok (.iconst (-1), 1) := dk_2 (dk_at dksX6_statement_0 5 rfl rfl)
theorem dX6_statement_6 : decode cX6_statement 6 = .ok (.istore_n 2, 1) := dk_61 (dk_at dksX6_statement_0 6 rfl rfl)
theorem dX6_statement_7 : decode cX6_statement 7 = .ok (.aload_n 1, 1) := dk_43 (dk_at dksX6_statement_0 7 rfl rfl)
theorem dX6_statement_8 : decode cX6_statement 8 = .ok (.invokevirtual 138, 3) := dk_182 0 138 (dk_at dksX6_statement_0 8 rfl rfl)
theorem dX6_statement_11 : decode cX6_statement 11 = .ok (.lookupswitch 50 #[(96850, 25), (3568677, 39)], 25) := by decide +kernel
theorem dX6_statement_36 : decode cX6_statement 36 = .ok (.aload_n 1, 1) := dk_43 (dk_at dksX6_statement_2 0 rfl rfl)
theorem dX6_statement_37 : decode cX6_statement 37 = .ok (.ldc 141, 2) := dk_18 141 (dk_at dksX6_statement_2 1 rfl rfl)
theorem dX6_statement_39 : decode cX6_statement 39 = .ok (.invokevirtual 112, 3) := dk_182 0 112 (dk_at dksX6_statement_2 3 rfl rfl)
theorem dX6_statement_42 : decode cX6_statement 42 = .ok (.ifCond .eq 19, 3) := dk_153 0 19 (dk_at dksX6_statement_2 6 rfl rfl)
theorem dX6_statement_45 : decode cX6_statement 45 = .ok (.iconst 0, 1) := dk_3 (dk_at dksX6_statement_2 9 rfl rfl)
theorem dX6_statement_46 : decode cX6_statement 46 = .ok (.istore_n 2, 1) := dk_61 (dk_at dksX6_statement_2 10 rfl rfl)
theorem dX6_statement_47 : decode cX6_statement 47 = .ok (.goto 14, 3) := dk_167 0 14 (dk_at dksX6_statement_2 11 rfl rfl)
theorem dX6_statement_50 : decode cX6_statement 50 = .ok (.aload_n 1, 1) := dk_43 (dk_at dksX6_statement_2 14 rfl rfl)
theorem dX6_statement_51 : decode cX6_statement 51 = .ok (.ldc 143, 2) := dk_18 143 (dk_at dksX6_statement_2 15 rfl rfl)
theorem dX6_statement_53 : decode cX6_statement 53 = .ok (.invokevirtual 112, 3) := dk_182 0 112 (dk_at dksX6_statement_2 17 rfl rfl)
theorem dX6_statement_56 : decode cX6_statement 56 = .ok (.ifCond .eq 5, 3) := dk_153 0 5 (dk_at dksX6_statement_2 20 rfl rfl)
theorem dX6_statement_59 : decode cX6_statement 59 = .ok (.iconst 1, 1) := dk_4 (dk_at dksX6_statement_2 23 rfl rfl)
theorem dX6_statement_60 : decode cX6_statement 60 = .ok (.istore_n 2, 1) := dk_61 (dk_at dksX6_statement_3 0 rfl rfl)
theorem dX6_statement_61 : decode cX6_statement 61 = .ok (.iload_n 2, 1) := dk_28 (dk_at dksX6_statement_3 1 rfl rfl)
theorem dX6_statement_62 : decode cX6_statement 62 = .ok (.lookupswitch 40 #[(0, 26), (1, 33)], 26) := by decide +kernel
theorem dX6_statement_88 : decode cX6_statement 88 = .ok (.aload_n 0, 1) := dk_42 (dk_at dksX6_statement_5 0 rfl rfl)
theorem dX6_statement_89 : decode cX6_statement 89 = .ok (.invokevirtual 145, 3) := dk_182 0 145 (dk_at dksX6_statement_5 1 rfl rfl)
theorem dX6_statement_92 : decode cX6_statement 92 = .ok (.goto 16, 3) := dk_167 0 16 (dk_at dksX6_statement_5 4 rfl rfl)
theorem dX6_statement_95 : decode cX6_statement 95 = .ok (.aload_n 0, 1) := dk_42 (dk_at dksX6_statement_5 7 rfl rfl)
theorem dX6_statement_96 : decode cX6_statement 96 = .ok (.invokevirtual 147, 3) := dk_182 0 147 (dk_at dksX6_statement_5 8 rfl rfl)
theorem dX6_statement_99 : decode cX6_statement 99 = .ok (.goto 9, 3) := dk_167 0 9 (dk_at dksX6_statement_5 11 rfl rfl)
theorem dX6_statement_102 : decode cX6_statement 102 = .ok (.aload_n 0, 1) := dk_42 (dk_at dksX6_statement_5 14 rfl rfl)
theorem dX6_statement_103 : decode cX6_statement 103 = .ok (.iconst 0, 1) := dk_3 (dk_at dksX6_statement_5 15 rfl rfl)
theorem dX6_statement_104 : decode cX6_statement 104 = .ok (.iconst 1, 1) := dk_4 (dk_at dksX6_statement_5 16 rfl rfl)
theorem dX6_statement_105 : decode cX6_statement 105 = .ok (.invokevirtual 55, 3) := dk_182 0 55 (dk_at dksX6_statement_5 17 rfl rfl)
theorem dX6_statement_108 : decode cX6_statement 108 = .ok (.return_, 1) := dk_177 (dk_at dksX6_statement_5 20 rfl rfl)
abbrev cX6_arc : ByteArray := prog_8_method_9_code
def yX6_arc : MethodName := ⟨RX6, "arc", "()V"⟩
def dkwX6_arc_5 : List UInt8 := [183, 0, 120, 185, 0, 123, 2, 0, 87, 177]
abbrev dktX6_arc_5 : List UInt8 := dkwX6_arc_5 ++ []
def dkwX6_arc_4 : List UInt8 := [180, 0, 94, 187, 0, 118, 89, 42, 180, 0, 20, 180, 0, 94, 185, 0, 98, 1, 0, 27, 28, 29, 21, 4]
abbrev dktX6_arc_4 : List UInt8 := dkwX6_arc_4 ++ dktX6_arc_5
def dkwX6_arc_3 : List UInt8 := [18, 110, 182, 0, 112, 4, 182, 0, 55, 42, 4, 17, 39, 15, 182, 0, 88, 54, 4, 42, 180, 0, 20]
abbrev dktX6_arc_3 : List UInt8 := dkwX6_arc_3 ++ dktX6_arc_4
def dkwX6_arc_2 : List UInt8 := [54, 4, 42, 182, 0, 47, 133, 20, 0, 51, 20, 0, 53, 184, 0, 43, 153, 0, 27, 42, 42, 182, 0, 107]
abbrev dktX6_arc_2 : List UInt8 := dkwX6_arc_2 ++ dktX6_arc_3
def dkwX6_arc_1 : List UInt8 := [182, 0, 55, 42, 182, 0, 91, 60, 42, 27, 182, 0, 103, 61, 42, 4, 17, 3, 231, 182, 0, 88, 62, 3]
abbrev dktX6_arc_1 : List UInt8 := dkwX6_arc_1 ++ dktX6_arc_2
def dkwX6_arc_0 : List UInt8 := [42, 42, 180, 0, 20, 180, 0, 94, 185, 0, 98, 1, 0, 16, 24, 162, 0, 7, 4, 167, 0, 4, 3, 7]
abbrev dktX6_arc_0 : List UInt8 := dkwX6_arc_0 ++ dktX6_arc_1
theorem dksX6_arc_0 : cX6_arc.data.toList.drop 0 = dktX6_arc_0 := by decide +kernel
theorem dksX6_arc_1 : cX6_arc.data.toList.drop 24 = dktX6_arc_1 := dk_seg dksX6_arc_0 24 rfl rfl
theorem dksX6_arc_2 : cX6_arc.data.toList.drop 48 = dktX6_arc_2 := dk_seg dksX6_arc_1 24 rfl rfl
theorem dksX6_arc_3 : cX6_arc.data.toList.drop 72 = dktX6_arc_3 := dk_seg dksX6_arc_2 24 rfl rfl
theorem dksX6_arc_4 : cX6_arc.data.toList.drop 95 = dktX6_arc_4 := dk_seg dksX6_arc_3 23 rfl rfl
theorem dksX6_arc_5 : cX6_arc.data.toList.drop 119 = dktX6_arc_5 := dk_seg dksX6_arc_4 24 rfl rfl
theorem dX6_arc_0 : decode cX6_arc 0 = .ok (.aload_n 0, 1) := dk_42 (dk_at dksX6_arc_0 0 rfl rfl)
theorem dX6_arc_1 : decode cX6_arc 1 = .ok (.aload_n 0, 1) := dk_42 (dk_at dksX6_arc_0 1 rfl rfl)
theorem dX6_arc_2 : decode cX6_arc 2 = .ok (.getfield 20, 3) := dk_180 0 20 (dk_at dksX6_arc_0 2 rfl rfl)
theorem dX6_arc_5 : decode cX6_arc 5 = .ok (.getfield 94, 3) := dk_180 0 94 (dk_at dksX6_arc_0 5 rfl rfl)
theorem dX6_arc_8 : decode cX6_arc 8 = .ok (.invokeinterface 98 1, 5) := by decide +kernel
theorem dX6_arc_13 : decode cX6_arc 13 = .ok (.bipush 24, 2) := dk_16 24 (dk_at dksX6_arc_0 13 rfl rfl)
theorem dX6_arc_15 : decode cX6_arc 15 = .ok (.if_icmp .ge 7, 3) := dk_162 0 7 (dk_at dksX6_arc_0 15 rfl rfl)
theorem dX6_arc_18 : decode cX6_arc 18 = .ok (.iconst 1, 1) := dk_4 (dk_at dksX6_arc_0 18 rfl rfl)
theorem dX6_arc_19 : decode cX6_arc 19 = .ok (.goto 4, 3) := dk_167 0 4 (dk_at dksX6_arc_0 19 rfl rfl)
theorem dX6_arc_22 : decode cX6_arc 22 = .ok (.iconst 0, 1) := dk_3 (dk_at dksX6_arc_0 22 rfl rfl)
theorem dX6_arc_23 : decode cX6_arc 23 = .ok (.iconst 4, 1) := dk_7 (dk_at dksX6_arc_0 23 rfl rfl)
theorem dX6_arc_24 : decode cX6_arc 24 = .ok (.invokevirtual 55, 3) := dk_182 0 55 (dk_at dksX6_arc_1 0 rfl rfl)
theorem dX6_arc_27 : decode cX6_arc 27 = .ok (.aload_n 0, 1) := dk_42 (dk_at dksX6_arc_1 3 rfl rfl)
theorem dX6_arc_28 : decode cX6_arc 28 = .ok (.invokevirtual 91, 3) := dk_182 0 91 (dk_at dksX6_arc_1 4 rfl rfl)
theorem dX6_arc_31 : decode cX6_arc 31 = .ok (.istore_n 1, 1) := dk_60 (dk_at dksX6_arc_1 7 rfl rfl)
theorem dX6_arc_32 : decode cX6_arc 32 = .ok (.aload_n 0, 1) := dk_42 (dk_at dksX6_arc_1 8 rfl rfl)
theorem dX6_arc_33 : decode cX6_arc 33 = .ok (.iload_n 1, 1) := dk_27 (dk_at dksX6_arc_1 9 rfl rfl)
theorem dX6_arc_34 : decode cX6_arc 34 = .ok (.invokevirtual 103, 3) := dk_182 0 103 (dk_at dksX6_arc_1 10 rfl rfl)
theorem dX6_arc_37 : decode cX6_arc 37 = .ok (.istore_n 2, 1) := dk_61 (dk_at dksX6_arc_1 13 rfl rfl)
theorem dX6_arc_38 : decode cX6_arc 38 = .ok (.aload_n 0, 1) := dk_42 (dk_at dksX6_arc_1 14 rfl rfl)
theorem dX6_arc_39 : decode cX6_arc 39 = .ok (.iconst 1, 1) := dk_4 (dk_at dksX6_arc_1 15 rfl rfl)
theorem dX6_arc_40 : decode cX6_arc 40 = .ok (.sipush 999, 3) := dk_17 3 231 (dk_at dksX6_arc_1 16 rfl rfl)
theorem dX6_arc_43 : decode cX6_arc 43 = .ok (.invokevirtual 88, 3) := dk_182 0 88 (dk_at dksX6_arc_1 19 rfl rfl)
theorem dX6_arc_46 : decode cX6_arc 46 = .ok (.istore_n 3, 1) := dk_62 (dk_at dksX6_arc_1 22 rfl rfl)
theorem dX6_arc_47 : decode cX6_arc 47 = .ok (.iconst 0, 1) := dk_3 (dk_at dksX6_arc_1 23 rfl rfl)
theorem dX6_arc_48 : decode cX6_arc 48 = .ok (.istore 4, 2) := dk_54 4 (dk_at dksX6_arc_2 0 rfl rfl)
theorem dX6_arc_50 : decode cX6_arc 50 = .ok (.aload_n 0, 1) := dk_42 (dk_at dksX6_arc_2 2 rfl rfl)
theorem dX6_arc_51 : decode cX6_arc 51 = .ok (.invokevirtual 47, 3) := dk_182 0 47 (dk_at dksX6_arc_2 3 rfl rfl)
theorem dX6_arc_54 : decode cX6_arc 54 = .ok (.i2l, 1) := dk_133 (dk_at dksX6_arc_2 6 rfl rfl)
theorem dX6_arc_55 : decode cX6_arc 55 = .ok (.ldc2_w 51, 3) := dk_20 0 51 (dk_at dksX6_arc_2 7 rfl rfl)
theorem dX6_arc_58 : decode cX6_arc 58 = .ok (.ldc2_w 53, 3) := dk_20 0 53 (dk_at dksX6_arc_2 10 rfl rfl)
theorem dX6_arc_61 : decode cX6_arc 61 = .ok (.invokestatic 43, 3) := dk_184 0 43 (dk_at dksX6_arc_2 13 rfl rfl)
theorem dX6_arc_64 : decode cX6_arc 64 = .ok (.ifCond .eq 27, 3) := dk_153 0 27 (dk_at dksX6_arc_2 16 rfl rfl)
theorem dX6_arc_67 : decode cX6_arc 67 = .ok (.aload_n 0, 1) := dk_42 (dk_at dksX6_arc_2 19 rfl rfl)
theorem dX6_arc_68 : decode cX6_arc 68 = .ok (.aload_n 0, 1) := dk_42 (dk_at dksX6_arc_2 20 rfl rfl)
theorem dX6_arc_69 : decode cX6_arc 69 = .ok (.invokevirtual 107, 3) := dk_182 0 107 (dk_at dksX6_arc_2 21 rfl rfl)
theorem dX6_arc_72 : decode cX6_arc 72 = .ok (.ldc 110, 2) := dk_18 110 (dk_at dksX6_arc_3 0 rfl rfl)
theorem dX6_arc_74 : decode cX6_arc 74 = .ok (.invokevirtual 112, 3) := dk_182 0 112 (dk_at dksX6_arc_3 2 rfl rfl)
theorem dX6_arc_77 : decode cX6_arc 77 = .ok (.iconst 1, 1) := dk_4 (dk_at dksX6_arc_3 5 rfl rfl)
theorem dX6_arc_78 : decode cX6_arc 78 = .ok (.invokevirtual 55, 3) := dk_182 0 55 (dk_at dksX6_arc_3 6 rfl rfl)
theorem dX6_arc_81 : decode cX6_arc 81 = .ok (.aload_n 0, 1) := dk_42 (dk_at dksX6_arc_3 9 rfl rfl)
theorem dX6_arc_82 : decode cX6_arc 82 = .ok (.iconst 1, 1) := dk_4 (dk_at dksX6_arc_3 10 rfl rfl)
theorem dX6_arc_83 : decode cX6_arc 83 = .ok (.sipush 9999, 3) := dk_17 39 15 (dk_at dksX6_arc_3 11 rfl rfl)
theorem dX6_arc_86 : decode cX6_arc 86 = .ok (.invokevirtual 88, 3) := dk_182 0 88 (dk_at dksX6_arc_3 14 rfl rfl)
theorem dX6_arc_89 : decode cX6_arc 89 = .ok (.istore 4, 2) := dk_54 4 (dk_at dksX6_arc_3 17 rfl rfl)
theorem dX6_arc_91 : decode cX6_arc 91 = .ok (.aload_n 0, 1) := dk_42 (dk_at dksX6_arc_3 19 rfl rfl)
theorem dX6_arc_92 : decode cX6_arc 92 = .ok (.getfield 20, 3) := dk_180 0 20 (dk_at dksX6_arc_3 20 rfl rfl)
theorem dX6_arc_95 : decode cX6_arc 95 = .ok (.getfield 94, 3) := dk_180 0 94 (dk_at dksX6_arc_4 0 rfl rfl)
theorem dX6_arc_98 : decode cX6_arc 98 = .ok (.new 118, 3) := dk_187 0 118 (dk_at dksX6_arc_4 3 rfl rfl)
theorem dX6_arc_101 : decode cX6_arc 101 = .ok (.dup, 1) := dk_89 (dk_at dksX6_arc_4 6 rfl rfl)
theorem dX6_arc_102 : decode cX6_arc 102 = .ok (.aload_n 0, 1) := dk_42 (dk_at dksX6_arc_4 7 rfl rfl)
theorem dX6_arc_103 : decode cX6_arc 103 = .ok (.getfield 20, 3) := dk_180 0 20 (dk_at dksX6_arc_4 8 rfl rfl)
theorem dX6_arc_106 : decode cX6_arc 106 = .ok (.getfield 94, 3) := dk_180 0 94 (dk_at dksX6_arc_4 11 rfl rfl)
theorem dX6_arc_109 : decode cX6_arc 109 = .ok (.invokeinterface 98 1, 5) := by decide +kernel
theorem dX6_arc_114 : decode cX6_arc 114 = .ok (.iload_n 1, 1) := dk_27 (dk_at dksX6_arc_4 19 rfl rfl)
theorem dX6_arc_115 : decode cX6_arc 115 = .ok (.iload_n 2, 1) := dk_28 (dk_at dksX6_arc_4 20 rfl rfl)
theorem dX6_arc_116 : decode cX6_arc 116 = .ok (.iload_n 3, 1) := dk_29 (dk_at dksX6_arc_4 21 rfl rfl)
theorem dX6_arc_117 : decode cX6_arc 117 = .ok (.iload 4, 2) := dk_21 4 (dk_at dksX6_arc_4 22 rfl rfl)
theorem dX6_arc_119 : decode cX6_arc 119 = .ok (.invokespecial 120, 3) := dk_183 0 120 (dk_at dksX6_arc_5 0 rfl rfl)
theorem dX6_arc_122 : decode cX6_arc 122 = .ok (.invokeinterface 123 2, 5) := by decide +kernel
theorem dX6_arc_127 : decode cX6_arc 127 = .ok (.pop, 1) := dk_87 (dk_at dksX6_arc_5 8 rfl rfl)
theorem dX6_arc_128 : decode cX6_arc 128 = .ok (.return_, 1) := dk_177 (dk_at dksX6_arc_5 9 rfl rfl)
abbrev cX6_node : ByteArray := prog_8_method_7_code
def yX6_node : MethodName := ⟨RX6, "node", "()I"⟩
def dkwX6_node_0 : List UInt8 := [42, 3, 42, 180, 0, 20, 180, 0, 85, 4, 100, 182, 0, 88, 172]
abbrev dktX6_node_0 : List UInt8 := dkwX6_node_0 ++ []
theorem dksX6_node_0 : cX6_node.data.toList.drop 0 = dktX6_node_0 := by decide +kernel
theorem dX6_node_0 : decode cX6_node 0 = .ok (.aload_n 0, 1) := dk_42 (dk_at dksX6_node_0 0 rfl rfl)
theorem dX6_node_1 : decode cX6_node 1 = .ok (.iconst 0, 1) := dk_3 (dk_at dksX6_node_0 1 rfl rfl)
theorem dX6_node_2 : decode cX6_node 2 = .ok (.aload_n 0, 1) := dk_42 (dk_at dksX6_node_0 2 rfl rfl)
theorem dX6_node_3 : decode cX6_node 3 = .ok (.getfield 20, 3) := dk_180 0 20 (dk_at dksX6_node_0 3 rfl rfl)
theorem dX6_node_6 : decode cX6_node 6 = .ok (.getfield 85, 3) := dk_180 0 85 (dk_at dksX6_node_0 6 rfl rfl)
theorem dX6_node_9 : decode cX6_node 9 = .ok (.iconst 1, 1) := dk_4 (dk_at dksX6_node_0 9 rfl rfl)
theorem dX6_node_10 : decode cX6_node 10 = .ok (.isub, 1) := dk_100 (dk_at dksX6_node_0 10 rfl rfl)
theorem dX6_node_11 : decode cX6_node 11 = .ok (.invokevirtual 88, 3) := dk_182 0 88 (dk_at dksX6_node_0 11 rfl rfl)
theorem dX6_node_14 : decode cX6_node 14 = .ok (.ireturn, 1) := dk_172 (dk_at dksX6_node_0 14 rfl rfl)
abbrev cX6_nodeBut : ByteArray := prog_8_method_8_code
def yX6_nodeBut : MethodName := ⟨RX6, "nodeBut", "(I)I"⟩
def dkwX6_nodeBut_0 : List UInt8 := [42, 182, 0, 91, 61, 42, 28, 27, 159, 0, 7, 4, 167, 0, 4, 3, 6, 182, 0, 55, 28, 172]
abbrev dktX6_nodeBut_0 : List UInt8 := dkwX6_nodeBut_0 ++ []
theorem dksX6_nodeBut_0 : cX6_nodeBut.data.toList.drop 0 = dktX6_nodeBut_0 := by decide +kernel
theorem dX6_nodeBut_0 : decode cX6_nodeBut 0 = .ok (.aload_n 0, 1) := dk_42 (dk_at dksX6_nodeBut_0 0 rfl rfl)
theorem dX6_nodeBut_1 : decode cX6_nodeBut 1 = .ok (.invokevirtual 91, 3) := dk_182 0 91 (dk_at dksX6_nodeBut_0 1 rfl rfl)
theorem dX6_nodeBut_4 : decode cX6_nodeBut 4 = .ok (.istore_n 2, 1) := dk_61 (dk_at dksX6_nodeBut_0 4 rfl rfl)
theorem dX6_nodeBut_5 : decode cX6_nodeBut 5 = .ok (.aload_n 0, 1) := dk_42 (dk_at dksX6_nodeBut_0 5 rfl rfl)
theorem dX6_nodeBut_6 : decode cX6_nodeBut 6 = .ok (.iload_n 2, 1) := dk_28 (dk_at dksX6_nodeBut_0 6 rfl rfl)
theorem dX6_nodeBut_7 : decode cX6_nodeBut 7 = .ok (.iload_n 1, 1) := dk_27 (dk_at dksX6_nodeBut_0 7 rfl rfl)
theorem dX6_nodeBut_8 : decode cX6_nodeBut 8 = .ok (.if_icmp .eq 7, 3) := dk_159 0 7 (dk_at dksX6_nodeBut_0 8 rfl rfl)
theorem dX6_nodeBut_11 : decode cX6_nodeBut 11 = .ok (.iconst 1, 1) := dk_4 (dk_at dksX6_nodeBut_0 11 rfl rfl)
theorem dX6_nodeBut_12 : decode cX6_nodeBut 12 = .ok (.goto 4, 3) := dk_167 0 4 (dk_at dksX6_nodeBut_0 12 rfl rfl)
theorem dX6_nodeBut_15 : decode cX6_nodeBut 15 = .ok (.iconst 0, 1) := dk_3 (dk_at dksX6_nodeBut_0 15 rfl rfl)
theorem dX6_nodeBut_16 : decode cX6_nodeBut 16 = .ok (.iconst 3, 1) := dk_6 (dk_at dksX6_nodeBut_0 16 rfl rfl)
theorem dX6_nodeBut_17 : decode cX6_nodeBut 17 = .ok (.invokevirtual 55, 3) := dk_182 0 55 (dk_at dksX6_nodeBut_0 17 rfl rfl)
theorem dX6_nodeBut_20 : decode cX6_nodeBut 20 = .ok (.iload_n 2, 1) := dk_28 (dk_at dksX6_nodeBut_0 20 rfl rfl)
theorem dX6_nodeBut_21 : decode cX6_nodeBut 21 = .ok (.ireturn, 1) := dk_172 (dk_at dksX6_nodeBut_0 21 rfl rfl)
abbrev cX6_trip : ByteArray := prog_8_method_10_code
def yX6_trip : MethodName := ⟨RX6, "trip", "()V"⟩
def dkwX6_trip_4 : List UInt8 := [87, 177]
abbrev dktX6_trip_4 : List UInt8 := dkwX6_trip_4 ++ []
def dkwX6_trip_3 : List UInt8 := [180, 0, 126, 187, 0, 133, 89, 27, 28, 42, 4, 16, 20, 182, 0, 88, 183, 0, 135, 185, 0, 123, 2, 0]
abbrev dktX6_trip_3 : List UInt8 := dkwX6_trip_3 ++ dktX6_trip_4
def dkwX6_trip_2 : List UInt8 := [180, 0, 20, 180, 0, 126, 185, 0, 98, 1, 0, 42, 3, 17, 3, 231, 182, 0, 88, 79, 42, 180, 0, 20]
abbrev dktX6_trip_2 : List UInt8 := dkwX6_trip_2 ++ dktX6_trip_3
def dkwX6_trip_1 : List UInt8 := [182, 0, 55, 42, 182, 0, 91, 60, 42, 27, 182, 0, 103, 61, 42, 180, 0, 20, 180, 0, 129, 42]
abbrev dktX6_trip_1 : List UInt8 := dkwX6_trip_1 ++ dktX6_trip_2
def dkwX6_trip_0 : List UInt8 := [42, 42, 180, 0, 20, 180, 0, 126, 185, 0, 98, 1, 0, 16, 6, 162, 0, 7, 4, 167, 0, 4, 3, 7]
abbrev dktX6_trip_0 : List UInt8 := dkwX6_trip_0 ++ dktX6_trip_1
theorem dksX6_trip_0 : cX6_trip.data.toList.drop 0 = dktX6_trip_0 := by decide +kernel
theorem dksX6_trip_1 : cX6_trip.data.toList.drop 24 = dktX6_trip_1 := dk_seg dksX6_trip_0 24 rfl rfl
theorem dksX6_trip_2 : cX6_trip.data.toList.drop 46 = dktX6_trip_2 := dk_seg dksX6_trip_1 22 rfl rfl
theorem dksX6_trip_3 : cX6_trip.data.toList.drop 70 = dktX6_trip_3 := dk_seg dksX6_trip_2 24 rfl rfl
theorem dksX6_trip_4 : cX6_trip.data.toList.drop 94 = dktX6_trip_4 := dk_seg dksX6_trip_3 24 rfl rfl
theorem dX6_trip_0 : decode cX6_trip 0 = .ok (.aload_n 0, 1) := dk_42 (dk_at dksX6_trip_0 0 rfl rfl)
theorem dX6_trip_1 : decode cX6_trip 1 = .ok (.aload_n 0, 1) := dk_42 (dk_at dksX6_trip_0 1 rfl rfl)
theorem dX6_trip_2 : decode cX6_trip 2 = .ok (.getfield 20, 3) := dk_180 0 20 (dk_at dksX6_trip_0 2 rfl rfl)
theorem dX6_trip_5 : decode cX6_trip 5 = .ok (.getfield 126, 3) := dk_180 0 126 (dk_at dksX6_trip_0 5 rfl rfl)
theorem dX6_trip_8 : decode cX6_trip 8 = .ok (.invokeinterface 98 1, 5) := by decide +kernel
theorem dX6_trip_13 : decode cX6_trip 13 = .ok (.bipush 6, 2) := dk_16 6 (dk_at dksX6_trip_0 13 rfl rfl)
theorem dX6_trip_15 : decode cX6_trip 15 = .ok (.if_icmp .ge 7, 3) := dk_162 0 7 (dk_at dksX6_trip_0 15 rfl rfl)
theorem dX6_trip_18 : decode cX6_trip 18 = .ok (.iconst 1, 1) := dk_4 (dk_at dksX6_trip_0 18 rfl rfl)
theorem dX6_trip_19 : decode cX6_trip 19 = .ok (.goto 4, 3) := dk_167 0 4 (dk_at dksX6_trip_0 19 rfl rfl)
theorem dX6_trip_22 : decode cX6_trip 22 = .ok (.iconst 0, 1) := dk_3 (dk_at dksX6_trip_0 22 rfl rfl)
theorem dX6_trip_23 : decode cX6_trip 23 = .ok (.iconst 4, 1) := dk_7 (dk_at dksX6_trip_0 23 rfl rfl)
theorem dX6_trip_24 : decode cX6_trip 24 = .ok (.invokevirtual 55, 3) := dk_182 0 55 (dk_at dksX6_trip_1 0 rfl rfl)
theorem dX6_trip_27 : decode cX6_trip 27 = .ok (.aload_n 0, 1) := dk_42 (dk_at dksX6_trip_1 3 rfl rfl)
theorem dX6_trip_28 : decode cX6_trip 28 = .ok (.invokevirtual 91, 3) := dk_182 0 91 (dk_at dksX6_trip_1 4 rfl rfl)
theorem dX6_trip_31 : decode cX6_trip 31 = .ok (.istore_n 1, 1) := dk_60 (dk_at dksX6_trip_1 7 rfl rfl)
theorem dX6_trip_32 : decode cX6_trip 32 = .ok (.aload_n 0, 1) := dk_42 (dk_at dksX6_trip_1 8 rfl rfl)
theorem dX6_trip_33 : decode cX6_trip 33 = .ok (.iload_n 1, 1) := dk_27 (dk_at dksX6_trip_1 9 rfl rfl)
theorem dX6_trip_34 : decode cX6_trip 34 = .ok (.invokevirtual 103, 3) := dk_182 0 103 (dk_at dksX6_trip_1 10 rfl rfl)
theorem dX6_trip_37 : decode cX6_trip 37 = .ok (.istore_n 2, 1) := dk_61 (dk_at dksX6_trip_1 13 rfl rfl)
theorem dX6_trip_38 : decode cX6_trip 38 = .ok (.aload_n 0, 1) := dk_42 (dk_at dksX6_trip_1 14 rfl rfl)
theorem dX6_trip_39 : decode cX6_trip 39 = .ok (.getfield 20, 3) := dk_180 0 20 (dk_at dksX6_trip_1 15 rfl rfl)
theorem dX6_trip_42 : decode cX6_trip 42 = .ok (.getfield 129, 3) := dk_180 0 129 (dk_at dksX6_trip_1 18 rfl rfl)
theorem dX6_trip_45 : decode cX6_trip 45 = .ok (.aload_n 0, 1) := dk_42 (dk_at dksX6_trip_1 21 rfl rfl)
theorem dX6_trip_46 : decode cX6_trip 46 = .ok (.getfield 20, 3) := dk_180 0 20 (dk_at dksX6_trip_2 0 rfl rfl)
theorem dX6_trip_49 : decode cX6_trip 49 = .ok (.getfield 126, 3) := dk_180 0 126 (dk_at dksX6_trip_2 3 rfl rfl)
theorem dX6_trip_52 : decode cX6_trip 52 = .ok (.invokeinterface 98 1, 5) := by decide +kernel
theorem dX6_trip_57 : decode cX6_trip 57 = .ok (.aload_n 0, 1) := dk_42 (dk_at dksX6_trip_2 11 rfl rfl)
theorem dX6_trip_58 : decode cX6_trip 58 = .ok (.iconst 0, 1) := dk_3 (dk_at dksX6_trip_2 12 rfl rfl)
theorem dX6_trip_59 : decode cX6_trip 59 = .ok (.sipush 999, 3) := dk_17 3 231 (dk_at dksX6_trip_2 13 rfl rfl)
theorem dX6_trip_62 : decode cX6_trip 62 = .ok (.invokevirtual 88, 3) := dk_182 0 88 (dk_at dksX6_trip_2 16 rfl rfl)
theorem dX6_trip_65 : decode cX6_trip 65 = .ok (.iastore, 1) := dk_79 (dk_at dksX6_trip_2 19 rfl rfl)
theorem dX6_trip_66 : decode cX6_trip 66 = .ok (.aload_n 0, 1) := dk_42 (dk_at dksX6_trip_2 20 rfl rfl)
theorem dX6_trip_67 : decode cX6_trip 67 = .ok (.getfield 20, 3) := dk_180 0 20 (dk_at dksX6_trip_2 21 rfl rfl)
theorem dX6_trip_70 : decode cX6_trip 70 = .ok (.getfield 126, 3) := dk_180 0 126 (dk_at dksX6_trip_3 0 rfl rfl)
theorem dX6_trip_73 : decode cX6_trip 73 = .ok (.new 133, 3) := dk_187 0 133 (dk_at dksX6_trip_3 3 rfl rfl)
theorem dX6_trip_76 : decode cX6_trip 76 = .ok (.dup, 1) := dk_89 (dk_at dksX6_trip_3 6 rfl rfl)
theorem dX6_trip_77 : decode cX6_trip 77 = .ok (.iload_n 1, 1) := dk_27 (dk_at dksX6_trip_3 7 rfl rfl)
theorem dX6_trip_78 : decode cX6_trip 78 = .ok (.iload_n 2, 1) := dk_28 (dk_at dksX6_trip_3 8 rfl rfl)
theorem dX6_trip_79 : decode cX6_trip 79 = .ok (.aload_n 0, 1) := dk_42 (dk_at dksX6_trip_3 9 rfl rfl)
theorem dX6_trip_80 : decode cX6_trip 80 = .ok (.iconst 1, 1) := dk_4 (dk_at dksX6_trip_3 10 rfl rfl)
theorem dX6_trip_81 : decode cX6_trip 81 = .ok (.bipush 20, 2) := dk_16 20 (dk_at dksX6_trip_3 11 rfl rfl)
theorem dX6_trip_83 : decode cX6_trip 83 = .ok (.invokevirtual 88, 3) := dk_182 0 88 (dk_at dksX6_trip_3 13 rfl rfl)
theorem dX6_trip_86 : decode cX6_trip 86 = .ok (.invokespecial 135, 3) := dk_183 0 135 (dk_at dksX6_trip_3 16 rfl rfl)
theorem dX6_trip_89 : decode cX6_trip 89 = .ok (.invokeinterface 123 2, 5) := by decide +kernel
theorem dX6_trip_94 : decode cX6_trip 94 = .ok (.pop, 1) := dk_87 (dk_at dksX6_trip_4 0 rfl rfl)
theorem dX6_trip_95 : decode cX6_trip 95 = .ok (.return_, 1) := dk_177 (dk_at dksX6_trip_4 1 rfl rfl)
theorem q138 : (Jvm.Cond.initialized "TollLeader$Parser") ∈ lw_all := lw_g (lw_at lw_m1 27 rfl) rfl
theorem q533 : (Jvm.Cond.fieldLinkNest "TollLeader$Parser" (85 : Nat) "TollLeader$Net" "nodes" "I" "TollLeader") ∈ lw_tbl := lw_at lw_m2 182 rfl
theorem q539 : (Jvm.Cond.fieldLinkNest "TollLeader$Parser" (94 : Nat) "TollLeader$Net" "arcs" "Ljava/util/List;" "TollLeader") ∈ lw_tbl := lw_at lw_m2 188 rfl
theorem q542 : (Jvm.Cond.fieldLinkNest "TollLeader$Parser" (126 : Nat) "TollLeader$Net" "trips" "Ljava/util/List;" "TollLeader") ∈ lw_tbl := lw_at lw_m2 191 rfl
theorem q546 : (Jvm.Cond.fieldLinkNest "TollLeader$Parser" (129 : Nat) "TollLeader$Net" "demands" "[I" "TollLeader") ∈ lw_tbl := lw_at lw_m2 195 rfl
theorem q668 : (Jvm.Cond.fieldLinkNest "TollLeader$Parser" (31 : Nat) "TollLeader" "text" "[B" "TollLeader") ∈ lw_tbl := lw_at lw_m3 77 rfl
theorem q669 : (Jvm.Cond.fieldLinkNest "TollLeader$Parser" (28 : Nat) "TollLeader" "length" "I" "TollLeader") ∈ lw_tbl := lw_at lw_m3 78 rfl
theorem q704 : (Jvm.Cond.instantiable "TollLeader$Parser" (5 : Nat)) ∈ lw_all := lw_g (lw_at lw_m3 113 rfl) rfl
theorem q706 : (Jvm.Cond.instanceMethod ({ cls := "TollLeader$Parser", name := "<init>", desc := "(LTollLeader;)V" } : Jvm.MethodName)) ∈ lw_all := lw_g (lw_at lw_m3 115 rfl) rfl
theorem q707 : (Jvm.Cond.code ({ cls := "TollLeader$Parser", name := "<init>", desc := "(LTollLeader;)V" } : Jvm.MethodName) prog_8_method_1_code (2 : Nat) (Option.none : Option Jvm.ClassFile.FieldType)) ∈ lw_all := lw_g (lw_at lw_m3 116 rfl) rfl
theorem q708 : (Jvm.Cond.methodLink "TollLeader$Parser" (9 : Nat) ({ cls := "java/lang/Object", name := "<init>", desc := "()V" } : Jvm.MethodName)) ∈ lw_all := lw_g (lw_at lw_m3 117 rfl) rfl
theorem q709 : (Jvm.Cond.classLink "TollLeader$Parser" (15 : Nat) "TollLeader$Net") ∈ lw_all := lw_g (lw_at lw_m3 118 rfl) rfl
theorem q710 : (Jvm.Cond.methodLink "TollLeader$Parser" (17 : Nat) ({ cls := "TollLeader$Net", name := "<init>", desc := "(I)V" } : Jvm.MethodName)) ∈ lw_all := lw_g (lw_at lw_m3 119 rfl) rfl
theorem q711 : (Jvm.Cond.fieldLink "TollLeader$Parser" (20 : Nat) "TollLeader$Parser" "net" "LTollLeader$Net;") ∈ lw_all := lw_g (lw_at lw_m3 120 rfl) rfl
theorem q712 : (Jvm.Cond.fieldLink "TollLeader$Parser" (24 : Nat) "TollLeader$Parser" "position" "I") ∈ lw_all := lw_g (lw_at lw_m3 121 rfl) rfl
theorem q713 : (Jvm.Cond.fieldLink "TollLeader$Parser" (35 : Nat) "TollLeader$Parser" "start" "I") ∈ lw_all := lw_g (lw_at lw_m3 122 rfl) rfl
theorem q715 : (Jvm.Cond.fieldLink "TollLeader$Parser" (154 : Nat) "TollLeader$Parser" "statement" "I") ∈ lw_all := lw_g (lw_at lw_m3 124 rfl) rfl
theorem q716 : (Jvm.Cond.fieldLink "TollLeader$Parser" (3 : Nat) "TollLeader$Parser" "this$0" "LTollLeader;") ∈ lw_all := lw_g (lw_at lw_m3 125 rfl) rfl
theorem q717 : (Jvm.Cond.lays "TollLeader$Parser" "TollLeader$Parser" "net" "LTollLeader$Net;") ∈ lw_all := lw_g (lw_at lw_m3 126 rfl) rfl
theorem q718 : (Jvm.Cond.soleField "TollLeader$Parser" "net") ∈ lw_all := lw_g (lw_at lw_m3 127 rfl) rfl
theorem q719 : (Jvm.Cond.lays "TollLeader$Parser" "TollLeader$Parser" "position" "I") ∈ lw_all := lw_g (lw_at lw_m3 128 rfl) rfl
theorem q720 : (Jvm.Cond.soleField "TollLeader$Parser" "position") ∈ lw_all := lw_g (lw_at lw_m3 129 rfl) rfl
theorem q721 : (Jvm.Cond.lays "TollLeader$Parser" "TollLeader$Parser" "start" "I") ∈ lw_all := lw_g (lw_at lw_m3 130 rfl) rfl
theorem q722 : (Jvm.Cond.soleField "TollLeader$Parser" "start") ∈ lw_all := lw_g (lw_at lw_m3 131 rfl) rfl
theorem q723 : (Jvm.Cond.lays "TollLeader$Parser" "TollLeader$Parser" "statement" "I") ∈ lw_all := lw_g (lw_at lw_m3 132 rfl) rfl
theorem q724 : (Jvm.Cond.soleField "TollLeader$Parser" "statement") ∈ lw_all := lw_g (lw_at lw_m3 133 rfl) rfl
theorem q725 : (Jvm.Cond.laysFinal "TollLeader$Parser" "TollLeader$Parser" "this$0" "LTollLeader;") ∈ lw_all := lw_g (lw_at lw_m3 134 rfl) rfl
theorem q726 : (Jvm.Cond.soleField "TollLeader$Parser" "this$0") ∈ lw_all := lw_g (lw_at lw_m3 135 rfl) rfl
theorem q727 : (Jvm.Cond.superclass "TollLeader$Parser" "java/lang/Object") ∈ lw_all := lw_g (lw_at lw_m3 136 rfl) rfl
theorem q729 : (Jvm.Cond.instanceMethod ({ cls := "TollLeader$Parser", name := "parse", desc := "()LTollLeader$Net;" } : Jvm.MethodName)) ∈ lw_all := lw_g (lw_at lw_m3 138 rfl) rfl
theorem q730 : (Jvm.Cond.selects "TollLeader$Parser" ({ cls := "TollLeader$Parser", name := "parse", desc := "()LTollLeader$Net;" } : Jvm.MethodName) ({ cls := "TollLeader$Parser", name := "parse", desc := "()LTollLeader$Net;" } : Jvm.MethodName)) ∈ lw_all := lw_g (lw_at lw_m3 139 rfl) rfl
theorem q731 : (Jvm.Cond.code ({ cls := "TollLeader$Parser", name := "parse", desc := "()LTollLeader$Net;" } : Jvm.MethodName) prog_8_method_13_code (1 : Nat) (Option.some (Jvm.ClassFile.FieldType.object "TollLeader$Net"))) ∈ lw_all := lw_g (lw_at lw_m3 140 rfl) rfl
theorem q732 : (Jvm.Cond.methodLink "TollLeader$Parser" (107 : Nat) ({ cls := "TollLeader$Parser", name := "word", desc := "()Ljava/lang/String;" } : Jvm.MethodName)) ∈ lw_all := lw_g (lw_at lw_m3 141 rfl) rfl
theorem q733 : (Jvm.Cond.privateMethod ({ cls := "TollLeader$Parser", name := "word", desc := "()Ljava/lang/String;" } : Jvm.MethodName)) ∈ lw_tbl := lw_at lw_m3 142 rfl
theorem q734 : (Jvm.Cond.instanceMethod ({ cls := "TollLeader$Parser", name := "word", desc := "()Ljava/lang/String;" } : Jvm.MethodName)) ∈ lw_all := lw_g (lw_at lw_m3 143 rfl) rfl
theorem q735 : (Jvm.Cond.code ({ cls := "TollLeader$Parser", name := "word", desc := "()Ljava/lang/String;" } : Jvm.MethodName) prog_8_method_5_code (2 : Nat) (Option.some (Jvm.ClassFile.FieldType.object "java/lang/String"))) ∈ lw_all := lw_g (lw_at lw_m3 144 rfl) rfl
theorem q736 : (Jvm.Cond.methodLink "TollLeader$Parser" (47 : Nat) ({ cls := "TollLeader$Parser", name := "peek", desc := "()I" } : Jvm.MethodName)) ∈ lw_all := lw_g (lw_at lw_m3 145 rfl) rfl
theorem q737 : (Jvm.Cond.privateMethod ({ cls := "TollLeader$Parser", name := "peek", desc := "()I" } : Jvm.MethodName)) ∈ lw_tbl := lw_at lw_m3 146 rfl
theorem q738 : (Jvm.Cond.instanceMethod ({ cls := "TollLeader$Parser", name := "peek", desc := "()I" } : Jvm.MethodName)) ∈ lw_all := lw_g (lw_at lw_m3 147 rfl) rfl
theorem q739 : (Jvm.Cond.code ({ cls := "TollLeader$Parser", name := "peek", desc := "()I" } : Jvm.MethodName) prog_8_method_2_code (1 : Nat) (Option.some Jvm.ClassFile.FieldType.int)) ∈ lw_all := lw_g (lw_at lw_m3 148 rfl) rfl
theorem q740 : (Jvm.Cond.constantLong "TollLeader$Parser" (51 : Nat) (97 : Int64)) ∈ lw_all := lw_g (lw_at lw_m3 149 rfl) rfl
theorem q741 : (Jvm.Cond.constantLong "TollLeader$Parser" (53 : Nat) (122 : Int64)) ∈ lw_all := lw_g (lw_at lw_m3 150 rfl) rfl
theorem q742 : (Jvm.Cond.methodLinkNest "TollLeader$Parser" (43 : Nat) ({ cls := "TollLeader", name := "inRange", desc := "(JJJ)Z" } : Jvm.MethodName) "TollLeader") ∈ lw_tbl := lw_at lw_m3 151 rfl
theorem q745 : (Jvm.Cond.methodLink "TollLeader$Parser" (55 : Nat) ({ cls := "TollLeader$Parser", name := "require", desc := "(ZI)V" } : Jvm.MethodName)) ∈ lw_all := lw_g (lw_at lw_m3 154 rfl) rfl
theorem q746 : (Jvm.Cond.privateMethod ({ cls := "TollLeader$Parser", name := "require", desc := "(ZI)V" } : Jvm.MethodName)) ∈ lw_tbl := lw_at lw_m3 155 rfl
theorem q747 : (Jvm.Cond.instanceMethod ({ cls := "TollLeader$Parser", name := "require", desc := "(ZI)V" } : Jvm.MethodName)) ∈ lw_all := lw_g (lw_at lw_m3 156 rfl) rfl
theorem q748 : (Jvm.Cond.code ({ cls := "TollLeader$Parser", name := "require", desc := "(ZI)V" } : Jvm.MethodName) prog_8_method_3_code (3 : Nat) (Option.none : Option Jvm.ClassFile.FieldType)) ∈ lw_all := lw_g (lw_at lw_m3 157 rfl) rfl
theorem q749 : (Jvm.Cond.classLink "TollLeader$Parser" (38 : Nat) "TollLeader$Fault") ∈ lw_all := lw_g (lw_at lw_m3 158 rfl) rfl
theorem q758 : (Jvm.Cond.methodLink "TollLeader$Parser" (40 : Nat) ({ cls := "TollLeader$Fault", name := "<init>", desc := "(II)V" } : Jvm.MethodName)) ∈ lw_all := lw_g (lw_at lw_m3 167 rfl) rfl
theorem q777 : (Jvm.Cond.classLink "TollLeader$Parser" (59 : Nat) "java/lang/StringBuilder") ∈ lw_all := lw_g (lw_at lw_m3 186 rfl) rfl
theorem q778 : (Jvm.Cond.methodLink "TollLeader$Parser" (61 : Nat) ({ cls := "java/lang/StringBuilder", name := "<init>", desc := "()V" } : Jvm.MethodName)) ∈ lw_all := lw_g (lw_at lw_m3 187 rfl) rfl
theorem q779 : (Jvm.Cond.methodLink "TollLeader$Parser" (62 : Nat) ({ cls := "TollLeader$Parser", name := "isAt", desc := "(CC)Z" } : Jvm.MethodName)) ∈ lw_all := lw_g (lw_at lw_m3 188 rfl) rfl
theorem q780 : (Jvm.Cond.privateMethod ({ cls := "TollLeader$Parser", name := "isAt", desc := "(CC)Z" } : Jvm.MethodName)) ∈ lw_tbl := lw_at lw_m3 189 rfl
theorem q781 : (Jvm.Cond.instanceMethod ({ cls := "TollLeader$Parser", name := "isAt", desc := "(CC)Z" } : Jvm.MethodName)) ∈ lw_all := lw_g (lw_at lw_m3 190 rfl) rfl
theorem q782 : (Jvm.Cond.code ({ cls := "TollLeader$Parser", name := "isAt", desc := "(CC)Z" } : Jvm.MethodName) prog_8_method_4_code (3 : Nat) (Option.some Jvm.ClassFile.FieldType.boolean)) ∈ lw_all := lw_g (lw_at lw_m3 191 rfl) rfl
theorem q783 : (Jvm.Cond.methodLink "TollLeader$Parser" (66 : Nat) ({ cls := "java/lang/StringBuilder", name := "append", desc := "(C)Ljava/lang/StringBuilder;" } : Jvm.MethodName)) ∈ lw_all := lw_g (lw_at lw_m3 192 rfl) rfl
theorem q805 : (Jvm.Cond.methodLink "TollLeader$Parser" (70 : Nat) ({ cls := "java/lang/StringBuilder", name := "toString", desc := "()Ljava/lang/String;" } : Jvm.MethodName)) ∈ lw_all := lw_g (lw_at lw_m3 214 rfl) rfl
theorem q806 : (Jvm.Cond.stringRef "TollLeader$Parser" (149 : Nat) "nodes") ∈ lw_tbl := lw_at lw_m3 215 rfl
theorem q807 : (Jvm.Cond.methodLink "TollLeader$Parser" (112 : Nat) ({ cls := "java/lang/String", name := "equals", desc := "(Ljava/lang/Object;)Z" } : Jvm.MethodName)) ∈ lw_all := lw_g (lw_at lw_m3 216 rfl) rfl
theorem q815 : (Jvm.Cond.methodLink "TollLeader$Parser" (88 : Nat) ({ cls := "TollLeader$Parser", name := "number", desc := "(II)I" } : Jvm.MethodName)) ∈ lw_all := lw_g (lw_at lw_m3 224 rfl) rfl
theorem q816 : (Jvm.Cond.privateMethod ({ cls := "TollLeader$Parser", name := "number", desc := "(II)I" } : Jvm.MethodName)) ∈ lw_tbl := lw_at lw_m3 225 rfl
theorem q817 : (Jvm.Cond.instanceMethod ({ cls := "TollLeader$Parser", name := "number", desc := "(II)I" } : Jvm.MethodName)) ∈ lw_all := lw_g (lw_at lw_m3 226 rfl) rfl
theorem q818 : (Jvm.Cond.code ({ cls := "TollLeader$Parser", name := "number", desc := "(II)I" } : Jvm.MethodName) prog_8_method_6_code (4 : Nat) (Option.some Jvm.ClassFile.FieldType.int)) ∈ lw_all := lw_g (lw_at lw_m3 227 rfl) rfl
theorem q819 : (Jvm.Cond.constantLong "TollLeader$Parser" (74 : Nat) (48 : Int64)) ∈ lw_all := lw_g (lw_at lw_m3 228 rfl) rfl
theorem q820 : (Jvm.Cond.constantLong "TollLeader$Parser" (76 : Nat) (57 : Int64)) ∈ lw_all := lw_g (lw_at lw_m3 229 rfl) rfl
theorem q821 : (Jvm.Cond.constant "TollLeader$Parser" (78 : Nat) (1000000 : Int32)) ∈ lw_all := lw_g (lw_at lw_m3 230 rfl) rfl
theorem q822 : (Jvm.Cond.methodLink "TollLeader$Parser" (79 : Nat) ({ cls := "java/lang/Math", name := "min", desc := "(II)I" } : Jvm.MethodName)) ∈ lw_all := lw_g (lw_at lw_m3 231 rfl) rfl
theorem q823 : (Jvm.Cond.methodLink "TollLeader$Parser" (150 : Nat) ({ cls := "TollLeader$Parser", name := "goesOn", desc := "()Z" } : Jvm.MethodName)) ∈ lw_all := lw_g (lw_at lw_m3 232 rfl) rfl
theorem q824 : (Jvm.Cond.privateMethod ({ cls := "TollLeader$Parser", name := "goesOn", desc := "()Z" } : Jvm.MethodName)) ∈ lw_tbl := lw_at lw_m3 233 rfl
theorem q825 : (Jvm.Cond.instanceMethod ({ cls := "TollLeader$Parser", name := "goesOn", desc := "()Z" } : Jvm.MethodName)) ∈ lw_all := lw_g (lw_at lw_m3 234 rfl) rfl
theorem q826 : (Jvm.Cond.code ({ cls := "TollLeader$Parser", name := "goesOn", desc := "()Z" } : Jvm.MethodName) prog_8_method_12_code (2 : Nat) (Option.some Jvm.ClassFile.FieldType.boolean)) ∈ lw_all := lw_g (lw_at lw_m3 235 rfl) rfl
theorem q827 : (Jvm.Cond.methodLink "TollLeader$Parser" (157 : Nat) ({ cls := "TollLeader$Parser", name := "statement", desc := "()V" } : Jvm.MethodName)) ∈ lw_all := lw_g (lw_at lw_m3 236 rfl) rfl
theorem q828 : (Jvm.Cond.privateMethod ({ cls := "TollLeader$Parser", name := "statement", desc := "()V" } : Jvm.MethodName)) ∈ lw_tbl := lw_at lw_m3 237 rfl
theorem q829 : (Jvm.Cond.instanceMethod ({ cls := "TollLeader$Parser", name := "statement", desc := "()V" } : Jvm.MethodName)) ∈ lw_all := lw_g (lw_at lw_m3 238 rfl) rfl
theorem q830 : (Jvm.Cond.code ({ cls := "TollLeader$Parser", name := "statement", desc := "()V" } : Jvm.MethodName) prog_8_method_11_code (3 : Nat) (Option.none : Option Jvm.ClassFile.FieldType)) ∈ lw_all := lw_g (lw_at lw_m3 239 rfl) rfl
theorem q831 : (Jvm.Cond.methodLink "TollLeader$Parser" (138 : Nat) ({ cls := "java/lang/String", name := "hashCode", desc := "()I" } : Jvm.MethodName)) ∈ lw_all := lw_g (lw_at lw_m4 0 rfl) rfl
theorem q892 : (Jvm.Cond.stringRef "TollLeader$Parser" (141 : Nat) "arc") ∈ lw_tbl := lw_at lw_m4 61 rfl
theorem q893 : (Jvm.Cond.stringRef "TollLeader$Parser" (143 : Nat) "trip") ∈ lw_tbl := lw_at lw_m4 62 rfl
theorem q894 : (Jvm.Cond.methodLink "TollLeader$Parser" (145 : Nat) ({ cls := "TollLeader$Parser", name := "arc", desc := "()V" } : Jvm.MethodName)) ∈ lw_all := lw_g (lw_at lw_m4 63 rfl) rfl
theorem q895 : (Jvm.Cond.privateMethod ({ cls := "TollLeader$Parser", name := "arc", desc := "()V" } : Jvm.MethodName)) ∈ lw_tbl := lw_at lw_m4 64 rfl
theorem q896 : (Jvm.Cond.instanceMethod ({ cls := "TollLeader$Parser", name := "arc", desc := "()V" } : Jvm.MethodName)) ∈ lw_all := lw_g (lw_at lw_m4 65 rfl) rfl
theorem q897 : (Jvm.Cond.code ({ cls := "TollLeader$Parser", name := "arc", desc := "()V" } : Jvm.MethodName) prog_8_method_9_code (5 : Nat) (Option.none : Option Jvm.ClassFile.FieldType)) ∈ lw_all := lw_g (lw_at lw_m4 66 rfl) rfl
theorem q898 : (Jvm.Cond.interfaceEntry "TollLeader$Parser" (98 : Nat)) ∈ lw_tbl := lw_at lw_m4 67 rfl
theorem q899 : (Jvm.Cond.methodLink "TollLeader$Parser" (98 : Nat) ({ cls := "java/util/List", name := "size", desc := "()I" } : Jvm.MethodName)) ∈ lw_all := lw_g (lw_at lw_m4 68 rfl) rfl
theorem q914 : (Jvm.Cond.methodLink "TollLeader$Parser" (91 : Nat) ({ cls := "TollLeader$Parser", name := "node", desc := "()I" } : Jvm.MethodName)) ∈ lw_all := lw_g (lw_at lw_m4 83 rfl) rfl
theorem q915 : (Jvm.Cond.privateMethod ({ cls := "TollLeader$Parser", name := "node", desc := "()I" } : Jvm.MethodName)) ∈ lw_tbl := lw_at lw_m4 84 rfl
theorem q916 : (Jvm.Cond.instanceMethod ({ cls := "TollLeader$Parser", name := "node", desc := "()I" } : Jvm.MethodName)) ∈ lw_all := lw_g (lw_at lw_m4 85 rfl) rfl
theorem q917 : (Jvm.Cond.code ({ cls := "TollLeader$Parser", name := "node", desc := "()I" } : Jvm.MethodName) prog_8_method_7_code (1 : Nat) (Option.some Jvm.ClassFile.FieldType.int)) ∈ lw_all := lw_g (lw_at lw_m4 86 rfl) rfl
theorem q918 : (Jvm.Cond.methodLink "TollLeader$Parser" (103 : Nat) ({ cls := "TollLeader$Parser", name := "nodeBut", desc := "(I)I" } : Jvm.MethodName)) ∈ lw_all := lw_g (lw_at lw_m4 87 rfl) rfl
theorem q919 : (Jvm.Cond.privateMethod ({ cls := "TollLeader$Parser", name := "nodeBut", desc := "(I)I" } : Jvm.MethodName)) ∈ lw_tbl := lw_at lw_m4 88 rfl
theorem q920 : (Jvm.Cond.instanceMethod ({ cls := "TollLeader$Parser", name := "nodeBut", desc := "(I)I" } : Jvm.MethodName)) ∈ lw_all := lw_g (lw_at lw_m4 89 rfl) rfl
theorem q921 : (Jvm.Cond.code ({ cls := "TollLeader$Parser", name := "nodeBut", desc := "(I)I" } : Jvm.MethodName) prog_8_method_8_code (3 : Nat) (Option.some Jvm.ClassFile.FieldType.int)) ∈ lw_all := lw_g (lw_at lw_m4 90 rfl) rfl
theorem q922 : (Jvm.Cond.stringRef "TollLeader$Parser" (110 : Nat) "toll") ∈ lw_tbl := lw_at lw_m4 91 rfl
theorem q923 : (Jvm.Cond.classLink "TollLeader$Parser" (118 : Nat) "TollLeader$Arc") ∈ lw_all := lw_g (lw_at lw_m4 92 rfl) rfl
theorem q925 : (Jvm.Cond.methodLinkNest "TollLeader$Parser" (120 : Nat) ({ cls := "TollLeader$Arc", name := "<init>", desc := "(IIIII)V" } : Jvm.MethodName) "TollLeader") ∈ lw_tbl := lw_at lw_m4 94 rfl
theorem q948 : (Jvm.Cond.interfaceEntry "TollLeader$Parser" (123 : Nat)) ∈ lw_tbl := lw_at lw_m4 117 rfl
theorem q949 : (Jvm.Cond.methodLink "TollLeader$Parser" (123 : Nat) ({ cls := "java/util/List", name := "add", desc := "(Ljava/lang/Object;)Z" } : Jvm.MethodName)) ∈ lw_all := lw_g (lw_at lw_m4 118 rfl) rfl
theorem q985 : (Jvm.Cond.selects "TollLeader$Parser" ({ cls := "java/lang/Object", name := "getClass", desc := "()Ljava/lang/Class;" } : Jvm.MethodName) ({ cls := "java/lang/Object", name := "getClass", desc := "()Ljava/lang/Class;" } : Jvm.MethodName)) ∈ lw_all := lw_g (lw_at lw_m4 154 rfl) rfl
theorem q1048 : (Jvm.Cond.methodLink "TollLeader$Parser" (147 : Nat) ({ cls := "TollLeader$Parser", name := "trip", desc := "()V" } : Jvm.MethodName)) ∈ lw_all := lw_g (lw_at lw_m4 217 rfl) rfl
theorem q1049 : (Jvm.Cond.privateMethod ({ cls := "TollLeader$Parser", name := "trip", desc := "()V" } : Jvm.MethodName)) ∈ lw_tbl := lw_at lw_m4 218 rfl
theorem q1050 : (Jvm.Cond.instanceMethod ({ cls := "TollLeader$Parser", name := "trip", desc := "()V" } : Jvm.MethodName)) ∈ lw_all := lw_g (lw_at lw_m4 219 rfl) rfl
theorem q1051 : (Jvm.Cond.code ({ cls := "TollLeader$Parser", name := "trip", desc := "()V" } : Jvm.MethodName) prog_8_method_10_code (3 : Nat) (Option.none : Option Jvm.ClassFile.FieldType)) ∈ lw_all := lw_g (lw_at lw_m4 220 rfl) rfl
theorem q1052 : (Jvm.Cond.classLink "TollLeader$Parser" (133 : Nat) "TollLeader$Trip") ∈ lw_all := lw_g (lw_at lw_m4 221 rfl) rfl
theorem q1054 : (Jvm.Cond.methodLinkNest "TollLeader$Parser" (135 : Nat) ({ cls := "TollLeader$Trip", name := "<init>", desc := "(III)V" } : Jvm.MethodName) "TollLeader") ∈ lw_tbl := lw_at lw_m4 223 rfl
theorem q3067 : (Jvm.Cond.castable "TollLeader$Parser" "java/lang/Object") ∈ lw_tbl := lw_at lw_m13 76 rfl
theorem in_X6 : ∀ w ∈ wsX60, w ∈ lw_all := lw_in wsX60 [717, 719, 721, 723, 725] (by decide +kernel) (by decide +kernel)
/-! TollLeader$Fault -/
set_option maxRecDepth 100000
def RX7 : String := "TollLeader$Fault"
def TX7 : u_T := fun k => match k with
  | 0 => ("java/lang/Throwable", "cause", "Ljava/lang/Throwable;", false)
  | 1 => ("java/lang/Throwable", "stackTrace", "[Ljava/lang/StackTraceElement;", false)
  | 2 => ("java/lang/Throwable", "suppressedExceptions", "Ljava/util/List;", false)
  | 3 => ("java/lang/Throwable", "detailMessage", "Ljava/lang/String;", false)
  | 4 => ("java/lang/Throwable", "backtrace", "Ljava/lang/Object;", false)
  | 5 => ("java/lang/Throwable", "depth", "I", false)
  | 6 => ("TollLeader$Fault", "kind", "I", true)
  | _ => ("TollLeader$Fault", "position", "I", true)
def tyX7 : Nat → FieldType := fun k => match k with
  | 0 => .object "java/lang/Throwable"
  | 1 => .array (.object "java/lang/StackTraceElement")
  | 2 => .object "java/util/List"
  | 3 => .object "java/lang/String"
  | 4 => .object "java/lang/Object"
  | 5 => .int
  | 6 => .int
  | _ => .int
abbrev wsX70 : List Cond := u_ws RX7 TX7 8
theorem nmX7 : ∀ a, a < 8 → ∀ b, b < 8 → a ≠ b → (TX7 a).2.1 ≠ (TX7 b).2.1 := by decide +kernel
theorem tyX7_ok : ∀ k, k < 8 → parseFieldDescriptor (TX7 k).2.2.1 = some (tyX7 k) := by decide +kernel
abbrev cX7_init : ByteArray := prog_3_method_1_code
def yX7_init : MethodName := ⟨RX7, "<init>", "(II)V"⟩
def dkwX7_init_0 : List UInt8 := [42, 1, 1, 3, 3, 183, 0, 1, 42, 27, 181, 0, 7, 42, 28, 181, 0, 13, 177]
abbrev dktX7_init_0 : List UInt8 := dkwX7_init_0 ++ []
theorem dksX7_init_0 : cX7_init.data.toList.drop 0 = dktX7_init_0 := by decide +kernel
theorem dX7_init_0 : decode cX7_init 0 = .ok (.aload_n 0, 1) := dk_42 (dk_at dksX7_init_0 0 rfl rfl)
theorem dX7_init_1 : decode cX7_init 1 = .ok (.aconst_null, 1) := dk_1 (dk_at dksX7_init_0 1 rfl rfl)
theorem dX7_init_2 : decode cX7_init 2 = .ok (.aconst_null, 1) := dk_1 (dk_at dksX7_init_0 2 rfl rfl)
theorem dX7_init_3 : decode cX7_init 3 = .ok (.iconst 0, 1) := dk_3 (dk_at dksX7_init_0 3 rfl rfl)
theorem dX7_init_4 : decode cX7_init 4 = .ok (.iconst 0, 1) := dk_3 (dk_at dksX7_init_0 4 rfl rfl)
theorem dX7_init_5 : decode cX7_init 5 = .ok (.invokespecial 1, 3) := dk_183 0 1 (dk_at dksX7_init_0 5 rfl rfl)
theorem dX7_init_8 : decode cX7_init 8 = .ok (.aload_n 0, 1) := dk_42 (dk_at dksX7_init_0 8 rfl rfl)
theorem dX7_init_9 : decode cX7_init 9 = .ok (.iload_n 1, 1) := dk_27 (dk_at dksX7_init_0 9 rfl rfl)
theorem dX7_init_10 : decode cX7_init 10 = .ok (.putfield 7, 3) := dk_181 0 7 (dk_at dksX7_init_0 10 rfl rfl)
theorem dX7_init_13 : decode cX7_init 13 = .ok (.aload_n 0, 1) := dk_42 (dk_at dksX7_init_0 13 rfl rfl)
theorem dX7_init_14 : decode cX7_init 14 = .ok (.iload_n 2, 1) := dk_28 (dk_at dksX7_init_0 14 rfl rfl)
theorem dX7_init_15 : decode cX7_init 15 = .ok (.putfield 13, 3) := dk_181 0 13 (dk_at dksX7_init_0 15 rfl rfl)
theorem dX7_init_18 : decode cX7_init 18 = .ok (.return_, 1) := dk_177 (dk_at dksX7_init_0 18 rfl rfl)
theorem q139 : (Jvm.Cond.initialized "TollLeader$Fault") ∈ lw_all := lw_g (lw_at lw_m1 28 rfl) rfl
theorem q227 : (Jvm.Cond.selects "TollLeader$Fault" ({ cls := "java/lang/Throwable", name := "fillInStackTrace", desc := "()Ljava/lang/Throwable;" } : Jvm.MethodName) ({ cls := "java/lang/Throwable", name := "fillInStackTrace", desc := "()Ljava/lang/Throwable;" } : Jvm.MethodName)) ∈ lw_all := lw_g (lw_at lw_m1 116 rfl) rfl
theorem q750 : (Jvm.Cond.instantiable "TollLeader$Fault" (8 : Nat)) ∈ lw_all := lw_g (lw_at lw_m3 159 rfl) rfl
theorem q751 : (Jvm.Cond.castable "TollLeader$Fault" "TollLeader$Fault") ∈ lw_tbl := lw_at lw_m3 160 rfl
theorem q752 : (Jvm.Cond.selects "TollLeader$Fault" ({ cls := "java/lang/Throwable", name := "fillInStackTrace", desc := "(I)Ljava/lang/Throwable;" } : Jvm.MethodName) ({ cls := "java/lang/Throwable", name := "fillInStackTrace", desc := "(I)Ljava/lang/Throwable;" } : Jvm.MethodName)) ∈ lw_all := lw_g (lw_at lw_m3 161 rfl) rfl
theorem q753 : (Jvm.Cond.lays "TollLeader$Fault" "java/lang/Throwable" "cause" "Ljava/lang/Throwable;") ∈ lw_all := lw_g (lw_at lw_m3 162 rfl) rfl
theorem q754 : (Jvm.Cond.lays "TollLeader$Fault" "java/lang/Throwable" "stackTrace" "[Ljava/lang/StackTraceElement;") ∈ lw_all := lw_g (lw_at lw_m3 163 rfl) rfl
theorem q755 : (Jvm.Cond.lays "TollLeader$Fault" "java/lang/Throwable" "suppressedExceptions" "Ljava/util/List;") ∈ lw_all := lw_g (lw_at lw_m3 164 rfl) rfl
theorem q756 : (Jvm.Cond.lays "TollLeader$Fault" "java/lang/Throwable" "detailMessage" "Ljava/lang/String;") ∈ lw_all := lw_g (lw_at lw_m3 165 rfl) rfl
theorem q757 : (Jvm.Cond.lays "TollLeader$Fault" "java/lang/Throwable" "backtrace" "Ljava/lang/Object;") ∈ lw_all := lw_g (lw_at lw_m3 166 rfl) rfl
theorem q759 : (Jvm.Cond.instanceMethod ({ cls := "TollLeader$Fault", name := "<init>", desc := "(II)V" } : Jvm.MethodName)) ∈ lw_all := lw_g (lw_at lw_m3 168 rfl) rfl
theorem q760 : (Jvm.Cond.code ({ cls := "TollLeader$Fault", name := "<init>", desc := "(II)V" } : Jvm.MethodName) prog_3_method_1_code (3 : Nat) (Option.none : Option Jvm.ClassFile.FieldType)) ∈ lw_all := lw_g (lw_at lw_m3 169 rfl) rfl
theorem q761 : (Jvm.Cond.methodLink "TollLeader$Fault" (1 : Nat) ({ cls := "java/lang/Exception", name := "<init>", desc := "(Ljava/lang/String;Ljava/lang/Throwable;ZZ)V" } : Jvm.MethodName)) ∈ lw_all := lw_g (lw_at lw_m3 170 rfl) rfl
theorem q767 : (Jvm.Cond.fieldLink "TollLeader$Fault" (7 : Nat) "TollLeader$Fault" "kind" "I") ∈ lw_all := lw_g (lw_at lw_m3 176 rfl) rfl
theorem q769 : (Jvm.Cond.fieldLink "TollLeader$Fault" (13 : Nat) "TollLeader$Fault" "position" "I") ∈ lw_all := lw_g (lw_at lw_m3 178 rfl) rfl
theorem q771 : (Jvm.Cond.laysFinal "TollLeader$Fault" "TollLeader$Fault" "kind" "I") ∈ lw_all := lw_g (lw_at lw_m3 180 rfl) rfl
theorem q772 : (Jvm.Cond.soleField "TollLeader$Fault" "kind") ∈ lw_all := lw_g (lw_at lw_m3 181 rfl) rfl
theorem q773 : (Jvm.Cond.laysFinal "TollLeader$Fault" "TollLeader$Fault" "position" "I") ∈ lw_all := lw_g (lw_at lw_m3 182 rfl) rfl
theorem q774 : (Jvm.Cond.soleField "TollLeader$Fault" "position") ∈ lw_all := lw_g (lw_at lw_m3 183 rfl) rfl
theorem q775 : (Jvm.Cond.lays "TollLeader$Fault" "java/lang/Throwable" "depth" "I") ∈ lw_all := lw_g (lw_at lw_m3 184 rfl) rfl
theorem q776 : (Jvm.Cond.superclass "TollLeader$Fault" "java/lang/Exception") ∈ lw_all := lw_g (lw_at lw_m3 185 rfl) rfl
theorem q980 : (Jvm.Cond.selects "TollLeader$Fault" ({ cls := "java/lang/Object", name := "getClass", desc := "()Ljava/lang/Class;" } : Jvm.MethodName) ({ cls := "java/lang/Object", name := "getClass", desc := "()Ljava/lang/Class;" } : Jvm.MethodName)) ∈ lw_all := lw_g (lw_at lw_m4 149 rfl) rfl
theorem q1639 : (Jvm.Cond.selects "TollLeader$Fault" ({ cls := "java/lang/Throwable", name := "toString", desc := "()Ljava/lang/String;" } : Jvm.MethodName) ({ cls := "java/lang/Throwable", name := "toString", desc := "()Ljava/lang/String;" } : Jvm.MethodName)) ∈ lw_all := lw_g (lw_at lw_m7 88 rfl) rfl
theorem q1650 : (Jvm.Cond.selects "TollLeader$Fault" ({ cls := "java/lang/Throwable", name := "getLocalizedMessage", desc := "()Ljava/lang/String;" } : Jvm.MethodName) ({ cls := "java/lang/Throwable", name := "getLocalizedMessage", desc := "()Ljava/lang/String;" } : Jvm.MethodName)) ∈ lw_all := lw_g (lw_at lw_m7 99 rfl) rfl
theorem q1660 : (Jvm.Cond.selects "TollLeader$Fault" ({ cls := "java/lang/Throwable", name := "getMessage", desc := "()Ljava/lang/String;" } : Jvm.MethodName) ({ cls := "java/lang/Throwable", name := "getMessage", desc := "()Ljava/lang/String;" } : Jvm.MethodName)) ∈ lw_all := lw_g (lw_at lw_m7 109 rfl) rfl
theorem q3068 : (Jvm.Cond.castable "TollLeader$Fault" "java/lang/Object") ∈ lw_tbl := lw_at lw_m13 77 rfl
theorem in_X7 : ∀ w ∈ wsX70, w ∈ lw_all := lw_in wsX70 [753, 754, 755, 756, 757, 775, 771, 773] (by decide +kernel) (by decide +kernel)
/-! TollLeader$Arc -/
set_option maxRecDepth 100000
def RX8 : String := "TollLeader$Arc"
def TX8 : u_T := fun k => match k with
  | 0 => ("TollLeader$Arc", "number", "I", true)
  | 1 => ("TollLeader$Arc", "from", "I", true)
  | 2 => ("TollLeader$Arc", "to", "I", true)
  | 3 => ("TollLeader$Arc", "cost", "I", true)
  | _ => ("TollLeader$Arc", "most", "I", true)
def tyX8 : Nat → FieldType := fun k => match k with
  | 0 => .int
  | 1 => .int
  | 2 => .int
  | 3 => .int
  | _ => .int
abbrev wsX80 : List Cond := u_ws RX8 TX8 5
theorem nmX8 : ∀ a, a < 5 → ∀ b, b < 5 → a ≠ b → (TX8 a).2.1 ≠ (TX8 b).2.1 := by decide +kernel
theorem tyX8_ok : ∀ k, k < 5 → parseFieldDescriptor (TX8 k).2.2.1 = some (tyX8 k) := by decide +kernel
abbrev cX8_init : ByteArray := prog_2_method_1_code
def yX8_init : MethodName := ⟨RX8, "<init>", "(IIIII)V"⟩
def dkwX8_init_1 : List UInt8 := [181, 0, 19, 42, 21, 5, 181, 0, 22, 177]
abbrev dktX8_init_1 : List UInt8 := dkwX8_init_1 ++ []
def dkwX8_init_0 : List UInt8 := [42, 183, 0, 1, 42, 27, 181, 0, 7, 42, 28, 181, 0, 13, 42, 29, 181, 0, 16, 42, 21, 4]
abbrev dktX8_init_0 : List UInt8 := dkwX8_init_0 ++ dktX8_init_1
theorem dksX8_init_0 : cX8_init.data.toList.drop 0 = dktX8_init_0 := by decide +kernel
theorem dksX8_init_1 : cX8_init.data.toList.drop 22 = dktX8_init_1 := dk_seg dksX8_init_0 22 rfl rfl
theorem dX8_init_0 : decode cX8_init 0 = .ok (.aload_n 0, 1) := dk_42 (dk_at dksX8_init_0 0 rfl rfl)
theorem dX8_init_1 : decode cX8_init 1 = .ok (.invokespecial 1, 3) := dk_183 0 1 (dk_at dksX8_init_0 1 rfl rfl)
theorem dX8_init_4 : decode cX8_init 4 = .ok (.aload_n 0, 1) := dk_42 (dk_at dksX8_init_0 4 rfl rfl)
theorem dX8_init_5 : decode cX8_init 5 = .ok (.iload_n 1, 1) := dk_27 (dk_at dksX8_init_0 5 rfl rfl)
theorem dX8_init_6 : decode cX8_init 6 = .ok (.putfield 7, 3) := dk_181 0 7 (dk_at dksX8_init_0 6 rfl rfl)
theorem dX8_init_9 : decode cX8_init 9 = .ok (.aload_n 0, 1) := dk_42 (dk_at dksX8_init_0 9 rfl rfl)
theorem dX8_init_10 : decode cX8_init 10 = .ok (.iload_n 2, 1) := dk_28 (dk_at dksX8_init_0 10 rfl rfl)
theorem dX8_init_11 : decode cX8_init 11 = .ok (.putfield 13, 3) := dk_181 0 13 (dk_at dksX8_init_0 11 rfl rfl)
theorem dX8_init_14 : decode cX8_init 14 = .ok (.aload_n 0, 1) := dk_42 (dk_at dksX8_init_0 14 rfl rfl)
theorem dX8_init_15 : decode cX8_init 15 = .ok (.iload_n 3, 1) := dk_29 (dk_at dksX8_init_0 15 rfl rfl)
theorem dX8_init_16 : decode cX8_init 16 = .ok (.putfield 16, 3) := dk_181 0 16 (dk_at dksX8_init_0 16 rfl rfl)
theorem dX8_init_19 : decode cX8_init 19 = .ok (.aload_n 0, 1) := dk_42 (dk_at dksX8_init_0 19 rfl rfl)
theorem dX8_init_20 : decode cX8_init 20 = .ok (.iload 4, 2) := dk_21 4 (dk_at dksX8_init_0 20 rfl rfl)
theorem dX8_init_22 : decode cX8_init 22 = .ok (.putfield 19, 3) := dk_181 0 19 (dk_at dksX8_init_1 0 rfl rfl)
theorem dX8_init_25 : decode cX8_init 25 = .ok (.aload_n 0, 1) := dk_42 (dk_at dksX8_init_1 3 rfl rfl)
theorem dX8_init_26 : decode cX8_init 26 = .ok (.iload 5, 2) := dk_21 5 (dk_at dksX8_init_1 4 rfl rfl)
theorem dX8_init_28 : decode cX8_init 28 = .ok (.putfield 22, 3) := dk_181 0 22 (dk_at dksX8_init_1 6 rfl rfl)
theorem dX8_init_31 : decode cX8_init 31 = .ok (.return_, 1) := dk_177 (dk_at dksX8_init_1 9 rfl rfl)
abbrev cX8_number : ByteArray := prog_2_method_5_code
def yX8_number : MethodName := ⟨RX8, "number", "()I"⟩
theorem dX8_number_0 : decode cX8_number 0 = .ok (.aload_n 0, 1) := by decide +kernel
theorem dX8_number_1 : decode cX8_number 1 = .ok (.getfield 7, 3) := by decide +kernel
theorem dX8_number_4 : decode cX8_number 4 = .ok (.ireturn, 1) := by decide +kernel
abbrev cX8_cost : ByteArray := prog_2_method_8_code
def yX8_cost : MethodName := ⟨RX8, "cost", "()I"⟩
theorem dX8_cost_0 : decode cX8_cost 0 = .ok (.aload_n 0, 1) := by decide +kernel
theorem dX8_cost_1 : decode cX8_cost 1 = .ok (.getfield 19, 3) := by decide +kernel
theorem dX8_cost_4 : decode cX8_cost 4 = .ok (.ireturn, 1) := by decide +kernel
abbrev cX8_most : ByteArray := prog_2_method_9_code
def yX8_most : MethodName := ⟨RX8, "most", "()I"⟩
theorem dX8_most_0 : decode cX8_most 0 = .ok (.aload_n 0, 1) := by decide +kernel
theorem dX8_most_1 : decode cX8_most 1 = .ok (.getfield 22, 3) := by decide +kernel
theorem dX8_most_4 : decode cX8_most 4 = .ok (.ireturn, 1) := by decide +kernel
abbrev cX8_to : ByteArray := prog_2_method_7_code
def yX8_to : MethodName := ⟨RX8, "to", "()I"⟩
theorem dX8_to_0 : decode cX8_to 0 = .ok (.aload_n 0, 1) := by decide +kernel
theorem dX8_to_1 : decode cX8_to 1 = .ok (.getfield 16, 3) := by decide +kernel
theorem dX8_to_4 : decode cX8_to 4 = .ok (.ireturn, 1) := by decide +kernel
abbrev cX8_from : ByteArray := prog_2_method_6_code
def yX8_from : MethodName := ⟨RX8, "from", "()I"⟩
theorem dX8_from_0 : decode cX8_from 0 = .ok (.aload_n 0, 1) := by decide +kernel
theorem dX8_from_1 : decode cX8_from 1 = .ok (.getfield 13, 3) := by decide +kernel
theorem dX8_from_4 : decode cX8_from 4 = .ok (.ireturn, 1) := by decide +kernel
theorem q141 : (Jvm.Cond.initialized "TollLeader$Arc") ∈ lw_all := lw_g (lw_at lw_m1 30 rfl) rfl
theorem q924 : (Jvm.Cond.instantiable "TollLeader$Arc" (5 : Nat)) ∈ lw_all := lw_g (lw_at lw_m4 93 rfl) rfl
theorem q926 : (Jvm.Cond.instanceMethod ({ cls := "TollLeader$Arc", name := "<init>", desc := "(IIIII)V" } : Jvm.MethodName)) ∈ lw_all := lw_g (lw_at lw_m4 95 rfl) rfl
theorem q927 : (Jvm.Cond.code ({ cls := "TollLeader$Arc", name := "<init>", desc := "(IIIII)V" } : Jvm.MethodName) prog_2_method_1_code (6 : Nat) (Option.none : Option Jvm.ClassFile.FieldType)) ∈ lw_all := lw_g (lw_at lw_m4 96 rfl) rfl
theorem q928 : (Jvm.Cond.methodLink "TollLeader$Arc" (1 : Nat) ({ cls := "java/lang/Record", name := "<init>", desc := "()V" } : Jvm.MethodName)) ∈ lw_all := lw_g (lw_at lw_m4 97 rfl) rfl
theorem q932 : (Jvm.Cond.fieldLink "TollLeader$Arc" (7 : Nat) "TollLeader$Arc" "number" "I") ∈ lw_all := lw_g (lw_at lw_m4 101 rfl) rfl
theorem q933 : (Jvm.Cond.fieldLink "TollLeader$Arc" (13 : Nat) "TollLeader$Arc" "from" "I") ∈ lw_all := lw_g (lw_at lw_m4 102 rfl) rfl
theorem q934 : (Jvm.Cond.fieldLink "TollLeader$Arc" (16 : Nat) "TollLeader$Arc" "to" "I") ∈ lw_all := lw_g (lw_at lw_m4 103 rfl) rfl
theorem q935 : (Jvm.Cond.fieldLink "TollLeader$Arc" (19 : Nat) "TollLeader$Arc" "cost" "I") ∈ lw_all := lw_g (lw_at lw_m4 104 rfl) rfl
theorem q936 : (Jvm.Cond.fieldLink "TollLeader$Arc" (22 : Nat) "TollLeader$Arc" "most" "I") ∈ lw_all := lw_g (lw_at lw_m4 105 rfl) rfl
theorem q937 : (Jvm.Cond.laysFinal "TollLeader$Arc" "TollLeader$Arc" "number" "I") ∈ lw_all := lw_g (lw_at lw_m4 106 rfl) rfl
theorem q938 : (Jvm.Cond.soleField "TollLeader$Arc" "number") ∈ lw_all := lw_g (lw_at lw_m4 107 rfl) rfl
theorem q939 : (Jvm.Cond.laysFinal "TollLeader$Arc" "TollLeader$Arc" "from" "I") ∈ lw_all := lw_g (lw_at lw_m4 108 rfl) rfl
theorem q940 : (Jvm.Cond.soleField "TollLeader$Arc" "from") ∈ lw_all := lw_g (lw_at lw_m4 109 rfl) rfl
theorem q941 : (Jvm.Cond.laysFinal "TollLeader$Arc" "TollLeader$Arc" "to" "I") ∈ lw_all := lw_g (lw_at lw_m4 110 rfl) rfl
theorem q942 : (Jvm.Cond.soleField "TollLeader$Arc" "to") ∈ lw_all := lw_g (lw_at lw_m4 111 rfl) rfl
theorem q943 : (Jvm.Cond.laysFinal "TollLeader$Arc" "TollLeader$Arc" "cost" "I") ∈ lw_all := lw_g (lw_at lw_m4 112 rfl) rfl
theorem q944 : (Jvm.Cond.soleField "TollLeader$Arc" "cost") ∈ lw_all := lw_g (lw_at lw_m4 113 rfl) rfl
theorem q945 : (Jvm.Cond.laysFinal "TollLeader$Arc" "TollLeader$Arc" "most" "I") ∈ lw_all := lw_g (lw_at lw_m4 114 rfl) rfl
theorem q946 : (Jvm.Cond.soleField "TollLeader$Arc" "most") ∈ lw_all := lw_g (lw_at lw_m4 115 rfl) rfl
theorem q947 : (Jvm.Cond.superclass "TollLeader$Arc" "java/lang/Record") ∈ lw_all := lw_g (lw_at lw_m4 116 rfl) rfl
theorem q979 : (Jvm.Cond.selects "TollLeader$Arc" ({ cls := "java/lang/Object", name := "getClass", desc := "()Ljava/lang/Class;" } : Jvm.MethodName) ({ cls := "java/lang/Object", name := "getClass", desc := "()Ljava/lang/Class;" } : Jvm.MethodName)) ∈ lw_all := lw_g (lw_at lw_m4 148 rfl) rfl
theorem q1305 : (Jvm.Cond.instanceMethod ({ cls := "TollLeader$Arc", name := "number", desc := "()I" } : Jvm.MethodName)) ∈ lw_all := lw_g (lw_at lw_m5 234 rfl) rfl
theorem q1306 : (Jvm.Cond.selects "TollLeader$Arc" ({ cls := "TollLeader$Arc", name := "number", desc := "()I" } : Jvm.MethodName) ({ cls := "TollLeader$Arc", name := "number", desc := "()I" } : Jvm.MethodName)) ∈ lw_all := lw_g (lw_at lw_m5 235 rfl) rfl
theorem q1307 : (Jvm.Cond.code ({ cls := "TollLeader$Arc", name := "number", desc := "()I" } : Jvm.MethodName) prog_2_method_5_code (1 : Nat) (Option.some Jvm.ClassFile.FieldType.int)) ∈ lw_all := lw_g (lw_at lw_m5 236 rfl) rfl
theorem q1328 : (Jvm.Cond.instanceMethod ({ cls := "TollLeader$Arc", name := "cost", desc := "()I" } : Jvm.MethodName)) ∈ lw_all := lw_g (lw_at lw_m6 17 rfl) rfl
theorem q1329 : (Jvm.Cond.selects "TollLeader$Arc" ({ cls := "TollLeader$Arc", name := "cost", desc := "()I" } : Jvm.MethodName) ({ cls := "TollLeader$Arc", name := "cost", desc := "()I" } : Jvm.MethodName)) ∈ lw_all := lw_g (lw_at lw_m6 18 rfl) rfl
theorem q1330 : (Jvm.Cond.code ({ cls := "TollLeader$Arc", name := "cost", desc := "()I" } : Jvm.MethodName) prog_2_method_8_code (1 : Nat) (Option.some Jvm.ClassFile.FieldType.int)) ∈ lw_all := lw_g (lw_at lw_m6 19 rfl) rfl
theorem q1356 : (Jvm.Cond.instanceMethod ({ cls := "TollLeader$Arc", name := "most", desc := "()I" } : Jvm.MethodName)) ∈ lw_all := lw_g (lw_at lw_m6 45 rfl) rfl
theorem q1357 : (Jvm.Cond.selects "TollLeader$Arc" ({ cls := "TollLeader$Arc", name := "most", desc := "()I" } : Jvm.MethodName) ({ cls := "TollLeader$Arc", name := "most", desc := "()I" } : Jvm.MethodName)) ∈ lw_all := lw_g (lw_at lw_m6 46 rfl) rfl
theorem q1358 : (Jvm.Cond.code ({ cls := "TollLeader$Arc", name := "most", desc := "()I" } : Jvm.MethodName) prog_2_method_9_code (1 : Nat) (Option.some Jvm.ClassFile.FieldType.int)) ∈ lw_all := lw_g (lw_at lw_m6 47 rfl) rfl
theorem q1363 : (Jvm.Cond.instanceMethod ({ cls := "TollLeader$Arc", name := "to", desc := "()I" } : Jvm.MethodName)) ∈ lw_all := lw_g (lw_at lw_m6 52 rfl) rfl
theorem q1364 : (Jvm.Cond.selects "TollLeader$Arc" ({ cls := "TollLeader$Arc", name := "to", desc := "()I" } : Jvm.MethodName) ({ cls := "TollLeader$Arc", name := "to", desc := "()I" } : Jvm.MethodName)) ∈ lw_all := lw_g (lw_at lw_m6 53 rfl) rfl
theorem q1365 : (Jvm.Cond.code ({ cls := "TollLeader$Arc", name := "to", desc := "()I" } : Jvm.MethodName) prog_2_method_7_code (1 : Nat) (Option.some Jvm.ClassFile.FieldType.int)) ∈ lw_all := lw_g (lw_at lw_m6 54 rfl) rfl
theorem q1367 : (Jvm.Cond.instanceMethod ({ cls := "TollLeader$Arc", name := "from", desc := "()I" } : Jvm.MethodName)) ∈ lw_all := lw_g (lw_at lw_m6 56 rfl) rfl
theorem q1368 : (Jvm.Cond.selects "TollLeader$Arc" ({ cls := "TollLeader$Arc", name := "from", desc := "()I" } : Jvm.MethodName) ({ cls := "TollLeader$Arc", name := "from", desc := "()I" } : Jvm.MethodName)) ∈ lw_all := lw_g (lw_at lw_m6 57 rfl) rfl
theorem q1369 : (Jvm.Cond.code ({ cls := "TollLeader$Arc", name := "from", desc := "()I" } : Jvm.MethodName) prog_2_method_6_code (1 : Nat) (Option.some Jvm.ClassFile.FieldType.int)) ∈ lw_all := lw_g (lw_at lw_m6 58 rfl) rfl
theorem q3070 : (Jvm.Cond.castable "TollLeader$Arc" "java/lang/Object") ∈ lw_tbl := lw_at lw_m13 79 rfl
theorem in_X8 : ∀ w ∈ wsX80, w ∈ lw_all := lw_in wsX80 [937, 939, 941, 943, 945] (by decide +kernel) (by decide +kernel)
/-! TollLeader$Trip -/
set_option maxRecDepth 100000
def RX9 : String := "TollLeader$Trip"
def TX9 : u_T := fun k => match k with
  | 0 => ("TollLeader$Trip", "from", "I", true)
  | 1 => ("TollLeader$Trip", "to", "I", true)
  | _ => ("TollLeader$Trip", "value", "I", true)
def tyX9 : Nat → FieldType := fun k => match k with
  | 0 => .int
  | 1 => .int
  | _ => .int
abbrev wsX90 : List Cond := u_ws RX9 TX9 3
theorem nmX9 : ∀ a, a < 3 → ∀ b, b < 3 → a ≠ b → (TX9 a).2.1 ≠ (TX9 b).2.1 := by decide +kernel
theorem tyX9_ok : ∀ k, k < 3 → parseFieldDescriptor (TX9 k).2.2.1 = some (tyX9 k) := by decide +kernel
abbrev cX9_init : ByteArray := prog_11_method_1_code
def yX9_init : MethodName := ⟨RX9, "<init>", "(III)V"⟩
def dkwX9_init_0 : List UInt8 := [42, 183, 0, 1, 42, 27, 181, 0, 7, 42, 28, 181, 0, 13, 42, 29, 181, 0, 16, 177]
abbrev dktX9_init_0 : List UInt8 := dkwX9_init_0 ++ []
theorem dksX9_init_0 : cX9_init.data.toList.drop 0 = dktX9_init_0 := by decide +kernel
theorem dX9_init_0 : decode cX9_init 0 = .ok (.aload_n 0, 1) := dk_42 (dk_at dksX9_init_0 0 rfl rfl)
theorem dX9_init_1 : decode cX9_init 1 = .ok (.invokespecial 1, 3) := dk_183 0 1 (dk_at dksX9_init_0 1 rfl rfl)
theorem dX9_init_4 : decode cX9_init 4 = .ok (.aload_n 0, 1) := dk_42 (dk_at dksX9_init_0 4 rfl rfl)
theorem dX9_init_5 : decode cX9_init 5 = .ok (.iload_n 1, 1) := dk_27 (dk_at dksX9_init_0 5 rfl rfl)
theorem dX9_init_6 : decode cX9_init 6 = .ok (.putfield 7, 3) := dk_181 0 7 (dk_at dksX9_init_0 6 rfl rfl)
theorem dX9_init_9 : decode cX9_init 9 = .ok (.aload_n 0, 1) := dk_42 (dk_at dksX9_init_0 9 rfl rfl)
theorem dX9_init_10 : decode cX9_init 10 = .ok (.iload_n 2, 1) := dk_28 (dk_at dksX9_init_0 10 rfl rfl)
theorem dX9_init_11 : decode cX9_init 11 = .ok (.putfield 13, 3) := dk_181 0 13 (dk_at dksX9_init_0 11 rfl rfl)
theorem dX9_init_14 : decode cX9_init 14 = .ok (.aload_n 0, 1) := dk_42 (dk_at dksX9_init_0 14 rfl rfl)
theorem dX9_init_15 : decode cX9_init 15 = .ok (.iload_n 3, 1) := dk_29 (dk_at dksX9_init_0 15 rfl rfl)
theorem dX9_init_16 : decode cX9_init 16 = .ok (.putfield 16, 3) := dk_181 0 16 (dk_at dksX9_init_0 16 rfl rfl)
theorem dX9_init_19 : decode cX9_init 19 = .ok (.return_, 1) := dk_177 (dk_at dksX9_init_0 19 rfl rfl)
abbrev cX9_to : ByteArray := prog_11_method_6_code
def yX9_to : MethodName := ⟨RX9, "to", "()I"⟩
theorem dX9_to_0 : decode cX9_to 0 = .ok (.aload_n 0, 1) := by decide +kernel
theorem dX9_to_1 : decode cX9_to 1 = .ok (.getfield 13, 3) := by decide +kernel
theorem dX9_to_4 : decode cX9_to 4 = .ok (.ireturn, 1) := by decide +kernel
abbrev cX9_value : ByteArray := prog_11_method_7_code
def yX9_value : MethodName := ⟨RX9, "value", "()I"⟩
theorem dX9_value_0 : decode cX9_value 0 = .ok (.aload_n 0, 1) := by decide +kernel
theorem dX9_value_1 : decode cX9_value 1 = .ok (.getfield 16, 3) := by decide +kernel
theorem dX9_value_4 : decode cX9_value 4 = .ok (.ireturn, 1) := by decide +kernel
abbrev cX9_from : ByteArray := prog_11_method_5_code
def yX9_from : MethodName := ⟨RX9, "from", "()I"⟩
theorem dX9_from_0 : decode cX9_from 0 = .ok (.aload_n 0, 1) := by decide +kernel
theorem dX9_from_1 : decode cX9_from 1 = .ok (.getfield 7, 3) := by decide +kernel
theorem dX9_from_4 : decode cX9_from 4 = .ok (.ireturn, 1) := by decide +kernel
theorem q143 : (Jvm.Cond.initialized "TollLeader$Trip") ∈ lw_all := lw_g (lw_at lw_m1 32 rfl) rfl
theorem q988 : (Jvm.Cond.selects "TollLeader$Trip" ({ cls := "java/lang/Object", name := "getClass", desc := "()Ljava/lang/Class;" } : Jvm.MethodName) ({ cls := "java/lang/Object", name := "getClass", desc := "()Ljava/lang/Class;" } : Jvm.MethodName)) ∈ lw_all := lw_g (lw_at lw_m4 157 rfl) rfl
theorem q1053 : (Jvm.Cond.instantiable "TollLeader$Trip" (3 : Nat)) ∈ lw_all := lw_g (lw_at lw_m4 222 rfl) rfl
theorem q1055 : (Jvm.Cond.instanceMethod ({ cls := "TollLeader$Trip", name := "<init>", desc := "(III)V" } : Jvm.MethodName)) ∈ lw_all := lw_g (lw_at lw_m4 224 rfl) rfl
theorem q1056 : (Jvm.Cond.code ({ cls := "TollLeader$Trip", name := "<init>", desc := "(III)V" } : Jvm.MethodName) prog_11_method_1_code (4 : Nat) (Option.none : Option Jvm.ClassFile.FieldType)) ∈ lw_all := lw_g (lw_at lw_m4 225 rfl) rfl
theorem q1057 : (Jvm.Cond.methodLink "TollLeader$Trip" (1 : Nat) ({ cls := "java/lang/Record", name := "<init>", desc := "()V" } : Jvm.MethodName)) ∈ lw_all := lw_g (lw_at lw_m4 226 rfl) rfl
theorem q1058 : (Jvm.Cond.fieldLink "TollLeader$Trip" (7 : Nat) "TollLeader$Trip" "from" "I") ∈ lw_all := lw_g (lw_at lw_m4 227 rfl) rfl
theorem q1059 : (Jvm.Cond.fieldLink "TollLeader$Trip" (13 : Nat) "TollLeader$Trip" "to" "I") ∈ lw_all := lw_g (lw_at lw_m4 228 rfl) rfl
theorem q1060 : (Jvm.Cond.fieldLink "TollLeader$Trip" (16 : Nat) "TollLeader$Trip" "value" "I") ∈ lw_all := lw_g (lw_at lw_m4 229 rfl) rfl
theorem q1061 : (Jvm.Cond.laysFinal "TollLeader$Trip" "TollLeader$Trip" "from" "I") ∈ lw_all := lw_g (lw_at lw_m4 230 rfl) rfl
theorem q1062 : (Jvm.Cond.soleField "TollLeader$Trip" "from") ∈ lw_all := lw_g (lw_at lw_m4 231 rfl) rfl
theorem q1063 : (Jvm.Cond.laysFinal "TollLeader$Trip" "TollLeader$Trip" "to" "I") ∈ lw_all := lw_g (lw_at lw_m4 232 rfl) rfl
theorem q1064 : (Jvm.Cond.soleField "TollLeader$Trip" "to") ∈ lw_all := lw_g (lw_at lw_m4 233 rfl) rfl
theorem q1065 : (Jvm.Cond.laysFinal "TollLeader$Trip" "TollLeader$Trip" "value" "I") ∈ lw_all := lw_g (lw_at lw_m4 234 rfl) rfl
theorem q1066 : (Jvm.Cond.soleField "TollLeader$Trip" "value") ∈ lw_all := lw_g (lw_at lw_m4 235 rfl) rfl
theorem q1067 : (Jvm.Cond.superclass "TollLeader$Trip" "java/lang/Record") ∈ lw_all := lw_g (lw_at lw_m4 236 rfl) rfl
theorem q1278 : (Jvm.Cond.instanceMethod ({ cls := "TollLeader$Trip", name := "to", desc := "()I" } : Jvm.MethodName)) ∈ lw_all := lw_g (lw_at lw_m5 207 rfl) rfl
theorem q1279 : (Jvm.Cond.selects "TollLeader$Trip" ({ cls := "TollLeader$Trip", name := "to", desc := "()I" } : Jvm.MethodName) ({ cls := "TollLeader$Trip", name := "to", desc := "()I" } : Jvm.MethodName)) ∈ lw_all := lw_g (lw_at lw_m5 208 rfl) rfl
theorem q1280 : (Jvm.Cond.code ({ cls := "TollLeader$Trip", name := "to", desc := "()I" } : Jvm.MethodName) prog_11_method_6_code (1 : Nat) (Option.some Jvm.ClassFile.FieldType.int)) ∈ lw_all := lw_g (lw_at lw_m5 209 rfl) rfl
theorem q1324 : (Jvm.Cond.instanceMethod ({ cls := "TollLeader$Trip", name := "value", desc := "()I" } : Jvm.MethodName)) ∈ lw_all := lw_g (lw_at lw_m6 13 rfl) rfl
theorem q1325 : (Jvm.Cond.selects "TollLeader$Trip" ({ cls := "TollLeader$Trip", name := "value", desc := "()I" } : Jvm.MethodName) ({ cls := "TollLeader$Trip", name := "value", desc := "()I" } : Jvm.MethodName)) ∈ lw_all := lw_g (lw_at lw_m6 14 rfl) rfl
theorem q1326 : (Jvm.Cond.code ({ cls := "TollLeader$Trip", name := "value", desc := "()I" } : Jvm.MethodName) prog_11_method_7_code (1 : Nat) (Option.some Jvm.ClassFile.FieldType.int)) ∈ lw_all := lw_g (lw_at lw_m6 15 rfl) rfl
theorem q1371 : (Jvm.Cond.instanceMethod ({ cls := "TollLeader$Trip", name := "from", desc := "()I" } : Jvm.MethodName)) ∈ lw_all := lw_g (lw_at lw_m6 60 rfl) rfl
theorem q1372 : (Jvm.Cond.selects "TollLeader$Trip" ({ cls := "TollLeader$Trip", name := "from", desc := "()I" } : Jvm.MethodName) ({ cls := "TollLeader$Trip", name := "from", desc := "()I" } : Jvm.MethodName)) ∈ lw_all := lw_g (lw_at lw_m6 61 rfl) rfl
theorem q1373 : (Jvm.Cond.code ({ cls := "TollLeader$Trip", name := "from", desc := "()I" } : Jvm.MethodName) prog_11_method_5_code (1 : Nat) (Option.some Jvm.ClassFile.FieldType.int)) ∈ lw_all := lw_g (lw_at lw_m6 62 rfl) rfl
theorem q3071 : (Jvm.Cond.castable "TollLeader$Trip" "java/lang/Object") ∈ lw_tbl := lw_at lw_m13 80 rfl
theorem in_X9 : ∀ w ∈ wsX90, w ∈ lw_all := lw_in wsX90 [1061, 1063, 1065] (by decide +kernel) (by decide +kernel)
/-! TollLeader$Weight -/
set_option maxRecDepth 100000
def RX10 : String := "TollLeader$Weight"
abbrev cX10_felt : ByteArray := prog_12_method_2_code
def yX10_felt : MethodName := ⟨RX10, "felt", "(LTollLeader$State;LTollLeader$Arc;LTollLeader$Trip;)J"⟩
def dkwX10_felt_0 : List UInt8 := [44, 182, 0, 1, 133, 43, 182, 0, 7, 133, 105, 42, 43, 182, 0, 12, 133, 97, 173]
abbrev dktX10_felt_0 : List UInt8 := dkwX10_felt_0 ++ []
theorem dksX10_felt_0 : cX10_felt.data.toList.drop 0 = dktX10_felt_0 := by decide +kernel
theorem dX10_felt_0 : decode cX10_felt 0 = .ok (.aload_n 2, 1) := dk_44 (dk_at dksX10_felt_0 0 rfl rfl)
theorem dX10_felt_1 : decode cX10_felt 1 = .ok (.invokevirtual 1, 3) := dk_182 0 1 (dk_at dksX10_felt_0 1 rfl rfl)
theorem dX10_felt_4 : decode cX10_felt 4 = .ok (.i2l, 1) := dk_133 (dk_at dksX10_felt_0 4 rfl rfl)
theorem dX10_felt_5 : decode cX10_felt 5 = .ok (.aload_n 1, 1) := dk_43 (dk_at dksX10_felt_0 5 rfl rfl)
theorem dX10_felt_6 : decode cX10_felt 6 = .ok (.invokevirtual 7, 3) := dk_182 0 7 (dk_at dksX10_felt_0 6 rfl rfl)
theorem dX10_felt_9 : decode cX10_felt 9 = .ok (.i2l, 1) := dk_133 (dk_at dksX10_felt_0 9 rfl rfl)
theorem dX10_felt_10 : decode cX10_felt 10 = .ok (.lmul, 1) := dk_105 (dk_at dksX10_felt_0 10 rfl rfl)
theorem dX10_felt_11 : decode cX10_felt 11 = .ok (.aload_n 0, 1) := dk_42 (dk_at dksX10_felt_0 11 rfl rfl)
theorem dX10_felt_12 : decode cX10_felt 12 = .ok (.aload_n 1, 1) := dk_43 (dk_at dksX10_felt_0 12 rfl rfl)
theorem dX10_felt_13 : decode cX10_felt 13 = .ok (.invokevirtual 12, 3) := dk_182 0 12 (dk_at dksX10_felt_0 13 rfl rfl)
theorem dX10_felt_16 : decode cX10_felt 16 = .ok (.i2l, 1) := dk_133 (dk_at dksX10_felt_0 16 rfl rfl)
theorem dX10_felt_17 : decode cX10_felt 17 = .ok (.ladd, 1) := dk_97 (dk_at dksX10_felt_0 17 rfl rfl)
theorem dX10_felt_18 : decode cX10_felt 18 = .ok (.lreturn, 1) := dk_173 (dk_at dksX10_felt_0 18 rfl rfl)
theorem q154 : (Jvm.Cond.initialized "TollLeader$Weight") ∈ lw_all := lw_g (lw_at lw_m1 43 rfl) rfl
theorem q1292 : (Jvm.Cond.interfaceMethod "TollLeader$Weight" "TollLeader$Weight" "of" "(LTollLeader$State;LTollLeader$Arc;LTollLeader$Trip;)J") ∈ lw_tbl := lw_at lw_m5 221 rfl
theorem q1293 : (Jvm.Cond.declares ({ cls := "TollLeader$Weight", name := "of", desc := "(LTollLeader$State;LTollLeader$Arc;LTollLeader$Trip;)J" } : Jvm.MethodName)) ∈ lw_tbl := lw_at lw_m5 222 rfl
theorem q1321 : (Jvm.Cond.static ({ cls := "TollLeader$Weight", name := "felt", desc := "(LTollLeader$State;LTollLeader$Arc;LTollLeader$Trip;)J" } : Jvm.MethodName)) ∈ lw_all := lw_g (lw_at lw_m6 10 rfl) rfl
theorem q1322 : (Jvm.Cond.code ({ cls := "TollLeader$Weight", name := "felt", desc := "(LTollLeader$State;LTollLeader$Arc;LTollLeader$Trip;)J" } : Jvm.MethodName) prog_12_method_2_code (3 : Nat) (Option.some Jvm.ClassFile.FieldType.long)) ∈ lw_all := lw_g (lw_at lw_m6 11 rfl) rfl
theorem q1323 : (Jvm.Cond.methodLink "TollLeader$Weight" (1 : Nat) ({ cls := "TollLeader$Trip", name := "value", desc := "()I" } : Jvm.MethodName)) ∈ lw_all := lw_g (lw_at lw_m6 12 rfl) rfl
theorem q1327 : (Jvm.Cond.methodLink "TollLeader$Weight" (7 : Nat) ({ cls := "TollLeader$Arc", name := "cost", desc := "()I" } : Jvm.MethodName)) ∈ lw_all := lw_g (lw_at lw_m6 16 rfl) rfl
theorem q1331 : (Jvm.Cond.methodLink "TollLeader$Weight" (12 : Nat) ({ cls := "TollLeader$State", name := "toll", desc := "(LTollLeader$Arc;)I" } : Jvm.MethodName)) ∈ lw_all := lw_g (lw_at lw_m6 20 rfl) rfl
/-! TollLeader$Trial -/
set_option maxRecDepth 100000
def RX11 : String := "TollLeader$Trial"
def TX11 : u_T := fun k => match k with
  | 0 => ("TollLeader$Trial", "arc", "LTollLeader$Arc;", true)
  | 1 => ("TollLeader$Trial", "best", "I", false)
  | 2 => ("TollLeader$Trial", "most", "J", false)
  | _ => ("TollLeader$Trial", "this$0", "LTollLeader;", true)
def tyX11 : Nat → FieldType := fun k => match k with
  | 0 => .object "TollLeader$Arc"
  | 1 => .int
  | 2 => .long
  | _ => .object "TollLeader"
abbrev wsX110 : List Cond := u_ws RX11 TX11 4
theorem nmX11 : ∀ a, a < 4 → ∀ b, b < 4 → a ≠ b → (TX11 a).2.1 ≠ (TX11 b).2.1 := by decide +kernel
theorem tyX11_ok : ∀ k, k < 4 → parseFieldDescriptor (TX11 k).2.2.1 = some (tyX11 k) := by decide +kernel
abbrev cX11_init : ByteArray := prog_10_method_1_code
def yX11_init : MethodName := ⟨RX11, "<init>", "(LTollLeader;LTollLeader$Arc;)V"⟩
def dkwX11_init_4 : List UInt8 := [21, 4, 4, 96, 182, 0, 29, 132, 3, 1, 167, 255, 194, 177]
abbrev dktX11_init_4 : List UInt8 := dkwX11_init_4 ++ []
def dkwX11_init_3 : List UInt8 := [2, 160, 0, 6, 167, 0, 26, 42, 21, 4, 182, 0, 29, 21, 4, 44, 182, 0, 33, 162, 0, 11, 42]
abbrev dktX11_init_3 : List UInt8 := dkwX11_init_3 ++ dktX11_init_4
def dkwX11_init_2 : List UInt8 := [180, 0, 42, 180, 0, 48, 185, 0, 54, 1, 0, 162, 0, 49, 43, 29, 44, 182, 0, 59, 54, 4, 21, 4]
abbrev dktX11_init_2 : List UInt8 := dkwX11_init_2 ++ dktX11_init_3
def dkwX11_init_1 : List UInt8 := [181, 0, 25, 42, 3, 182, 0, 29, 42, 44, 182, 0, 33, 182, 0, 29, 3, 62, 29, 43, 180, 0, 38]
abbrev dktX11_init_1 : List UInt8 := dkwX11_init_1 ++ dktX11_init_2
def dkwX11_init_0 : List UInt8 := [42, 43, 181, 0, 3, 42, 183, 0, 9, 42, 2, 181, 0, 15, 42, 20, 0, 19, 181, 0, 21, 42, 44]
abbrev dktX11_init_0 : List UInt8 := dkwX11_init_0 ++ dktX11_init_1
theorem dksX11_init_0 : cX11_init.data.toList.drop 0 = dktX11_init_0 := by decide +kernel
theorem dksX11_init_1 : cX11_init.data.toList.drop 23 = dktX11_init_1 := dk_seg dksX11_init_0 23 rfl rfl
theorem dksX11_init_2 : cX11_init.data.toList.drop 46 = dktX11_init_2 := dk_seg dksX11_init_1 23 rfl rfl
theorem dksX11_init_3 : cX11_init.data.toList.drop 70 = dktX11_init_3 := dk_seg dksX11_init_2 24 rfl rfl
theorem dksX11_init_4 : cX11_init.data.toList.drop 93 = dktX11_init_4 := dk_seg dksX11_init_3 23 rfl rfl
theorem dX11_init_0 : decode cX11_init 0 = .ok (.aload_n 0, 1) := dk_42 (dk_at dksX11_init_0 0 rfl rfl)
theorem dX11_init_1 : decode cX11_init 1 = .ok (.aload_n 1, 1) := dk_43 (dk_at dksX11_init_0 1 rfl rfl)
theorem dX11_init_2 : decode cX11_init 2 = .ok (.putfield 3, 3) := dk_181 0 3 (dk_at dksX11_init_0 2 rfl rfl)
theorem dX11_init_5 : decode cX11_init 5 = .ok (.aload_n 0, 1) := dk_42 (dk_at dksX11_init_0 5 rfl rfl)
theorem dX11_init_6 : decode cX11_init 6 = .ok (.invokespecial 9, 3) := dk_183 0 9 (dk_at dksX11_init_0 6 rfl rfl)
theorem dX11_init_9 : decode cX11_init 9 = .ok (.aload_n 0, 1) := dk_42 (dk_at dksX11_init_0 9 rfl rfl)
theorem dX11_init_10 : decode cX11_init 10 = .ok (.iconst (-1), 1) := dk_2 (dk_at dksX11_init_0 10 rfl rfl)
theorem dX11_init_11 : decode cX11_init 11 = .ok (.putfield 15, 3) := dk_181 0 15 (dk_at dksX11_init_0 11 rfl rfl)
theorem dX11_init_14 : decode cX11_init 14 = .ok (.aload_n 0, 1) := dk_42 (dk_at dksX11_init_0 14 rfl rfl)
theorem dX11_init_15 : decode cX11_init 15 = .ok (.ldc2_w 19, 3) := dk_20 0 19 (dk_at dksX11_init_0 15 rfl rfl)
theorem dX11_init_18 : decode cX11_init 18 = .ok (.putfield 21, 3) := dk_181 0 21 (dk_at dksX11_init_0 18 rfl rfl)
theorem dX11_init_21 : decode cX11_init 21 = .ok (.aload_n 0, 1) := dk_42 (dk_at dksX11_init_0 21 rfl rfl)
theorem dX11_init_22 : decode cX11_init 22 = .ok (.aload_n 2, 1) := dk_44 (dk_at dksX11_init_0 22 rfl rfl)
theorem dX11_init_23 : decode cX11_init 23 = .ok (.putfield 25, 3) := dk_181 0 25 (dk_at dksX11_init_1 0 rfl rfl)
theorem dX11_init_26 : decode cX11_init 26 = .ok (.aload_n 0, 1) := dk_42 (dk_at dksX11_init_1 3 rfl rfl)
theorem dX11_init_27 : decode cX11_init 27 = .ok (.iconst 0, 1) := dk_3 (dk_at dksX11_init_1 4 rfl rfl)
theorem dX11_init_28 : decode cX11_init 28 = .ok (.invokevirtual 29, 3) := dk_182 0 29 (dk_at dksX11_init_1 5 rfl rfl)
theorem dX11_init_31 : decode cX11_init 31 = .ok (.aload_n 0, 1) := dk_42 (dk_at dksX11_init_1 8 rfl rfl)
theorem dX11_init_32 : decode cX11_init 32 = .ok (.aload_n 2, 1) := dk_44 (dk_at dksX11_init_1 9 rfl rfl)
theorem dX11_init_33 : decode cX11_init 33 = .ok (.invokevirtual 33, 3) := dk_182 0 33 (dk_at dksX11_init_1 10 rfl rfl)
theorem dX11_init_36 : decode cX11_init 36 = .ok (.invokevirtual 29, 3) := dk_182 0 29 (dk_at dksX11_init_1 13 rfl rfl)
theorem dX11_init_39 : decode cX11_init 39 = .ok (.iconst 0, 1) := dk_3 (dk_at dksX11_init_1 16 rfl rfl)
theorem dX11_init_40 : decode cX11_init 40 = .ok (.istore_n 3, 1) := dk_62 (dk_at dksX11_init_1 17 rfl rfl)
theorem dX11_init_41 : decode cX11_init 41 = .ok (.iload_n 3, 1) := dk_29 (dk_at dksX11_init_1 18 rfl rfl)
theorem dX11_init_42 : decode cX11_init 42 = .ok (.aload_n 1, 1) := dk_43 (dk_at dksX11_init_1 19 rfl rfl)
theorem dX11_init_43 : decode cX11_init 43 = .ok (.getfield 38, 3) := dk_180 0 38 (dk_at dksX11_init_1 20 rfl rfl)
theorem dX11_init_46 : decode cX11_init 46 = .ok (.getfield 42, 3) := dk_180 0 42 (dk_at dksX11_init_2 0 rfl rfl)
theorem dX11_init_49 : decode cX11_init 49 = .ok (.getfield 48, 3) := dk_180 0 48 (dk_at dksX11_init_2 3 rfl rfl)
theorem dX11_init_52 : decode cX11_init 52 = .ok (.invokeinterface 54 1, 5) := by decide +kernel
theorem dX11_init_57 : decode cX11_init 57 = .ok (.if_icmp .ge 49, 3) := dk_162 0 49 (dk_at dksX11_init_2 11 rfl rfl)
theorem dX11_init_60 : decode cX11_init 60 = .ok (.aload_n 1, 1) := dk_43 (dk_at dksX11_init_2 14 rfl rfl)
theorem dX11_init_61 : decode cX11_init 61 = .ok (.iload_n 3, 1) := dk_29 (dk_at dksX11_init_2 15 rfl rfl)
theorem dX11_init_62 : decode cX11_init 62 = .ok (.aload_n 2, 1) := dk_44 (dk_at dksX11_init_2 16 rfl rfl)
theorem dX11_init_63 : decode cX11_init 63 = .ok (.invokevirtual 59, 3) := dk_182 0 59 (dk_at dksX11_init_2 17 rfl rfl)
theorem dX11_init_66 : decode cX11_init 66 = .ok (.istore 4, 2) := dk_54 4 (dk_at dksX11_init_2 20 rfl rfl)
theorem dX11_init_68 : decode cX11_init 68 = .ok (.iload 4, 2) := dk_21 4 (dk_at dksX11_init_2 22 rfl rfl)
theorem dX11_init_70 : decode cX11_init 70 = .ok (.iconst (-1), 1) := dk_2 (dk_at dksX11_init_3 0 rfl rfl)
theorem dX11_init_71 : decode cX11_init 71 = .ok (.if_icmp .ne 6, 3) := dk_160 0 6 (dk_at dksX11_init_3 1 rfl rfl)
theorem dX11_init_74 : decode cX11_init 74 = .ok (.goto 26, 3) := dk_167 0 26 (dk_at dksX11_init_3 4 rfl rfl)
theorem dX11_init_77 : decode cX11_init 77 = .ok (.aload_n 0, 1) := dk_42 (dk_at dksX11_init_3 7 rfl rfl)
theorem dX11_init_78 : decode cX11_init 78 = .ok (.iload 4, 2) := dk_21 4 (dk_at dksX11_init_3 8 rfl rfl)
theorem dX11_init_80 : decode cX11_init 80 = .ok (.invokevirtual 29, 3) := dk_182 0 29 (dk_at dksX11_init_3 10 rfl rfl)
theorem dX11_init_83 : decode cX11_init 83 = .ok (.iload 4, 2) := dk_21 4 (dk_at dksX11_init_3 13 rfl rfl)
theorem dX11_init_85 : decode cX11_init 85 = .ok (.aload_n 2, 1) := dk_44 (dk_at dksX11_init_3 15 rfl rfl)
theorem dX11_init_86 : decode cX11_init 86 = .ok (.invokevirtual 33, 3) := dk_182 0 33 (dk_at dksX11_init_3 16 rfl rfl)
theorem dX11_init_89 : decode cX11_init 89 = .ok (.if_icmp .ge 11, 3) := dk_162 0 11 (dk_at dksX11_init_3 19 rfl rfl)
theorem dX11_init_92 : decode cX11_init 92 = .ok (.aload_n 0, 1) := dk_42 (dk_at dksX11_init_3 22 rfl rfl)
theorem dX11_init_93 : decode cX11_init 93 = .ok (.iload 4, 2) := dk_21 4 (dk_at dksX11_init_4 0 rfl rfl)
theorem dX11_init_95 : decode cX11_init 95 = .ok (.iconst 1, 1) := dk_4 (dk_at dksX11_init_4 2 rfl rfl)
theorem dX11_init_96 : decode cX11_init 96 = .ok (.iadd, 1) := dk_96 (dk_at dksX11_init_4 3 rfl rfl)
theorem dX11_init_97 : decode cX11_init 97 = .ok (.invokevirtual 29, 3) := dk_182 0 29 (dk_at dksX11_init_4 4 rfl rfl)
theorem dX11_init_100 : decode cX11_init 100 = .ok (.iinc 3 1, 3) := dk_132 3 1 (dk_at dksX11_init_4 7 rfl rfl)
theorem dX11_init_103 : decode cX11_init 103 = .ok (.goto (-62), 3) := dk_167 255 194 (dk_at dksX11_init_4 10 rfl rfl)
theorem dX11_init_106 : decode cX11_init 106 = .ok (.return_, 1) := dk_177 (dk_at dksX11_init_4 13 rfl rfl)
abbrev cX11_offer : ByteArray := prog_10_method_2_code
def yX11_offer : MethodName := ⟨RX11, "offer", "(I)V"⟩
def dkwX11_offer_4 : List UInt8 := [33, 181, 0, 21, 177]
abbrev dktX11_offer_4 : List UInt8 := dkwX11_offer_4 ++ []
def dkwX11_offer_3 : List UInt8 := [33, 42, 180, 0, 21, 148, 154, 0, 12, 27, 42, 180, 0, 15, 161, 0, 4, 177, 42, 27, 181, 0, 15, 42]
abbrev dktX11_offer_3 : List UInt8 := dkwX11_offer_3 ++ dktX11_offer_4
def dkwX11_offer_2 : List UInt8 := [180, 0, 38, 180, 0, 67, 42, 180, 0, 25, 182, 0, 71, 28, 79, 33, 42, 180, 0, 21, 148, 155, 0, 20]
abbrev dktX11_offer_2 : List UInt8 := dkwX11_offer_2 ++ dktX11_offer_3
def dkwX11_offer_1 : List UInt8 := [180, 0, 67, 42, 180, 0, 25, 182, 0, 71, 27, 79, 42, 180, 0, 3, 182, 0, 74, 66, 42, 180, 0, 3]
abbrev dktX11_offer_1 : List UInt8 := dkwX11_offer_1 ++ dktX11_offer_2
def dkwX11_offer_0 : List UInt8 := [42, 180, 0, 3, 180, 0, 38, 42, 180, 0, 25, 182, 0, 63, 61, 42, 180, 0, 3, 180, 0, 38]
abbrev dktX11_offer_0 : List UInt8 := dkwX11_offer_0 ++ dktX11_offer_1
theorem dksX11_offer_0 : cX11_offer.data.toList.drop 0 = dktX11_offer_0 := by decide +kernel
theorem dksX11_offer_1 : cX11_offer.data.toList.drop 22 = dktX11_offer_1 := dk_seg dksX11_offer_0 22 rfl rfl
theorem dksX11_offer_2 : cX11_offer.data.toList.drop 46 = dktX11_offer_2 := dk_seg dksX11_offer_1 24 rfl rfl
theorem dksX11_offer_3 : cX11_offer.data.toList.drop 70 = dktX11_offer_3 := dk_seg dksX11_offer_2 24 rfl rfl
theorem dksX11_offer_4 : cX11_offer.data.toList.drop 94 = dktX11_offer_4 := dk_seg dksX11_offer_3 24 rfl rfl
theorem dX11_offer_0 : decode cX11_offer 0 = .ok (.aload_n 0, 1) := dk_42 (dk_at dksX11_offer_0 0 rfl rfl)
theorem dX11_offer_1 : decode cX11_offer 1 = .ok (.getfield 3, 3) := dk_180 0 3 (dk_at dksX11_offer_0 1 rfl rfl)
theorem dX11_offer_4 : decode cX11_offer 4 = .ok (.getfield 38, 3) := dk_180 0 38 (dk_at dksX11_offer_0 4 rfl rfl)
theorem dX11_offer_7 : decode cX11_offer 7 = .ok (.aload_n 0, 1) := dk_42 (dk_at dksX11_offer_0 7 rfl rfl)
theorem dX11_offer_8 : decode cX11_offer 8 = .ok (.getfield 25, 3) := dk_180 0 25 (dk_at dksX11_offer_0 8 rfl rfl)
theorem dX11_offer_11 : decode cX11_offer 11 = .ok (.invokevirtual 63, 3) := dk_182 0 63 (dk_at dksX11_offer_0 11 rfl rfl)
theorem dX11_offer_14 : decode cX11_offer 14 = .ok (.istore_n 2, 1) := dk_61 (dk_at dksX11_offer_0 14 rfl rfl)
theorem dX11_offer_15 : decode cX11_offer 15 = .ok (.aload_n 0, 1) := dk_42 (dk_at dksX11_offer_0 15 rfl rfl)
theorem dX11_offer_16 : decode cX11_offer 16 = .ok (.getfield 3, 3) := dk_180 0 3 (dk_at dksX11_offer_0 16 rfl rfl)
theorem dX11_offer_19 : decode cX11_offer 19 = .ok (.getfield 38, 3) := dk_180 0 38 (dk_at dksX11_offer_0 19 rfl rfl)
theorem dX11_offer_22 : decode cX11_offer 22 = .ok (.getfield 67, 3) := dk_180 0 67 (dk_at dksX11_offer_1 0 rfl rfl)
theorem dX11_offer_25 : decode cX11_offer 25 = .ok (.aload_n 0, 1) := dk_42 (dk_at dksX11_offer_1 3 rfl rfl)
theorem dX11_offer_26 : decode cX11_offer 26 = .ok (.getfield 25, 3) := dk_180 0 25 (dk_at dksX11_offer_1 4 rfl rfl)
theorem dX11_offer_29 : decode cX11_offer 29 = .ok (.invokevirtual 71, 3) := dk_182 0 71 (dk_at dksX11_offer_1 7 rfl rfl)
theorem dX11_offer_32 : decode cX11_offer 32 = .ok (.iload_n 1, 1) := dk_27 (dk_at dksX11_offer_1 10 rfl rfl)
theorem dX11_offer_33 : decode cX11_offer 33 = .ok (.iastore, 1) := dk_79 (dk_at dksX11_offer_1 11 rfl rfl)
theorem dX11_offer_34 : decode cX11_offer 34 = .ok (.aload_n 0, 1) := dk_42 (dk_at dksX11_offer_1 12 rfl rfl)
theorem dX11_offer_35 : decode cX11_offer 35 = .ok (.getfield 3, 3) := dk_180 0 3 (dk_at dksX11_offer_1 13 rfl rfl)
theorem dX11_offer_38 : decode cX11_offer 38 = .ok (.invokevirtual 74, 3) := dk_182 0 74 (dk_at dksX11_offer_1 16 rfl rfl)
theorem dX11_offer_41 : decode cX11_offer 41 = .ok (.lstore_n 3, 1) := dk_66 (dk_at dksX11_offer_1 19 rfl rfl)
theorem dX11_offer_42 : decode cX11_offer 42 = .ok (.aload_n 0, 1) := dk_42 (dk_at dksX11_offer_1 20 rfl rfl)
theorem dX11_offer_43 : decode cX11_offer 43 = .ok (.getfield 3, 3) := dk_180 0 3 (dk_at dksX11_offer_1 21 rfl rfl)
theorem dX11_offer_46 : decode cX11_offer 46 = .ok (.getfield 38, 3) := dk_180 0 38 (dk_at dksX11_offer_2 0 rfl rfl)
theorem dX11_offer_49 : decode cX11_offer 49 = .ok (.getfield 67, 3) := dk_180 0 67 (dk_at dksX11_offer_2 3 rfl rfl)
theorem dX11_offer_52 : decode cX11_offer 52 = .ok (.aload_n 0, 1) := dk_42 (dk_at dksX11_offer_2 6 rfl rfl)
theorem dX11_offer_53 : decode cX11_offer 53 = .ok (.getfield 25, 3) := dk_180 0 25 (dk_at dksX11_offer_2 7 rfl rfl)
theorem dX11_offer_56 : decode cX11_offer 56 = .ok (.invokevirtual 71, 3) := dk_182 0 71 (dk_at dksX11_offer_2 10 rfl rfl)
theorem dX11_offer_59 : decode cX11_offer 59 = .ok (.iload_n 2, 1) := dk_28 (dk_at dksX11_offer_2 13 rfl rfl)
theorem dX11_offer_60 : decode cX11_offer 60 = .ok (.iastore, 1) := dk_79 (dk_at dksX11_offer_2 14 rfl rfl)
theorem dX11_offer_61 : decode cX11_offer 61 = .ok (.lload_n 3, 1) := dk_33 (dk_at dksX11_offer_2 15 rfl rfl)
theorem dX11_offer_62 : decode cX11_offer 62 = .ok (.aload_n 0, 1) := dk_42 (dk_at dksX11_offer_2 16 rfl rfl)
theorem dX11_offer_63 : decode cX11_offer 63 = .ok (.getfield 21, 3) := dk_180 0 21 (dk_at dksX11_offer_2 17 rfl rfl)
theorem dX11_offer_66 : decode cX11_offer 66 = .ok (.lcmp, 1) := dk_148 (dk_at dksX11_offer_2 20 rfl rfl)
theorem dX11_offer_67 : decode cX11_offer 67 = .ok (.ifCond .lt 20, 3) := dk_155 0 20 (dk_at dksX11_offer_2 21 rfl rfl)
theorem dX11_offer_70 : decode cX11_offer 70 = .ok (.lload_n 3, 1) := dk_33 (dk_at dksX11_offer_3 0 rfl rfl)
theorem dX11_offer_71 : decode cX11_offer 71 = .ok (.aload_n 0, 1) := dk_42 (dk_at dksX11_offer_3 1 rfl rfl)
theorem dX11_offer_72 : decode cX11_offer 72 = .ok (.getfield 21, 3) := dk_180 0 21 (dk_at dksX11_offer_3 2 rfl rfl)
theorem dX11_offer_75 : decode cX11_offer 75 = .ok (.lcmp, 1) := dk_148 (dk_at dksX11_offer_3 5 rfl rfl)
theorem dX11_offer_76 : decode cX11_offer 76 = .ok (.ifCond .ne 12, 3) := dk_154 0 12 (dk_at dksX11_offer_3 6 rfl rfl)
theorem dX11_offer_79 : decode cX11_offer 79 = .ok (.iload_n 1, 1) := dk_27 (dk_at dksX11_offer_3 9 rfl rfl)
theorem dX11_offer_80 : decode cX11_offer 80 = .ok (.aload_n 0, 1) := dk_42 (dk_at dksX11_offer_3 10 rfl rfl)
theorem dX11_offer_81 : decode cX11_offer 81 = .ok (.getfield 15, 3) := dk_180 0 15 (dk_at dksX11_offer_3 11 rfl rfl)
theorem dX11_offer_84 : decode cX11_offer 84 = .ok (.if_icmp .lt 4, 3) := dk_161 0 4 (dk_at dksX11_offer_3 14 rfl rfl)
theorem dX11_offer_87 : decode cX11_offer 87 = .ok (.return_, 1) := dk_177 (dk_at dksX11_offer_3 17 rfl rfl)
theorem dX11_offer_88 : decode cX11_offer 88 = .ok (.aload_n 0, 1) := dk_42 (dk_at dksX11_offer_3 18 rfl rfl)
theorem dX11_offer_89 : decode cX11_offer 89 = .ok (.iload_n 1, 1) := dk_27 (dk_at dksX11_offer_3 19 rfl rfl)
theorem dX11_offer_90 : decode cX11_offer 90 = .ok (.putfield 15, 3) := dk_181 0 15 (dk_at dksX11_offer_3 20 rfl rfl)
theorem dX11_offer_93 : decode cX11_offer 93 = .ok (.aload_n 0, 1) := dk_42 (dk_at dksX11_offer_3 23 rfl rfl)
theorem dX11_offer_94 : decode cX11_offer 94 = .ok (.lload_n 3, 1) := dk_33 (dk_at dksX11_offer_4 0 rfl rfl)
theorem dX11_offer_95 : decode cX11_offer 95 = .ok (.putfield 21, 3) := dk_181 0 21 (dk_at dksX11_offer_4 1 rfl rfl)
theorem dX11_offer_98 : decode cX11_offer 98 = .ok (.return_, 1) := dk_177 (dk_at dksX11_offer_4 4 rfl rfl)
theorem q157 : (Jvm.Cond.initialized "TollLeader$Trial") ∈ lw_all := lw_g (lw_at lw_m1 46 rfl) rfl
theorem q541 : (Jvm.Cond.fieldLinkNest "TollLeader$Trial" (48 : Nat) "TollLeader$Net" "trips" "Ljava/util/List;" "TollLeader") ∈ lw_tbl := lw_at lw_m2 190 rfl
theorem q587 : (Jvm.Cond.fieldLinkNest "TollLeader$Trial" (42 : Nat) "TollLeader$State" "net" "LTollLeader$Net;" "TollLeader") ∈ lw_tbl := lw_at lw_m2 236 rfl
theorem q591 : (Jvm.Cond.fieldLinkNest "TollLeader$Trial" (67 : Nat) "TollLeader$State" "tolls" "[I" "TollLeader") ∈ lw_tbl := lw_at lw_m3 0 rfl
theorem q663 : (Jvm.Cond.fieldLinkNest "TollLeader$Trial" (38 : Nat) "TollLeader" "state" "LTollLeader$State;" "TollLeader") ∈ lw_tbl := lw_at lw_m3 72 rfl
theorem q987 : (Jvm.Cond.selects "TollLeader$Trial" ({ cls := "java/lang/Object", name := "getClass", desc := "()Ljava/lang/Class;" } : Jvm.MethodName) ({ cls := "java/lang/Object", name := "getClass", desc := "()Ljava/lang/Class;" } : Jvm.MethodName)) ∈ lw_all := lw_g (lw_at lw_m4 156 rfl) rfl
theorem q1771 : (Jvm.Cond.instantiable "TollLeader$Trial" (4 : Nat)) ∈ lw_all := lw_g (lw_at lw_m7 220 rfl) rfl
theorem q1773 : (Jvm.Cond.instanceMethod ({ cls := "TollLeader$Trial", name := "<init>", desc := "(LTollLeader;LTollLeader$Arc;)V" } : Jvm.MethodName)) ∈ lw_all := lw_g (lw_at lw_m7 222 rfl) rfl
theorem q1774 : (Jvm.Cond.code ({ cls := "TollLeader$Trial", name := "<init>", desc := "(LTollLeader;LTollLeader$Arc;)V" } : Jvm.MethodName) prog_10_method_1_code (5 : Nat) (Option.none : Option Jvm.ClassFile.FieldType)) ∈ lw_all := lw_g (lw_at lw_m7 223 rfl) rfl
theorem q1775 : (Jvm.Cond.methodLink "TollLeader$Trial" (9 : Nat) ({ cls := "java/lang/Object", name := "<init>", desc := "()V" } : Jvm.MethodName)) ∈ lw_all := lw_g (lw_at lw_m7 224 rfl) rfl
theorem q1776 : (Jvm.Cond.constantLong "TollLeader$Trial" (19 : Nat) (-1 : Int64)) ∈ lw_all := lw_g (lw_at lw_m7 225 rfl) rfl
theorem q1777 : (Jvm.Cond.methodLink "TollLeader$Trial" (29 : Nat) ({ cls := "TollLeader$Trial", name := "offer", desc := "(I)V" } : Jvm.MethodName)) ∈ lw_all := lw_g (lw_at lw_m7 226 rfl) rfl
theorem q1778 : (Jvm.Cond.privateMethod ({ cls := "TollLeader$Trial", name := "offer", desc := "(I)V" } : Jvm.MethodName)) ∈ lw_tbl := lw_at lw_m7 227 rfl
theorem q1779 : (Jvm.Cond.instanceMethod ({ cls := "TollLeader$Trial", name := "offer", desc := "(I)V" } : Jvm.MethodName)) ∈ lw_all := lw_g (lw_at lw_m7 228 rfl) rfl
theorem q1780 : (Jvm.Cond.code ({ cls := "TollLeader$Trial", name := "offer", desc := "(I)V" } : Jvm.MethodName) prog_10_method_2_code (5 : Nat) (Option.none : Option Jvm.ClassFile.FieldType)) ∈ lw_all := lw_g (lw_at lw_m7 229 rfl) rfl
theorem q1781 : (Jvm.Cond.methodLink "TollLeader$Trial" (63 : Nat) ({ cls := "TollLeader$State", name := "toll", desc := "(LTollLeader$Arc;)I" } : Jvm.MethodName)) ∈ lw_all := lw_g (lw_at lw_m7 230 rfl) rfl
theorem q1782 : (Jvm.Cond.methodLink "TollLeader$Trial" (71 : Nat) ({ cls := "TollLeader$Arc", name := "number", desc := "()I" } : Jvm.MethodName)) ∈ lw_all := lw_g (lw_at lw_m7 231 rfl) rfl
theorem q1783 : (Jvm.Cond.methodLinkNest "TollLeader$Trial" (74 : Nat) ({ cls := "TollLeader", name := "brought", desc := "()J" } : Jvm.MethodName) "TollLeader") ∈ lw_tbl := lw_at lw_m7 232 rfl
theorem q1784 : (Jvm.Cond.methodLink "TollLeader$Trial" (33 : Nat) ({ cls := "TollLeader$Arc", name := "most", desc := "()I" } : Jvm.MethodName)) ∈ lw_all := lw_g (lw_at lw_m7 233 rfl) rfl
theorem q1785 : (Jvm.Cond.interfaceEntry "TollLeader$Trial" (54 : Nat)) ∈ lw_tbl := lw_at lw_m7 234 rfl
theorem q1786 : (Jvm.Cond.methodLink "TollLeader$Trial" (54 : Nat) ({ cls := "java/util/List", name := "size", desc := "()I" } : Jvm.MethodName)) ∈ lw_all := lw_g (lw_at lw_m7 235 rfl) rfl
theorem q1787 : (Jvm.Cond.methodLinkNest "TollLeader$Trial" (59 : Nat) ({ cls := "TollLeader", name := "kept", desc := "(ILTollLeader$Arc;)I" } : Jvm.MethodName) "TollLeader") ∈ lw_tbl := lw_at lw_m7 236 rfl
theorem q1796 : (Jvm.Cond.fieldLink "TollLeader$Trial" (25 : Nat) "TollLeader$Trial" "arc" "LTollLeader$Arc;") ∈ lw_all := lw_g (lw_at lw_m8 5 rfl) rfl
theorem q1797 : (Jvm.Cond.fieldLink "TollLeader$Trial" (15 : Nat) "TollLeader$Trial" "best" "I") ∈ lw_all := lw_g (lw_at lw_m8 6 rfl) rfl
theorem q1799 : (Jvm.Cond.fieldLink "TollLeader$Trial" (21 : Nat) "TollLeader$Trial" "most" "J") ∈ lw_all := lw_g (lw_at lw_m8 8 rfl) rfl
theorem q1801 : (Jvm.Cond.fieldLink "TollLeader$Trial" (3 : Nat) "TollLeader$Trial" "this$0" "LTollLeader;") ∈ lw_all := lw_g (lw_at lw_m8 10 rfl) rfl
theorem q1802 : (Jvm.Cond.laysFinal "TollLeader$Trial" "TollLeader$Trial" "arc" "LTollLeader$Arc;") ∈ lw_all := lw_g (lw_at lw_m8 11 rfl) rfl
theorem q1803 : (Jvm.Cond.soleField "TollLeader$Trial" "arc") ∈ lw_all := lw_g (lw_at lw_m8 12 rfl) rfl
theorem q1804 : (Jvm.Cond.lays "TollLeader$Trial" "TollLeader$Trial" "best" "I") ∈ lw_all := lw_g (lw_at lw_m8 13 rfl) rfl
theorem q1805 : (Jvm.Cond.soleField "TollLeader$Trial" "best") ∈ lw_all := lw_g (lw_at lw_m8 14 rfl) rfl
theorem q1806 : (Jvm.Cond.lays "TollLeader$Trial" "TollLeader$Trial" "most" "J") ∈ lw_all := lw_g (lw_at lw_m8 15 rfl) rfl
theorem q1807 : (Jvm.Cond.soleField "TollLeader$Trial" "most") ∈ lw_all := lw_g (lw_at lw_m8 16 rfl) rfl
theorem q1808 : (Jvm.Cond.laysFinal "TollLeader$Trial" "TollLeader$Trial" "this$0" "LTollLeader;") ∈ lw_all := lw_g (lw_at lw_m8 17 rfl) rfl
theorem q1809 : (Jvm.Cond.soleField "TollLeader$Trial" "this$0") ∈ lw_all := lw_g (lw_at lw_m8 18 rfl) rfl
theorem q1810 : (Jvm.Cond.superclass "TollLeader$Trial" "java/lang/Object") ∈ lw_all := lw_g (lw_at lw_m8 19 rfl) rfl
theorem q3084 : (Jvm.Cond.castable "TollLeader$Trial" "java/lang/Object") ∈ lw_tbl := lw_at lw_m13 93 rfl
theorem in_X11 : ∀ w ∈ wsX110, w ∈ lw_all := lw_in wsX110 [1802, 1804, 1806, 1808] (by decide +kernel) (by decide +kernel)
/-! TollLeader$Net$1 -/
set_option maxRecDepth 100000
def RX12 : String := "TollLeader$Net$1"
def TX12 : u_T := fun k => match k with
  | 0 => ("TollLeader$Net$1", "val$some", "Ljava/util/BitSet;", true)
  | _ => ("TollLeader$Net$1", "this$0", "LTollLeader$Net;", true)
def tyX12 : Nat → FieldType := fun k => match k with
  | 0 => .object "java/util/BitSet"
  | _ => .object "TollLeader$Net"
abbrev wsX120 : List Cond := u_ws RX12 TX12 2
theorem nmX12 : ∀ a, a < 2 → ∀ b, b < 2 → a ≠ b → (TX12 a).2.1 ≠ (TX12 b).2.1 := by decide +kernel
theorem tyX12_ok : ∀ k, k < 2 → parseFieldDescriptor (TX12 k).2.2.1 = some (tyX12 k) := by decide +kernel
abbrev cX12_init : ByteArray := prog_6_method_1_code
def yX12_init : MethodName := ⟨RX12, "<init>", "(LTollLeader$Net;Ljava/util/BitSet;)V"⟩
def dkwX12_init_0 : List UInt8 := [42, 43, 181, 0, 1, 42, 44, 181, 0, 7, 42, 183, 0, 11, 177]
abbrev dktX12_init_0 : List UInt8 := dkwX12_init_0 ++ []
theorem dksX12_init_0 : cX12_init.data.toList.drop 0 = dktX12_init_0 := by decide +kernel
theorem dX12_init_0 : decode cX12_init 0 = .ok (.aload_n 0, 1) := dk_42 (dk_at dksX12_init_0 0 rfl rfl)
theorem dX12_init_1 : decode cX12_init 1 = .ok (.aload_n 1, 1) := dk_43 (dk_at dksX12_init_0 1 rfl rfl)
theorem dX12_init_2 : decode cX12_init 2 = .ok (.putfield 1, 3) := dk_181 0 1 (dk_at dksX12_init_0 2 rfl rfl)
theorem dX12_init_5 : decode cX12_init 5 = .ok (.aload_n 0, 1) := dk_42 (dk_at dksX12_init_0 5 rfl rfl)
theorem dX12_init_6 : decode cX12_init 6 = .ok (.aload_n 2, 1) := dk_44 (dk_at dksX12_init_0 6 rfl rfl)
theorem dX12_init_7 : decode cX12_init 7 = .ok (.putfield 7, 3) := dk_181 0 7 (dk_at dksX12_init_0 7 rfl rfl)
theorem dX12_init_10 : decode cX12_init 10 = .ok (.aload_n 0, 1) := dk_42 (dk_at dksX12_init_0 10 rfl rfl)
theorem dX12_init_11 : decode cX12_init 11 = .ok (.invokespecial 11, 3) := dk_183 0 11 (dk_at dksX12_init_0 11 rfl rfl)
theorem dX12_init_14 : decode cX12_init 14 = .ok (.return_, 1) := dk_177 (dk_at dksX12_init_0 14 rfl rfl)
abbrev cX12_iterator : ByteArray := prog_6_method_2_code
def yX12_iterator : MethodName := ⟨RX12, "iterator", "()Ljava/util/Iterator;"⟩
def dkwX12_iterator_0 : List UInt8 := [42, 180, 0, 1, 42, 180, 0, 7, 182, 0, 17, 176]
abbrev dktX12_iterator_0 : List UInt8 := dkwX12_iterator_0 ++ []
theorem dksX12_iterator_0 : cX12_iterator.data.toList.drop 0 = dktX12_iterator_0 := by decide +kernel
theorem dX12_iterator_0 : decode cX12_iterator 0 = .ok (.aload_n 0, 1) := dk_42 (dk_at dksX12_iterator_0 0 rfl rfl)
theorem dX12_iterator_1 : decode cX12_iterator 1 = .ok (.getfield 1, 3) := dk_180 0 1 (dk_at dksX12_iterator_0 1 rfl rfl)
theorem dX12_iterator_4 : decode cX12_iterator 4 = .ok (.aload_n 0, 1) := dk_42 (dk_at dksX12_iterator_0 4 rfl rfl)
theorem dX12_iterator_5 : decode cX12_iterator 5 = .ok (.getfield 7, 3) := dk_180 0 7 (dk_at dksX12_iterator_0 5 rfl rfl)
theorem dX12_iterator_8 : decode cX12_iterator 8 = .ok (.invokevirtual 17, 3) := dk_182 0 17 (dk_at dksX12_iterator_0 8 rfl rfl)
theorem dX12_iterator_11 : decode cX12_iterator 11 = .ok (.areturn, 1) := dk_176 (dk_at dksX12_iterator_0 11 rfl rfl)
theorem q158 : (Jvm.Cond.initialized "TollLeader$Net$1") ∈ lw_all := lw_g (lw_at lw_m1 47 rfl) rfl
theorem q983 : (Jvm.Cond.selects "TollLeader$Net$1" ({ cls := "java/lang/Object", name := "getClass", desc := "()Ljava/lang/Class;" } : Jvm.MethodName) ({ cls := "java/lang/Object", name := "getClass", desc := "()Ljava/lang/Class;" } : Jvm.MethodName)) ∈ lw_all := lw_g (lw_at lw_m4 152 rfl) rfl
theorem q2246 : (Jvm.Cond.instantiable "TollLeader$Net$1" (2 : Nat)) ∈ lw_all := lw_g (lw_at lw_m9 215 rfl) rfl
theorem q2248 : (Jvm.Cond.instanceMethod ({ cls := "TollLeader$Net$1", name := "<init>", desc := "(LTollLeader$Net;Ljava/util/BitSet;)V" } : Jvm.MethodName)) ∈ lw_all := lw_g (lw_at lw_m9 217 rfl) rfl
theorem q2249 : (Jvm.Cond.code ({ cls := "TollLeader$Net$1", name := "<init>", desc := "(LTollLeader$Net;Ljava/util/BitSet;)V" } : Jvm.MethodName) prog_6_method_1_code (3 : Nat) (Option.none : Option Jvm.ClassFile.FieldType)) ∈ lw_all := lw_g (lw_at lw_m9 218 rfl) rfl
theorem q2250 : (Jvm.Cond.methodLink "TollLeader$Net$1" (11 : Nat) ({ cls := "java/lang/Object", name := "<init>", desc := "()V" } : Jvm.MethodName)) ∈ lw_all := lw_g (lw_at lw_m9 219 rfl) rfl
theorem q2251 : (Jvm.Cond.fieldLink "TollLeader$Net$1" (7 : Nat) "TollLeader$Net$1" "val$some" "Ljava/util/BitSet;") ∈ lw_all := lw_g (lw_at lw_m9 220 rfl) rfl
theorem q2252 : (Jvm.Cond.fieldLink "TollLeader$Net$1" (1 : Nat) "TollLeader$Net$1" "this$0" "LTollLeader$Net;") ∈ lw_all := lw_g (lw_at lw_m9 221 rfl) rfl
theorem q2253 : (Jvm.Cond.laysFinal "TollLeader$Net$1" "TollLeader$Net$1" "val$some" "Ljava/util/BitSet;") ∈ lw_all := lw_g (lw_at lw_m9 222 rfl) rfl
theorem q2254 : (Jvm.Cond.soleField "TollLeader$Net$1" "val$some") ∈ lw_all := lw_g (lw_at lw_m9 223 rfl) rfl
theorem q2255 : (Jvm.Cond.laysFinal "TollLeader$Net$1" "TollLeader$Net$1" "this$0" "LTollLeader$Net;") ∈ lw_all := lw_g (lw_at lw_m9 224 rfl) rfl
theorem q2256 : (Jvm.Cond.soleField "TollLeader$Net$1" "this$0") ∈ lw_all := lw_g (lw_at lw_m9 225 rfl) rfl
theorem q2257 : (Jvm.Cond.superclass "TollLeader$Net$1" "java/lang/Object") ∈ lw_all := lw_g (lw_at lw_m9 226 rfl) rfl
theorem q2262 : (Jvm.Cond.castable "TollLeader$Net$1" "java/lang/Iterable") ∈ lw_tbl := lw_at lw_m9 231 rfl
theorem q2263 : (Jvm.Cond.selects "TollLeader$Net$1" ({ cls := "java/lang/Iterable", name := "iterator", desc := "()Ljava/util/Iterator;" } : Jvm.MethodName) ({ cls := "TollLeader$Net$1", name := "iterator", desc := "()Ljava/util/Iterator;" } : Jvm.MethodName)) ∈ lw_all := lw_g (lw_at lw_m9 232 rfl) rfl
theorem q2264 : (Jvm.Cond.unhidden "TollLeader$Net$1" "iterator" "()Ljava/util/Iterator;") ∈ lw_tbl := lw_at lw_m9 233 rfl
theorem q2265 : (Jvm.Cond.instanceMethod ({ cls := "TollLeader$Net$1", name := "iterator", desc := "()Ljava/util/Iterator;" } : Jvm.MethodName)) ∈ lw_all := lw_g (lw_at lw_m9 234 rfl) rfl
theorem q2266 : (Jvm.Cond.publicMethod ({ cls := "TollLeader$Net$1", name := "iterator", desc := "()Ljava/util/Iterator;" } : Jvm.MethodName)) ∈ lw_tbl := lw_at lw_m9 235 rfl
theorem q2267 : (Jvm.Cond.code ({ cls := "TollLeader$Net$1", name := "iterator", desc := "()Ljava/util/Iterator;" } : Jvm.MethodName) prog_6_method_2_code (1 : Nat) (Option.some (Jvm.ClassFile.FieldType.object "java/util/Iterator"))) ∈ lw_all := lw_g (lw_at lw_m9 236 rfl) rfl
theorem q2268 : (Jvm.Cond.methodLinkNest "TollLeader$Net$1" (17 : Nat) ({ cls := "TollLeader$Net", name := "leading", desc := "(Ljava/util/BitSet;)Ljava/util/Iterator;" } : Jvm.MethodName) "TollLeader") ∈ lw_tbl := lw_at lw_m9 237 rfl
theorem q3085 : (Jvm.Cond.castable "TollLeader$Net$1" "java/lang/Object") ∈ lw_tbl := lw_at lw_m13 94 rfl
theorem in_X12 : ∀ w ∈ wsX120, w ∈ lw_all := lw_in wsX120 [2253, 2255] (by decide +kernel) (by decide +kernel)
/-! TollLeader$Net$2 -/
set_option maxRecDepth 100000
def RX13 : String := "TollLeader$Net$2"
def TX13 : u_T := fun k => match k with
  | 0 => ("TollLeader$Net$2", "next", "I", false)
  | 1 => ("TollLeader$Net$2", "val$some", "Ljava/util/BitSet;", true)
  | _ => ("TollLeader$Net$2", "this$0", "LTollLeader$Net;", true)
def tyX13 : Nat → FieldType := fun k => match k with
  | 0 => .int
  | 1 => .object "java/util/BitSet"
  | _ => .object "TollLeader$Net"
abbrev wsX130 : List Cond := u_ws RX13 TX13 3
theorem nmX13 : ∀ a, a < 3 → ∀ b, b < 3 → a ≠ b → (TX13 a).2.1 ≠ (TX13 b).2.1 := by decide +kernel
theorem tyX13_ok : ∀ k, k < 3 → parseFieldDescriptor (TX13 k).2.2.1 = some (tyX13 k) := by decide +kernel
abbrev cX13_hasNext : ByteArray := prog_7_method_3_code
def yX13_hasNext : MethodName := ⟨RX13, "hasNext", "()Z"⟩
def dkwX13_hasNext_1 : List UInt8 := [172]
abbrev dktX13_hasNext_1 : List UInt8 := dkwX13_hasNext_1 ++ []
def dkwX13_hasNext_0 : List UInt8 := [42, 180, 0, 21, 42, 180, 0, 1, 180, 0, 25, 185, 0, 31, 1, 0, 162, 0, 7, 4, 167, 0, 4, 3]
abbrev dktX13_hasNext_0 : List UInt8 := dkwX13_hasNext_0 ++ dktX13_hasNext_1
theorem dksX13_hasNext_0 : cX13_hasNext.data.toList.drop 0 = dktX13_hasNext_0 := by decide +kernel
theorem dksX13_hasNext_1 : cX13_hasNext.data.toList.drop 24 = dktX13_hasNext_1 := dk_seg dksX13_hasNext_0 24 rfl rfl
theorem dX13_hasNext_0 : decode cX13_hasNext 0 = .ok (.aload_n 0, 1) := dk_42 (dk_at dksX13_hasNext_0 0 rfl rfl)
theorem dX13_hasNext_1 : decode cX13_hasNext 1 = .ok (.getfield 21, 3) := dk_180 0 21 (dk_at dksX13_hasNext_0 1 rfl rfl)
theorem dX13_hasNext_4 : decode cX13_hasNext 4 = .ok (.aload_n 0, 1) := dk_42 (dk_at dksX13_hasNext_0 4 rfl rfl)
theorem dX13_hasNext_5 : decode cX13_hasNext 5 = .ok (.getfield 1, 3) := dk_180 0 1 (dk_at dksX13_hasNext_0 5 rfl rfl)
theorem dX13_hasNext_8 : decode cX13_hasNext 8 = .ok (.getfield 25, 3) := dk_180 0 25 (dk_at dksX13_hasNext_0 8 rfl rfl)
theorem dX13_hasNext_11 : decode cX13_hasNext 11 = .ok (.invokeinterface 31 1, 5) := by decide +kernel
theorem dX13_hasNext_16 : decode cX13_hasNext 16 = .ok (.if_icmp .ge 7, 3) := dk_162 0 7 (dk_at dksX13_hasNext_0 16 rfl rfl)
theorem dX13_hasNext_19 : decode cX13_hasNext 19 = .ok (.iconst 1, 1) := dk_4 (dk_at dksX13_hasNext_0 19 rfl rfl)
theorem dX13_hasNext_20 : decode cX13_hasNext 20 = .ok (.goto 4, 3) := dk_167 0 4 (dk_at dksX13_hasNext_0 20 rfl rfl)
theorem dX13_hasNext_23 : decode cX13_hasNext 23 = .ok (.iconst 0, 1) := dk_3 (dk_at dksX13_hasNext_0 23 rfl rfl)
theorem dX13_hasNext_24 : decode cX13_hasNext 24 = .ok (.ireturn, 1) := dk_172 (dk_at dksX13_hasNext_1 0 rfl rfl)
abbrev cX13_next : ByteArray := prog_7_method_5_code
def yX13_next : MethodName := ⟨RX13, "next", "()Ljava/lang/Object;"⟩
theorem dX13_next_0 : decode cX13_next 0 = .ok (.aload_n 0, 1) := by decide +kernel
theorem dX13_next_1 : decode cX13_next 1 = .ok (.invokevirtual 54, 3) := by decide +kernel
theorem dX13_next_4 : decode cX13_next 4 = .ok (.areturn, 1) := by decide +kernel
abbrev cX13_next_2 : ByteArray := prog_7_method_4_code
def yX13_next_2 : MethodName := ⟨RX13, "next", "()LTollLeader$Arc;"⟩
def dkwX13_next_2_2 : List UInt8 := [42, 42, 42, 180, 0, 21, 4, 96, 182, 0, 17, 181, 0, 21, 43, 176]
abbrev dktX13_next_2_2 : List UInt8 := dkwX13_next_2_2 ++ []
def dkwX13_next_2_1 : List UInt8 := [183, 0, 53, 191, 42, 180, 0, 1, 180, 0, 25, 42, 180, 0, 21, 185, 0, 37, 2, 0, 192, 0, 41, 76]
abbrev dktX13_next_2_1 : List UInt8 := dkwX13_next_2_1 ++ dktX13_next_2_2
def dkwX13_next_2_0 : List UInt8 := [42, 180, 0, 21, 42, 180, 0, 1, 180, 0, 25, 185, 0, 31, 1, 0, 161, 0, 11, 187, 0, 51, 89]
abbrev dktX13_next_2_0 : List UInt8 := dkwX13_next_2_0 ++ dktX13_next_2_1
theorem dksX13_next_2_0 : cX13_next_2.data.toList.drop 0 = dktX13_next_2_0 := by decide +kernel
theorem dksX13_next_2_1 : cX13_next_2.data.toList.drop 23 = dktX13_next_2_1 := dk_seg dksX13_next_2_0 23 rfl rfl
theorem dksX13_next_2_2 : cX13_next_2.data.toList.drop 47 = dktX13_next_2_2 := dk_seg dksX13_next_2_1 24 rfl rfl
theorem dX13_next_2_0 : decode cX13_next_2 0 = .ok (.aload_n 0, 1) := dk_42 (dk_at dksX13_next_2_0 0 rfl rfl)
theorem dX13_next_2_1 : decode cX13_next_2 1 = .ok (.getfield 21, 3) := dk_180 0 21 (dk_at dksX13_next_2_0 1 rfl rfl)
theorem dX13_next_2_4 : decode cX13_next_2 4 = .ok (.aload_n 0, 1) := dk_42 (dk_at dksX13_next_2_0 4 rfl rfl)
theorem dX13_next_2_5 : decode cX13_next_2 5 = .ok (.getfield 1, 3) := dk_180 0 1 (dk_at dksX13_next_2_0 5 rfl rfl)
theorem dX13_next_2_8 : decode cX13_next_2 8 = .ok (.getfield 25, 3) := dk_180 0 25 (dk_at dksX13_next_2_0 8 rfl rfl)
theorem dX13_next_2_11 : decode cX13_next_2 11 = .ok (.invokeinterface 31 1, 5) := by decide +kernel
theorem dX13_next_2_16 : decode cX13_next_2 16 = .ok (.if_icmp .lt 11, 3) := dk_161 0 11 (dk_at dksX13_next_2_0 16 rfl rfl)
theorem dX13_next_2_19 : decode cX13_next_2 19 = .ok (.new 51, 3) := dk_187 0 51 (dk_at dksX13_next_2_0 19 rfl rfl)
theorem dX13_next_2_22 : decode cX13_next_2 22 = .ok (.dup, 1) := dk_89 (dk_at dksX13_next_2_0 22 rfl rfl)
theorem dX13_next_2_23 : decode cX13_next_2 23 = .ok (.invokespecial 53, 3) := dk_183 0 53 (dk_at dksX13_next_2_1 0 rfl rfl)
theorem dX13_next_2_26 : decode cX13_next_2 26 = .ok (.athrow, 1) := dk_191 (dk_at dksX13_next_2_1 3 rfl rfl)
theorem dX13_next_2_27 : decode cX13_next_2 27 = .ok (.aload_n 0, 1) := dk_42 (dk_at dksX13_next_2_1 4 rfl rfl)
theorem dX13_next_2_28 : decode cX13_next_2 28 = .ok (.getfield 1, 3) := dk_180 0 1 (dk_at dksX13_next_2_1 5 rfl rfl)
theorem dX13_next_2_31 : decode cX13_next_2 31 = .ok (.getfield 25, 3) := dk_180 0 25 (dk_at dksX13_next_2_1 8 rfl rfl)
theorem dX13_next_2_34 : decode cX13_next_2 34 = .ok (.aload_n 0, 1) := dk_42 (dk_at dksX13_next_2_1 11 rfl rfl)
theorem dX13_next_2_35 : decode cX13_next_2 35 = .ok (.getfield 21, 3) := dk_180 0 21 (dk_at dksX13_next_2_1 12 rfl rfl)
theorem dX13_next_2_38 : decode cX13_next_2 38 = .ok (.invokeinterface 37 2, 5) := by decide +kernel
theorem dX13_next_2_43 : decode cX13_next_2 43 = .ok (.checkcast 41, 3) := dk_192 0 41 (dk_at dksX13_next_2_1 20 rfl rfl)
theorem dX13_next_2_46 : decode cX13_next_2 46 = .ok (.astore_n 1, 1) := dk_76 (dk_at dksX13_next_2_1 23 rfl rfl)
theorem dX13_next_2_47 : decode cX13_next_2 47 = .ok (.aload_n 0, 1) := dk_42 (dk_at dksX13_next_2_2 0 rfl rfl)
theorem dX13_next_2_48 : decode cX13_next_2 48 = .ok (.aload_n 0, 1) := dk_42 (dk_at dksX13_next_2_2 1 rfl rfl)
theorem dX13_next_2_49 : decode cX13_next_2 49 = .ok (.aload_n 0, 1) := dk_42 (dk_at dksX13_next_2_2 2 rfl rfl)
theorem dX13_next_2_50 : decode cX13_next_2 50 = .ok (.getfield 21, 3) := dk_180 0 21 (dk_at dksX13_next_2_2 3 rfl rfl)
theorem dX13_next_2_53 : decode cX13_next_2 53 = .ok (.iconst 1, 1) := dk_4 (dk_at dksX13_next_2_2 6 rfl rfl)
theorem dX13_next_2_54 : decode cX13_next_2 54 = .ok (.iadd, 1) := dk_96 (dk_at dksX13_next_2_2 7 rfl rfl)
theorem dX13_next_2_55 : decode cX13_next_2 55 = .ok (.invokevirtual 17, 3) := dk_182 0 17 (dk_at dksX13_next_2_2 8 rfl rfl)
theorem dX13_next_2_58 : decode cX13_next_2 58 = .ok (.putfield 21, 3) := dk_181 0 21 (dk_at dksX13_next_2_2 11 rfl rfl)
theorem dX13_next_2_61 : decode cX13_next_2 61 = .ok (.aload_n 1, 1) := dk_43 (dk_at dksX13_next_2_2 14 rfl rfl)
theorem dX13_next_2_62 : decode cX13_next_2 62 = .ok (.areturn, 1) := dk_176 (dk_at dksX13_next_2_2 15 rfl rfl)
abbrev cX13_behind : ByteArray := prog_7_method_2_code
def yX13_behind : MethodName := ⟨RX13, "behind", "(I)I"⟩
def dkwX13_behind_2 : List UInt8 := [132, 2, 1, 167, 255, 208, 28, 172]
abbrev dktX13_behind_2 : List UInt8 := dkwX13_behind_2 ++ []
def dkwX13_behind_1 : List UInt8 := [180, 0, 1, 180, 0, 25, 28, 185, 0, 37, 2, 0, 192, 0, 41, 182, 0, 43, 182, 0, 46, 154, 0, 9]
abbrev dktX13_behind_1 : List UInt8 := dkwX13_behind_1 ++ dktX13_behind_2
def dkwX13_behind_0 : List UInt8 := [27, 61, 28, 42, 180, 0, 1, 180, 0, 25, 185, 0, 31, 1, 0, 162, 0, 38, 42, 180, 0, 7, 42]
abbrev dktX13_behind_0 : List UInt8 := dkwX13_behind_0 ++ dktX13_behind_1
theorem dksX13_behind_0 : cX13_behind.data.toList.drop 0 = dktX13_behind_0 := by decide +kernel
theorem dksX13_behind_1 : cX13_behind.data.toList.drop 23 = dktX13_behind_1 := dk_seg dksX13_behind_0 23 rfl rfl
theorem dksX13_behind_2 : cX13_behind.data.toList.drop 47 = dktX13_behind_2 := dk_seg dksX13_behind_1 24 rfl rfl
theorem dX13_behind_0 : decode cX13_behind 0 = .ok (.iload_n 1, 1) := dk_27 (dk_at dksX13_behind_0 0 rfl rfl)
theorem dX13_behind_1 : decode cX13_behind 1 = .ok (.istore_n 2, 1) := dk_61 (dk_at dksX13_behind_0 1 rfl rfl)
theorem dX13_behind_2 : decode cX13_behind 2 = .ok (.iload_n 2, 1) := dk_28 (dk_at dksX13_behind_0 2 rfl rfl)
theorem dX13_behind_3 : decode cX13_behind 3 = .ok (.aload_n 0, 1) := dk_42 (dk_at dksX13_behind_0 3 rfl rfl)
theorem dX13_behind_4 : decode cX13_behind 4 = .ok (.getfield 1, 3) := dk_180 0 1 (dk_at dksX13_behind_0 4 rfl rfl)
theorem dX13_behind_7 : decode cX13_behind 7 = .ok (.getfield 25, 3) := dk_180 0 25 (dk_at dksX13_behind_0 7 rfl rfl)
theorem dX13_behind_10 : decode cX13_behind 10 = .ok (.invokeinterface 31 1, 5) := by decide +kernel
theorem dX13_behind_15 : decode cX13_behind 15 = .ok (.if_icmp .ge 38, 3) := dk_162 0 38 (dk_at dksX13_behind_0 15 rfl rfl)
theorem dX13_behind_18 : decode cX13_behind 18 = .ok (.aload_n 0, 1) := dk_42 (dk_at dksX13_behind_0 18 rfl rfl)
theorem dX13_behind_19 : decode cX13_behind 19 = .ok (.getfield 7, 3) := dk_180 0 7 (dk_at dksX13_behind_0 19 rfl rfl)
theorem dX13_behind_22 : decode cX13_behind 22 = .ok (.aload_n 0, 1) := dk_42 (dk_at dksX13_behind_0 22 rfl rfl)
theorem dX13_behind_23 : decode cX13_behind 23 = .ok (.getfield 1, 3) := dk_180 0 1 (dk_at dksX13_behind_1 0 rfl rfl)
theorem dX13_behind_26 : decode cX13_behind 26 = .ok (.getfield 25, 3) := dk_180 0 25 (dk_at dksX13_behind_1 3 rfl rfl)
theorem dX13_behind_29 : decode cX13_behind 29 = .ok (.iload_n 2, 1) := dk_28 (dk_at dksX13_behind_1 6 rfl rfl)
theorem dX13_behind_30 : decode cX13_behind 30 = .ok (.invokeinterface 37 2, 5) := by decide +kernel
theorem dX13_behind_35 : decode cX13_behind 35 = .ok (.checkcast 41, 3) := dk_192 0 41 (dk_at dksX13_behind_1 12 rfl rfl)
theorem dX13_behind_38 : decode cX13_behind 38 = .ok (.invokevirtual 43, 3) := dk_182 0 43 (dk_at dksX13_behind_1 15 rfl rfl)
theorem dX13_behind_41 : decode cX13_behind 41 = .ok (.invokevirtual 46, 3) := dk_182 0 46 (dk_at dksX13_behind_1 18 rfl rfl)
theorem dX13_behind_44 : decode cX13_behind 44 = .ok (.ifCond .ne 9, 3) := dk_154 0 9 (dk_at dksX13_behind_1 21 rfl rfl)
theorem dX13_behind_47 : decode cX13_behind 47 = .ok (.iinc 2 1, 3) := dk_132 2 1 (dk_at dksX13_behind_2 0 rfl rfl)
theorem dX13_behind_50 : decode cX13_behind 50 = .ok (.goto (-48), 3) := dk_167 255 208 (dk_at dksX13_behind_2 3 rfl rfl)
theorem dX13_behind_53 : decode cX13_behind 53 = .ok (.iload_n 2, 1) := dk_28 (dk_at dksX13_behind_2 6 rfl rfl)
theorem dX13_behind_54 : decode cX13_behind 54 = .ok (.ireturn, 1) := dk_172 (dk_at dksX13_behind_2 7 rfl rfl)
abbrev cX13_init : ByteArray := prog_7_method_1_code
def yX13_init : MethodName := ⟨RX13, "<init>", "(LTollLeader$Net;Ljava/util/BitSet;)V"⟩
def dkwX13_init_0 : List UInt8 := [42, 43, 181, 0, 1, 42, 44, 181, 0, 7, 42, 183, 0, 11, 42, 42, 3, 182, 0, 17, 181, 0, 21, 177]
abbrev dktX13_init_0 : List UInt8 := dkwX13_init_0 ++ []
theorem dksX13_init_0 : cX13_init.data.toList.drop 0 = dktX13_init_0 := by decide +kernel
theorem dX13_init_0 : decode cX13_init 0 = .ok (.aload_n 0, 1) := dk_42 (dk_at dksX13_init_0 0 rfl rfl)
theorem dX13_init_1 : decode cX13_init 1 = .ok (.aload_n 1, 1) := dk_43 (dk_at dksX13_init_0 1 rfl rfl)
theorem dX13_init_2 : decode cX13_init 2 = .ok (.putfield 1, 3) := dk_181 0 1 (dk_at dksX13_init_0 2 rfl rfl)
theorem dX13_init_5 : decode cX13_init 5 = .ok (.aload_n 0, 1) := dk_42 (dk_at dksX13_init_0 5 rfl rfl)
theorem dX13_init_6 : decode cX13_init 6 = .ok (.aload_n 2, 1) := dk_44 (dk_at dksX13_init_0 6 rfl rfl)
theorem dX13_init_7 : decode cX13_init 7 = .ok (.putfield 7, 3) := dk_181 0 7 (dk_at dksX13_init_0 7 rfl rfl)
theorem dX13_init_10 : decode cX13_init 10 = .ok (.aload_n 0, 1) := dk_42 (dk_at dksX13_init_0 10 rfl rfl)
theorem dX13_init_11 : decode cX13_init 11 = .ok (.invokespecial 11, 3) := dk_183 0 11 (dk_at dksX13_init_0 11 rfl rfl)
theorem dX13_init_14 : decode cX13_init 14 = .ok (.aload_n 0, 1) := dk_42 (dk_at dksX13_init_0 14 rfl rfl)
theorem dX13_init_15 : decode cX13_init 15 = .ok (.aload_n 0, 1) := dk_42 (dk_at dksX13_init_0 15 rfl rfl)
theorem dX13_init_16 : decode cX13_init 16 = .ok (.iconst 0, 1) := dk_3 (dk_at dksX13_init_0 16 rfl rfl)
theorem dX13_init_17 : decode cX13_init 17 = .ok (.invokevirtual 17, 3) := dk_182 0 17 (dk_at dksX13_init_0 17 rfl rfl)
theorem dX13_init_20 : decode cX13_init 20 = .ok (.putfield 21, 3) := dk_181 0 21 (dk_at dksX13_init_0 20 rfl rfl)
theorem dX13_init_23 : decode cX13_init 23 = .ok (.return_, 1) := dk_177 (dk_at dksX13_init_0 23 rfl rfl)
theorem q159 : (Jvm.Cond.initialized "TollLeader$Net$2") ∈ lw_all := lw_g (lw_at lw_m1 48 rfl) rfl
theorem q536 : (Jvm.Cond.fieldLinkNest "TollLeader$Net$2" (25 : Nat) "TollLeader$Net" "arcs" "Ljava/util/List;" "TollLeader") ∈ lw_tbl := lw_at lw_m2 185 rfl
theorem q984 : (Jvm.Cond.selects "TollLeader$Net$2" ({ cls := "java/lang/Object", name := "getClass", desc := "()Ljava/lang/Class;" } : Jvm.MethodName) ({ cls := "java/lang/Object", name := "getClass", desc := "()Ljava/lang/Class;" } : Jvm.MethodName)) ∈ lw_all := lw_g (lw_at lw_m4 153 rfl) rfl
theorem q1543 : (Jvm.Cond.castable "TollLeader$Net$2" "java/util/Iterator") ∈ lw_tbl := lw_at lw_m6 232 rfl
theorem q1544 : (Jvm.Cond.selects "TollLeader$Net$2" ({ cls := "java/util/Iterator", name := "hasNext", desc := "()Z" } : Jvm.MethodName) ({ cls := "TollLeader$Net$2", name := "hasNext", desc := "()Z" } : Jvm.MethodName)) ∈ lw_all := lw_g (lw_at lw_m6 233 rfl) rfl
theorem q1545 : (Jvm.Cond.unhidden "TollLeader$Net$2" "hasNext" "()Z") ∈ lw_tbl := lw_at lw_m6 234 rfl
theorem q1546 : (Jvm.Cond.instanceMethod ({ cls := "TollLeader$Net$2", name := "hasNext", desc := "()Z" } : Jvm.MethodName)) ∈ lw_all := lw_g (lw_at lw_m6 235 rfl) rfl
theorem q1547 : (Jvm.Cond.publicMethod ({ cls := "TollLeader$Net$2", name := "hasNext", desc := "()Z" } : Jvm.MethodName)) ∈ lw_tbl := lw_at lw_m6 236 rfl
theorem q1548 : (Jvm.Cond.code ({ cls := "TollLeader$Net$2", name := "hasNext", desc := "()Z" } : Jvm.MethodName) prog_7_method_3_code (1 : Nat) (Option.some Jvm.ClassFile.FieldType.boolean)) ∈ lw_all := lw_g (lw_at lw_m6 237 rfl) rfl
theorem q1549 : (Jvm.Cond.interfaceEntry "TollLeader$Net$2" (31 : Nat)) ∈ lw_tbl := lw_at lw_m6 238 rfl
theorem q1550 : (Jvm.Cond.methodLink "TollLeader$Net$2" (31 : Nat) ({ cls := "java/util/List", name := "size", desc := "()I" } : Jvm.MethodName)) ∈ lw_all := lw_g (lw_at lw_m6 239 rfl) rfl
theorem q1587 : (Jvm.Cond.selects "TollLeader$Net$2" ({ cls := "java/util/Iterator", name := "next", desc := "()Ljava/lang/Object;" } : Jvm.MethodName) ({ cls := "TollLeader$Net$2", name := "next", desc := "()Ljava/lang/Object;" } : Jvm.MethodName)) ∈ lw_all := lw_g (lw_at lw_m7 36 rfl) rfl
theorem q1588 : (Jvm.Cond.unhidden "TollLeader$Net$2" "next" "()Ljava/lang/Object;") ∈ lw_tbl := lw_at lw_m7 37 rfl
theorem q1589 : (Jvm.Cond.instanceMethod ({ cls := "TollLeader$Net$2", name := "next", desc := "()Ljava/lang/Object;" } : Jvm.MethodName)) ∈ lw_all := lw_g (lw_at lw_m7 38 rfl) rfl
theorem q1590 : (Jvm.Cond.publicMethod ({ cls := "TollLeader$Net$2", name := "next", desc := "()Ljava/lang/Object;" } : Jvm.MethodName)) ∈ lw_tbl := lw_at lw_m7 39 rfl
theorem q1591 : (Jvm.Cond.code ({ cls := "TollLeader$Net$2", name := "next", desc := "()Ljava/lang/Object;" } : Jvm.MethodName) prog_7_method_5_code (1 : Nat) (Option.some (Jvm.ClassFile.FieldType.object "java/lang/Object"))) ∈ lw_all := lw_g (lw_at lw_m7 40 rfl) rfl
theorem q1592 : (Jvm.Cond.methodLink "TollLeader$Net$2" (54 : Nat) ({ cls := "TollLeader$Net$2", name := "next", desc := "()LTollLeader$Arc;" } : Jvm.MethodName)) ∈ lw_all := lw_g (lw_at lw_m7 41 rfl) rfl
theorem q1593 : (Jvm.Cond.instanceMethod ({ cls := "TollLeader$Net$2", name := "next", desc := "()LTollLeader$Arc;" } : Jvm.MethodName)) ∈ lw_all := lw_g (lw_at lw_m7 42 rfl) rfl
theorem q1594 : (Jvm.Cond.selects "TollLeader$Net$2" ({ cls := "TollLeader$Net$2", name := "next", desc := "()LTollLeader$Arc;" } : Jvm.MethodName) ({ cls := "TollLeader$Net$2", name := "next", desc := "()LTollLeader$Arc;" } : Jvm.MethodName)) ∈ lw_all := lw_g (lw_at lw_m7 43 rfl) rfl
theorem q1595 : (Jvm.Cond.code ({ cls := "TollLeader$Net$2", name := "next", desc := "()LTollLeader$Arc;" } : Jvm.MethodName) prog_7_method_4_code (2 : Nat) (Option.some (Jvm.ClassFile.FieldType.object "TollLeader$Arc"))) ∈ lw_all := lw_g (lw_at lw_m7 44 rfl) rfl
theorem q1596 : (Jvm.Cond.classLink "TollLeader$Net$2" (51 : Nat) "java/util/NoSuchElementException") ∈ lw_all := lw_g (lw_at lw_m7 45 rfl) rfl
theorem q1597 : (Jvm.Cond.methodLink "TollLeader$Net$2" (53 : Nat) ({ cls := "java/util/NoSuchElementException", name := "<init>", desc := "()V" } : Jvm.MethodName)) ∈ lw_all := lw_g (lw_at lw_m7 46 rfl) rfl
theorem q1598 : (Jvm.Cond.interfaceEntry "TollLeader$Net$2" (37 : Nat)) ∈ lw_tbl := lw_at lw_m7 47 rfl
theorem q1599 : (Jvm.Cond.methodLink "TollLeader$Net$2" (37 : Nat) ({ cls := "java/util/List", name := "get", desc := "(I)Ljava/lang/Object;" } : Jvm.MethodName)) ∈ lw_all := lw_g (lw_at lw_m7 48 rfl) rfl
theorem q1600 : (Jvm.Cond.classLink "TollLeader$Net$2" (41 : Nat) "TollLeader$Arc") ∈ lw_all := lw_g (lw_at lw_m7 49 rfl) rfl
theorem q1601 : (Jvm.Cond.methodLink "TollLeader$Net$2" (17 : Nat) ({ cls := "TollLeader$Net$2", name := "behind", desc := "(I)I" } : Jvm.MethodName)) ∈ lw_all := lw_g (lw_at lw_m7 50 rfl) rfl
theorem q1602 : (Jvm.Cond.privateMethod ({ cls := "TollLeader$Net$2", name := "behind", desc := "(I)I" } : Jvm.MethodName)) ∈ lw_tbl := lw_at lw_m7 51 rfl
theorem q1603 : (Jvm.Cond.instanceMethod ({ cls := "TollLeader$Net$2", name := "behind", desc := "(I)I" } : Jvm.MethodName)) ∈ lw_all := lw_g (lw_at lw_m7 52 rfl) rfl
theorem q1604 : (Jvm.Cond.instantiable "TollLeader$Net$2" (3 : Nat)) ∈ lw_all := lw_g (lw_at lw_m7 53 rfl) rfl
theorem q1605 : (Jvm.Cond.code ({ cls := "TollLeader$Net$2", name := "behind", desc := "(I)I" } : Jvm.MethodName) prog_7_method_2_code (3 : Nat) (Option.some Jvm.ClassFile.FieldType.int)) ∈ lw_all := lw_g (lw_at lw_m7 54 rfl) rfl
theorem q1606 : (Jvm.Cond.methodLink "TollLeader$Net$2" (43 : Nat) ({ cls := "TollLeader$Arc", name := "from", desc := "()I" } : Jvm.MethodName)) ∈ lw_all := lw_g (lw_at lw_m7 55 rfl) rfl
theorem q1607 : (Jvm.Cond.methodLink "TollLeader$Net$2" (46 : Nat) ({ cls := "java/util/BitSet", name := "get", desc := "(I)Z" } : Jvm.MethodName)) ∈ lw_all := lw_g (lw_at lw_m7 56 rfl) rfl
theorem q2274 : (Jvm.Cond.instanceMethod ({ cls := "TollLeader$Net$2", name := "<init>", desc := "(LTollLeader$Net;Ljava/util/BitSet;)V" } : Jvm.MethodName)) ∈ lw_all := lw_g (lw_at lw_m10 3 rfl) rfl
theorem q2275 : (Jvm.Cond.code ({ cls := "TollLeader$Net$2", name := "<init>", desc := "(LTollLeader$Net;Ljava/util/BitSet;)V" } : Jvm.MethodName) prog_7_method_1_code (3 : Nat) (Option.none : Option Jvm.ClassFile.FieldType)) ∈ lw_all := lw_g (lw_at lw_m10 4 rfl) rfl
theorem q2276 : (Jvm.Cond.methodLink "TollLeader$Net$2" (11 : Nat) ({ cls := "java/lang/Object", name := "<init>", desc := "()V" } : Jvm.MethodName)) ∈ lw_all := lw_g (lw_at lw_m10 5 rfl) rfl
theorem q2277 : (Jvm.Cond.fieldLink "TollLeader$Net$2" (21 : Nat) "TollLeader$Net$2" "next" "I") ∈ lw_all := lw_g (lw_at lw_m10 6 rfl) rfl
theorem q2278 : (Jvm.Cond.fieldLink "TollLeader$Net$2" (7 : Nat) "TollLeader$Net$2" "val$some" "Ljava/util/BitSet;") ∈ lw_all := lw_g (lw_at lw_m10 7 rfl) rfl
theorem q2279 : (Jvm.Cond.fieldLink "TollLeader$Net$2" (1 : Nat) "TollLeader$Net$2" "this$0" "LTollLeader$Net;") ∈ lw_all := lw_g (lw_at lw_m10 8 rfl) rfl
theorem q2280 : (Jvm.Cond.lays "TollLeader$Net$2" "TollLeader$Net$2" "next" "I") ∈ lw_all := lw_g (lw_at lw_m10 9 rfl) rfl
theorem q2281 : (Jvm.Cond.soleField "TollLeader$Net$2" "next") ∈ lw_all := lw_g (lw_at lw_m10 10 rfl) rfl
theorem q2282 : (Jvm.Cond.laysFinal "TollLeader$Net$2" "TollLeader$Net$2" "val$some" "Ljava/util/BitSet;") ∈ lw_all := lw_g (lw_at lw_m10 11 rfl) rfl
theorem q2283 : (Jvm.Cond.soleField "TollLeader$Net$2" "val$some") ∈ lw_all := lw_g (lw_at lw_m10 12 rfl) rfl
theorem q2284 : (Jvm.Cond.laysFinal "TollLeader$Net$2" "TollLeader$Net$2" "this$0" "LTollLeader$Net;") ∈ lw_all := lw_g (lw_at lw_m10 13 rfl) rfl
theorem q2285 : (Jvm.Cond.soleField "TollLeader$Net$2" "this$0") ∈ lw_all := lw_g (lw_at lw_m10 14 rfl) rfl
theorem q2286 : (Jvm.Cond.superclass "TollLeader$Net$2" "java/lang/Object") ∈ lw_all := lw_g (lw_at lw_m10 15 rfl) rfl
theorem q3086 : (Jvm.Cond.castable "TollLeader$Net$2" "java/lang/Object") ∈ lw_tbl := lw_at lw_m13 95 rfl
theorem in_X13 : ∀ w ∈ wsX130, w ∈ lw_all := lw_in wsX130 [2280, 2282, 2284] (by decide +kernel) (by decide +kernel)
/-! TollLeader$Weight$2 -/
set_option maxRecDepth 100000
def RX14 : String := "TollLeader$Weight$2"
abbrev cX14_of : ByteArray := prog_14_method_2_code
def yX14_of : MethodName := ⟨RX14, "of", "(LTollLeader$State;LTollLeader$Arc;LTollLeader$Trip;)J"⟩
def dkwX14_of_2 : List UInt8 := [133, 105, 97, 10, 97, 173]
abbrev dktX14_of_2 : List UInt8 := dkwX14_of_2 ++ []
def dkwX14_of_1 : List UInt8 := [20, 0, 25, 43, 180, 0, 27, 153, 0, 12, 43, 44, 182, 0, 31, 116, 167, 0, 8, 43, 44, 182, 0, 31]
abbrev dktX14_of_1 : List UInt8 := dkwX14_of_1 ++ dktX14_of_2
def dkwX14_of_0 : List UInt8 := [43, 44, 182, 0, 9, 154, 0, 7, 20, 0, 15, 173, 20, 0, 17, 43, 44, 45, 184, 0, 19, 105]
abbrev dktX14_of_0 : List UInt8 := dkwX14_of_0 ++ dktX14_of_1
theorem dksX14_of_0 : cX14_of.data.toList.drop 0 = dktX14_of_0 := by decide +kernel
theorem dksX14_of_1 : cX14_of.data.toList.drop 22 = dktX14_of_1 := dk_seg dksX14_of_0 22 rfl rfl
theorem dksX14_of_2 : cX14_of.data.toList.drop 46 = dktX14_of_2 := dk_seg dksX14_of_1 24 rfl rfl
theorem dX14_of_0 : decode cX14_of 0 = .ok (.aload_n 1, 1) := dk_43 (dk_at dksX14_of_0 0 rfl rfl)
theorem dX14_of_1 : decode cX14_of 1 = .ok (.aload_n 2, 1) := dk_44 (dk_at dksX14_of_0 1 rfl rfl)
theorem dX14_of_2 : decode cX14_of 2 = .ok (.invokevirtual 9, 3) := dk_182 0 9 (dk_at dksX14_of_0 2 rfl rfl)
theorem dX14_of_5 : decode cX14_of 5 = .ok (.ifCond .ne 7, 3) := dk_154 0 7 (dk_at dksX14_of_0 5 rfl rfl)
theorem dX14_of_8 : decode cX14_of 8 = .ok (.ldc2_w 15, 3) := dk_20 0 15 (dk_at dksX14_of_0 8 rfl rfl)
theorem dX14_of_11 : decode cX14_of 11 = .ok (.lreturn, 1) := dk_173 (dk_at dksX14_of_0 11 rfl rfl)
theorem dX14_of_12 : decode cX14_of 12 = .ok (.ldc2_w 17, 3) := dk_20 0 17 (dk_at dksX14_of_0 12 rfl rfl)
theorem dX14_of_15 : decode cX14_of 15 = .ok (.aload_n 1, 1) := dk_43 (dk_at dksX14_of_0 15 rfl rfl)
theorem dX14_of_16 : decode cX14_of 16 = .ok (.aload_n 2, 1) := dk_44 (dk_at dksX14_of_0 16 rfl rfl)
theorem dX14_of_17 : decode cX14_of 17 = .ok (.aload_n 3, 1) := dk_45 (dk_at dksX14_of_0 17 rfl rfl)
theorem dX14_of_18 : decode cX14_of 18 = .ok (.invokestatic 19, 3) := dk_184 0 19 (dk_at dksX14_of_0 18 rfl rfl)
theorem dX14_of_21 : decode cX14_of 21 = .ok (.lmul, 1) := dk_105 (dk_at dksX14_of_0 21 rfl rfl)
theorem dX14_of_22 : decode cX14_of 22 = .ok (.ldc2_w 25, 3) := dk_20 0 25 (dk_at dksX14_of_1 0 rfl rfl)
theorem dX14_of_25 : decode cX14_of 25 = .ok (.aload_n 1, 1) := dk_43 (dk_at dksX14_of_1 3 rfl rfl)
theorem dX14_of_26 : decode cX14_of 26 = .ok (.getfield 27, 3) := dk_180 0 27 (dk_at dksX14_of_1 4 rfl rfl)
theorem dX14_of_29 : decode cX14_of 29 = .ok (.ifCond .eq 12, 3) := dk_153 0 12 (dk_at dksX14_of_1 7 rfl rfl)
theorem dX14_of_32 : decode cX14_of 32 = .ok (.aload_n 1, 1) := dk_43 (dk_at dksX14_of_1 10 rfl rfl)
theorem dX14_of_33 : decode cX14_of 33 = .ok (.aload_n 2, 1) := dk_44 (dk_at dksX14_of_1 11 rfl rfl)
theorem dX14_of_34 : decode cX14_of 34 = .ok (.invokevirtual 31, 3) := dk_182 0 31 (dk_at dksX14_of_1 12 rfl rfl)
theorem dX14_of_37 : decode cX14_of 37 = .ok (.ineg, 1) := dk_116 (dk_at dksX14_of_1 15 rfl rfl)
theorem dX14_of_38 : decode cX14_of 38 = .ok (.goto 8, 3) := dk_167 0 8 (dk_at dksX14_of_1 16 rfl rfl)
theorem dX14_of_41 : decode cX14_of 41 = .ok (.aload_n 1, 1) := dk_43 (dk_at dksX14_of_1 19 rfl rfl)
theorem dX14_of_42 : decode cX14_of 42 = .ok (.aload_n 2, 1) := dk_44 (dk_at dksX14_of_1 20 rfl rfl)
theorem dX14_of_43 : decode cX14_of 43 = .ok (.invokevirtual 31, 3) := dk_182 0 31 (dk_at dksX14_of_1 21 rfl rfl)
theorem dX14_of_46 : decode cX14_of 46 = .ok (.i2l, 1) := dk_133 (dk_at dksX14_of_2 0 rfl rfl)
theorem dX14_of_47 : decode cX14_of 47 = .ok (.lmul, 1) := dk_105 (dk_at dksX14_of_2 1 rfl rfl)
theorem dX14_of_48 : decode cX14_of 48 = .ok (.ladd, 1) := dk_97 (dk_at dksX14_of_2 2 rfl rfl)
theorem dX14_of_49 : decode cX14_of 49 = .ok (.lconst 1, 1) := dk_10 (dk_at dksX14_of_2 3 rfl rfl)
theorem dX14_of_50 : decode cX14_of 50 = .ok (.ladd, 1) := dk_97 (dk_at dksX14_of_2 4 rfl rfl)
theorem dX14_of_51 : decode cX14_of 51 = .ok (.lreturn, 1) := dk_173 (dk_at dksX14_of_2 5 rfl rfl)
theorem q599 : (Jvm.Cond.fieldLinkNest "TollLeader$Weight$2" (27 : Nat) "TollLeader$State" "isFor" "Z" "TollLeader") ∈ lw_tbl := lw_at lw_m3 8 rfl
theorem q990 : (Jvm.Cond.selects "TollLeader$Weight$2" ({ cls := "java/lang/Object", name := "getClass", desc := "()Ljava/lang/Class;" } : Jvm.MethodName) ({ cls := "java/lang/Object", name := "getClass", desc := "()Ljava/lang/Class;" } : Jvm.MethodName)) ∈ lw_all := lw_g (lw_at lw_m4 159 rfl) rfl
theorem q1336 : (Jvm.Cond.castable "TollLeader$Weight$2" "TollLeader$Weight") ∈ lw_tbl := lw_at lw_m6 25 rfl
theorem q1337 : (Jvm.Cond.selects "TollLeader$Weight$2" ({ cls := "TollLeader$Weight", name := "of", desc := "(LTollLeader$State;LTollLeader$Arc;LTollLeader$Trip;)J" } : Jvm.MethodName) ({ cls := "TollLeader$Weight$2", name := "of", desc := "(LTollLeader$State;LTollLeader$Arc;LTollLeader$Trip;)J" } : Jvm.MethodName)) ∈ lw_all := lw_g (lw_at lw_m6 26 rfl) rfl
theorem q1338 : (Jvm.Cond.unhidden "TollLeader$Weight$2" "of" "(LTollLeader$State;LTollLeader$Arc;LTollLeader$Trip;)J") ∈ lw_tbl := lw_at lw_m6 27 rfl
theorem q1339 : (Jvm.Cond.instanceMethod ({ cls := "TollLeader$Weight$2", name := "of", desc := "(LTollLeader$State;LTollLeader$Arc;LTollLeader$Trip;)J" } : Jvm.MethodName)) ∈ lw_all := lw_g (lw_at lw_m6 28 rfl) rfl
theorem q1340 : (Jvm.Cond.publicMethod ({ cls := "TollLeader$Weight$2", name := "of", desc := "(LTollLeader$State;LTollLeader$Arc;LTollLeader$Trip;)J" } : Jvm.MethodName)) ∈ lw_tbl := lw_at lw_m6 29 rfl
theorem q1341 : (Jvm.Cond.code ({ cls := "TollLeader$Weight$2", name := "of", desc := "(LTollLeader$State;LTollLeader$Arc;LTollLeader$Trip;)J" } : Jvm.MethodName) prog_14_method_2_code (4 : Nat) (Option.some Jvm.ClassFile.FieldType.long)) ∈ lw_all := lw_g (lw_at lw_m6 30 rfl) rfl
theorem q1342 : (Jvm.Cond.methodLink "TollLeader$Weight$2" (9 : Nat) ({ cls := "TollLeader$State", name := "isOpen", desc := "(LTollLeader$Arc;)Z" } : Jvm.MethodName)) ∈ lw_all := lw_g (lw_at lw_m6 31 rfl) rfl
theorem q1343 : (Jvm.Cond.constantLong "TollLeader$Weight$2" (15 : Nat) (-1 : Int64)) ∈ lw_all := lw_g (lw_at lw_m6 32 rfl) rfl
theorem q1344 : (Jvm.Cond.constantLong "TollLeader$Weight$2" (17 : Nat) (10000000 : Int64)) ∈ lw_all := lw_g (lw_at lw_m6 33 rfl) rfl
theorem q1345 : (Jvm.Cond.methodLink "TollLeader$Weight$2" (19 : Nat) ({ cls := "TollLeader$Weight", name := "felt", desc := "(LTollLeader$State;LTollLeader$Arc;LTollLeader$Trip;)J" } : Jvm.MethodName)) ∈ lw_all := lw_g (lw_at lw_m6 34 rfl) rfl
theorem q1346 : (Jvm.Cond.constantLong "TollLeader$Weight$2" (25 : Nat) (16 : Int64)) ∈ lw_all := lw_g (lw_at lw_m6 35 rfl) rfl
theorem q1347 : (Jvm.Cond.methodLink "TollLeader$Weight$2" (31 : Nat) ({ cls := "TollLeader$State", name := "toll", desc := "(LTollLeader$Arc;)I" } : Jvm.MethodName)) ∈ lw_all := lw_g (lw_at lw_m6 36 rfl) rfl
theorem q3052 : (Jvm.Cond.initialized "TollLeader$Weight$2") ∈ lw_all := lw_g (lw_at lw_m13 61 rfl) rfl
theorem q3075 : (Jvm.Cond.castable "TollLeader$Weight$2" "java/lang/Object") ∈ lw_tbl := lw_at lw_m13 84 rfl
/-! TollLeader$Weight$1 -/
set_option maxRecDepth 100000
def RX15 : String := "TollLeader$Weight$1"
abbrev cX15_of : ByteArray := prog_13_method_2_code
def yX15_of : MethodName := ⟨RX15, "of", "(LTollLeader$State;LTollLeader$Arc;LTollLeader$Trip;)J"⟩
def dkwX15_of_0 : List UInt8 := [43, 44, 182, 0, 9, 153, 0, 12, 43, 44, 45, 184, 0, 15, 167, 0, 6, 20, 0, 21, 173]
abbrev dktX15_of_0 : List UInt8 := dkwX15_of_0 ++ []
theorem dksX15_of_0 : cX15_of.data.toList.drop 0 = dktX15_of_0 := by decide +kernel
theorem dX15_of_0 : decode cX15_of 0 = .ok (.aload_n 1, 1) := dk_43 (dk_at dksX15_of_0 0 rfl rfl)
theorem dX15_of_1 : decode cX15_of 1 = .ok (.aload_n 2, 1) := dk_44 (dk_at dksX15_of_0 1 rfl rfl)
theorem dX15_of_2 : decode cX15_of 2 = .ok (.invokevirtual 9, 3) := dk_182 0 9 (dk_at dksX15_of_0 2 rfl rfl)
theorem dX15_of_5 : decode cX15_of 5 = .ok (.ifCond .eq 12, 3) := dk_153 0 12 (dk_at dksX15_of_0 5 rfl rfl)
theorem dX15_of_8 : decode cX15_of 8 = .ok (.aload_n 1, 1) := dk_43 (dk_at dksX15_of_0 8 rfl rfl)
theorem dX15_of_9 : decode cX15_of 9 = .ok (.aload_n 2, 1) := dk_44 (dk_at dksX15_of_0 9 rfl rfl)
theorem dX15_of_10 : decode cX15_of 10 = .ok (.aload_n 3, 1) := dk_45 (dk_at dksX15_of_0 10 rfl rfl)
theorem dX15_of_11 : decode cX15_of 11 = .ok (.invokestatic 15, 3) := dk_184 0 15 (dk_at dksX15_of_0 11 rfl rfl)
theorem dX15_of_14 : decode cX15_of 14 = .ok (.goto 6, 3) := dk_167 0 6 (dk_at dksX15_of_0 14 rfl rfl)
theorem dX15_of_17 : decode cX15_of 17 = .ok (.ldc2_w 21, 3) := dk_20 0 21 (dk_at dksX15_of_0 17 rfl rfl)
theorem dX15_of_20 : decode cX15_of 20 = .ok (.lreturn, 1) := dk_173 (dk_at dksX15_of_0 20 rfl rfl)
theorem q989 : (Jvm.Cond.selects "TollLeader$Weight$1" ({ cls := "java/lang/Object", name := "getClass", desc := "()Ljava/lang/Class;" } : Jvm.MethodName) ({ cls := "java/lang/Object", name := "getClass", desc := "()Ljava/lang/Class;" } : Jvm.MethodName)) ∈ lw_all := lw_g (lw_at lw_m4 158 rfl) rfl
theorem q1294 : (Jvm.Cond.castable "TollLeader$Weight$1" "TollLeader$Weight") ∈ lw_tbl := lw_at lw_m5 223 rfl
theorem q1295 : (Jvm.Cond.selects "TollLeader$Weight$1" ({ cls := "TollLeader$Weight", name := "of", desc := "(LTollLeader$State;LTollLeader$Arc;LTollLeader$Trip;)J" } : Jvm.MethodName) ({ cls := "TollLeader$Weight$1", name := "of", desc := "(LTollLeader$State;LTollLeader$Arc;LTollLeader$Trip;)J" } : Jvm.MethodName)) ∈ lw_all := lw_g (lw_at lw_m5 224 rfl) rfl
theorem q1296 : (Jvm.Cond.unhidden "TollLeader$Weight$1" "of" "(LTollLeader$State;LTollLeader$Arc;LTollLeader$Trip;)J") ∈ lw_tbl := lw_at lw_m5 225 rfl
theorem q1297 : (Jvm.Cond.instanceMethod ({ cls := "TollLeader$Weight$1", name := "of", desc := "(LTollLeader$State;LTollLeader$Arc;LTollLeader$Trip;)J" } : Jvm.MethodName)) ∈ lw_all := lw_g (lw_at lw_m5 226 rfl) rfl
theorem q1298 : (Jvm.Cond.publicMethod ({ cls := "TollLeader$Weight$1", name := "of", desc := "(LTollLeader$State;LTollLeader$Arc;LTollLeader$Trip;)J" } : Jvm.MethodName)) ∈ lw_tbl := lw_at lw_m5 227 rfl
theorem q1299 : (Jvm.Cond.code ({ cls := "TollLeader$Weight$1", name := "of", desc := "(LTollLeader$State;LTollLeader$Arc;LTollLeader$Trip;)J" } : Jvm.MethodName) prog_13_method_2_code (4 : Nat) (Option.some Jvm.ClassFile.FieldType.long)) ∈ lw_all := lw_g (lw_at lw_m5 228 rfl) rfl
theorem q1300 : (Jvm.Cond.methodLink "TollLeader$Weight$1" (9 : Nat) ({ cls := "TollLeader$State", name := "isOpen", desc := "(LTollLeader$Arc;)Z" } : Jvm.MethodName)) ∈ lw_all := lw_g (lw_at lw_m5 229 rfl) rfl
theorem q1320 : (Jvm.Cond.methodLink "TollLeader$Weight$1" (15 : Nat) ({ cls := "TollLeader$Weight", name := "felt", desc := "(LTollLeader$State;LTollLeader$Arc;LTollLeader$Trip;)J" } : Jvm.MethodName)) ∈ lw_all := lw_g (lw_at lw_m6 9 rfl) rfl
theorem q1335 : (Jvm.Cond.constantLong "TollLeader$Weight$1" (21 : Nat) (-1 : Int64)) ∈ lw_all := lw_g (lw_at lw_m6 24 rfl) rfl
theorem q3051 : (Jvm.Cond.initialized "TollLeader$Weight$1") ∈ lw_all := lw_g (lw_at lw_m13 60 rfl) rfl
theorem q3079 : (Jvm.Cond.castable "TollLeader$Weight$1" "java/lang/Object") ∈ lw_tbl := lw_at lw_m13 88 rfl
/-! TollLeader$Weight$3 -/
set_option maxRecDepth 100000
def RX16 : String := "TollLeader$Weight$3"
abbrev cX16_of : ByteArray := prog_15_method_2_code
def yX16_of : MethodName := ⟨RX16, "of", "(LTollLeader$State;LTollLeader$Arc;LTollLeader$Trip;)J"⟩
def dkwX16_of_1 : List UInt8 := [20, 0, 27, 173, 45, 182, 0, 29, 133, 44, 182, 0, 34, 133, 105, 173]
abbrev dktX16_of_1 : List UInt8 := dkwX16_of_1 ++ []
def dkwX16_of_0 : List UInt8 := [43, 44, 182, 0, 15, 153, 0, 17, 42, 180, 0, 3, 154, 0, 14, 44, 182, 0, 21, 158, 0, 7]
abbrev dktX16_of_0 : List UInt8 := dkwX16_of_0 ++ dktX16_of_1
theorem dksX16_of_0 : cX16_of.data.toList.drop 0 = dktX16_of_0 := by decide +kernel
theorem dksX16_of_1 : cX16_of.data.toList.drop 22 = dktX16_of_1 := dk_seg dksX16_of_0 22 rfl rfl
theorem dX16_of_0 : decode cX16_of 0 = .ok (.aload_n 1, 1) := dk_43 (dk_at dksX16_of_0 0 rfl rfl)
theorem dX16_of_1 : decode cX16_of 1 = .ok (.aload_n 2, 1) := dk_44 (dk_at dksX16_of_0 1 rfl rfl)
theorem dX16_of_2 : decode cX16_of 2 = .ok (.invokevirtual 15, 3) := dk_182 0 15 (dk_at dksX16_of_0 2 rfl rfl)
theorem dX16_of_5 : decode cX16_of 5 = .ok (.ifCond .eq 17, 3) := dk_153 0 17 (dk_at dksX16_of_0 5 rfl rfl)
theorem dX16_of_8 : decode cX16_of 8 = .ok (.aload_n 0, 1) := dk_42 (dk_at dksX16_of_0 8 rfl rfl)
theorem dX16_of_9 : decode cX16_of 9 = .ok (.getfield 3, 3) := dk_180 0 3 (dk_at dksX16_of_0 9 rfl rfl)
theorem dX16_of_12 : decode cX16_of 12 = .ok (.ifCond .ne 14, 3) := dk_154 0 14 (dk_at dksX16_of_0 12 rfl rfl)
theorem dX16_of_15 : decode cX16_of 15 = .ok (.aload_n 2, 1) := dk_44 (dk_at dksX16_of_0 15 rfl rfl)
theorem dX16_of_16 : decode cX16_of 16 = .ok (.invokevirtual 21, 3) := dk_182 0 21 (dk_at dksX16_of_0 16 rfl rfl)
theorem dX16_of_19 : decode cX16_of 19 = .ok (.ifCond .le 7, 3) := dk_158 0 7 (dk_at dksX16_of_0 19 rfl rfl)
theorem dX16_of_22 : decode cX16_of 22 = .ok (.ldc2_w 27, 3) := dk_20 0 27 (dk_at dksX16_of_1 0 rfl rfl)
theorem dX16_of_25 : decode cX16_of 25 = .ok (.lreturn, 1) := dk_173 (dk_at dksX16_of_1 3 rfl rfl)
theorem dX16_of_26 : decode cX16_of 26 = .ok (.aload_n 3, 1) := dk_45 (dk_at dksX16_of_1 4 rfl rfl)
theorem dX16_of_27 : decode cX16_of 27 = .ok (.invokevirtual 29, 3) := dk_182 0 29 (dk_at dksX16_of_1 5 rfl rfl)
theorem dX16_of_30 : decode cX16_of 30 = .ok (.i2l, 1) := dk_133 (dk_at dksX16_of_1 8 rfl rfl)
theorem dX16_of_31 : decode cX16_of 31 = .ok (.aload_n 2, 1) := dk_44 (dk_at dksX16_of_1 9 rfl rfl)
theorem dX16_of_32 : decode cX16_of 32 = .ok (.invokevirtual 34, 3) := dk_182 0 34 (dk_at dksX16_of_1 10 rfl rfl)
theorem dX16_of_35 : decode cX16_of 35 = .ok (.i2l, 1) := dk_133 (dk_at dksX16_of_1 13 rfl rfl)
theorem dX16_of_36 : decode cX16_of 36 = .ok (.lmul, 1) := dk_105 (dk_at dksX16_of_1 14 rfl rfl)
theorem dX16_of_37 : decode cX16_of 37 = .ok (.lreturn, 1) := dk_173 (dk_at dksX16_of_1 15 rfl rfl)
theorem q991 : (Jvm.Cond.selects "TollLeader$Weight$3" ({ cls := "java/lang/Object", name := "getClass", desc := "()Ljava/lang/Class;" } : Jvm.MethodName) ({ cls := "java/lang/Object", name := "getClass", desc := "()Ljava/lang/Class;" } : Jvm.MethodName)) ∈ lw_all := lw_g (lw_at lw_m4 160 rfl) rfl
theorem q1348 : (Jvm.Cond.castable "TollLeader$Weight$3" "TollLeader$Weight") ∈ lw_tbl := lw_at lw_m6 37 rfl
theorem q1349 : (Jvm.Cond.selects "TollLeader$Weight$3" ({ cls := "TollLeader$Weight", name := "of", desc := "(LTollLeader$State;LTollLeader$Arc;LTollLeader$Trip;)J" } : Jvm.MethodName) ({ cls := "TollLeader$Weight$3", name := "of", desc := "(LTollLeader$State;LTollLeader$Arc;LTollLeader$Trip;)J" } : Jvm.MethodName)) ∈ lw_all := lw_g (lw_at lw_m6 38 rfl) rfl
theorem q1350 : (Jvm.Cond.unhidden "TollLeader$Weight$3" "of" "(LTollLeader$State;LTollLeader$Arc;LTollLeader$Trip;)J") ∈ lw_tbl := lw_at lw_m6 39 rfl
theorem q1351 : (Jvm.Cond.instanceMethod ({ cls := "TollLeader$Weight$3", name := "of", desc := "(LTollLeader$State;LTollLeader$Arc;LTollLeader$Trip;)J" } : Jvm.MethodName)) ∈ lw_all := lw_g (lw_at lw_m6 40 rfl) rfl
theorem q1352 : (Jvm.Cond.publicMethod ({ cls := "TollLeader$Weight$3", name := "of", desc := "(LTollLeader$State;LTollLeader$Arc;LTollLeader$Trip;)J" } : Jvm.MethodName)) ∈ lw_tbl := lw_at lw_m6 41 rfl
theorem q1353 : (Jvm.Cond.code ({ cls := "TollLeader$Weight$3", name := "of", desc := "(LTollLeader$State;LTollLeader$Arc;LTollLeader$Trip;)J" } : Jvm.MethodName) prog_15_method_2_code (4 : Nat) (Option.some Jvm.ClassFile.FieldType.long)) ∈ lw_all := lw_g (lw_at lw_m6 42 rfl) rfl
theorem q1354 : (Jvm.Cond.methodLink "TollLeader$Weight$3" (15 : Nat) ({ cls := "TollLeader$State", name := "isOpen", desc := "(LTollLeader$Arc;)Z" } : Jvm.MethodName)) ∈ lw_all := lw_g (lw_at lw_m6 43 rfl) rfl
theorem q1355 : (Jvm.Cond.methodLink "TollLeader$Weight$3" (21 : Nat) ({ cls := "TollLeader$Arc", name := "most", desc := "()I" } : Jvm.MethodName)) ∈ lw_all := lw_g (lw_at lw_m6 44 rfl) rfl
theorem q1359 : (Jvm.Cond.constantLong "TollLeader$Weight$3" (27 : Nat) (-1 : Int64)) ∈ lw_all := lw_g (lw_at lw_m6 48 rfl) rfl
theorem q1360 : (Jvm.Cond.methodLink "TollLeader$Weight$3" (29 : Nat) ({ cls := "TollLeader$Trip", name := "value", desc := "()I" } : Jvm.MethodName)) ∈ lw_all := lw_g (lw_at lw_m6 49 rfl) rfl
theorem q1361 : (Jvm.Cond.methodLink "TollLeader$Weight$3" (34 : Nat) ({ cls := "TollLeader$Arc", name := "cost", desc := "()I" } : Jvm.MethodName)) ∈ lw_all := lw_g (lw_at lw_m6 50 rfl) rfl
theorem q3053 : (Jvm.Cond.initialized "TollLeader$Weight$3") ∈ lw_all := lw_g (lw_at lw_m13 62 rfl) rfl
theorem q3083 : (Jvm.Cond.castable "TollLeader$Weight$3" "java/lang/Object") ∈ lw_tbl := lw_at lw_m13 92 rfl
theorem q3108 : (Jvm.Cond.fieldLink "TollLeader$Weight$3" (3 : Nat) "TollLeader$Weight$3" "val$withToll" "Z") ∈ lw_all := lw_g (lw_at lw_m13 117 rfl) rfl

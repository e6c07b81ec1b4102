/-! TollLeaderModel -/
set_option maxRecDepth 100000
def RX5 : String := "TollLeaderModel"
def TX5 : u_T := fun k => match k with
  | 0 => ("TollLeaderModel", "now", "[I", true)
  | 1 => ("TollLeaderModel", "read", "[I", true)
  | 2 => ("TollLeaderModel", "copies", "[I", true)
  | 3 => ("TollLeaderModel", "past", "[I", true)
  | 4 => ("TollLeaderModel", "isSaved", "[Z", true)
  | 5 => ("TollLeaderModel", "pastMany", "I", false)
  | 6 => ("TollLeaderModel", "thrown", "I", false)
  | 7 => ("TollLeaderModel", "buffer", "[B", true)
  | 8 => ("TollLeaderModel", "length", "I", false)
  | 9 => ("TollLeaderModel", "at", "I", false)
  | 10 => ("TollLeaderModel", "begin", "I", false)
  | 11 => ("TollLeaderModel", "error", "I", false)
  | 12 => ("TollLeaderModel", "errorAt", "I", false)
  | 13 => ("TollLeaderModel", "statement", "I", false)
  | 14 => ("TollLeaderModel", "lastError", "I", false)
  | 15 => ("TollLeaderModel", "lastStatement", "I", false)
  | 16 => ("TollLeaderModel", "far", "[J", true)
  | 17 => ("TollLeaderModel", "awayNodes", "I", false)
  | 18 => ("TollLeaderModel", "awayArc", "I", false)
  | 19 => ("TollLeaderModel", "isFree", "Z", false)
  | 20 => ("TollLeaderModel", "path", "[I", true)
  | 21 => ("TollLeaderModel", "pathMany", "I", false)
  | 22 => ("TollLeaderModel", "least", "[I", true)
  | 23 => ("TollLeaderModel", "high", "[I", true)
  | 24 => ("TollLeaderModel", "low", "[I", true)
  | 25 => ("TollLeaderModel", "many", "[J", true)
  | 26 => ("TollLeaderModel", "tollsAside", "[I", true)
  | 27 => ("TollLeaderModel", "turns", "[I", true)
  | 28 => ("TollLeaderModel", "turnMany", "I", false)
  | 29 => ("TollLeaderModel", "bestRevenue", "J", false)
  | 30 => ("TollLeaderModel", "own", "[I", true)
  | 31 => ("TollLeaderModel", "output", "[B", true)
  | _ => ("TollLeaderModel", "written", "I", false)
def tyX5 : Nat → FieldType := fun k => match k with
  | 0 => .array .int
  | 1 => .array .int
  | 2 => .array .int
  | 3 => .array .int
  | 4 => .array .boolean
  | 5 => .int
  | 6 => .int
  | 7 => .array .byte
  | 8 => .int
  | 9 => .int
  | 10 => .int
  | 11 => .int
  | 12 => .int
  | 13 => .int
  | 14 => .int
  | 15 => .int
  | 16 => .array .long
  | 17 => .int
  | 18 => .int
  | 19 => .boolean
  | 20 => .array .int
  | 21 => .int
  | 22 => .array .int
  | 23 => .array .int
  | 24 => .array .int
  | 25 => .array .long
  | 26 => .array .int
  | 27 => .array .int
  | 28 => .int
  | 29 => .long
  | 30 => .array .int
  | 31 => .array .byte
  | _ => .int
abbrev wsX50 : List Cond := u_ws RX5 TX5 33
set_option maxRecDepth 100000 in
theorem nmX5 : ∀ a, a < 33 → ∀ b, b < 33 → a ≠ b → (TX5 a).2.1 ≠ (TX5 b).2.1 := by decide +kernel
set_option maxRecDepth 100000 in
theorem tyX5_ok : ∀ k, k < 33 → parseFieldDescriptor (TX5 k).2.2.1 = some (tyX5 k) := by decide +kernel
abbrev cX5_init : ByteArray := prog_17_method_1_code
def yX5_init : MethodName := ⟨RX5, "<init>", "()V"⟩
def dkwX5_init_6 : List UInt8 := [188, 8, 181, 0, 67, 42, 180, 0, 11, 184, 0, 70, 42, 180, 0, 11, 3, 5, 79, 177]
abbrev dktX5_init_6 : List UInt8 := dkwX5_init_6 ++ []
def dkwX5_init_5 : List UInt8 := [181, 0, 58, 42, 16, 14, 188, 10, 181, 0, 61, 42, 16, 10, 188, 10, 181, 0, 64, 42, 17, 1, 0]
abbrev dktX5_init_5 : List UInt8 := dkwX5_init_5 ++ dktX5_init_6
def dkwX5_init_4 : List UInt8 := [181, 0, 49, 42, 16, 10, 188, 10, 181, 0, 52, 42, 16, 10, 188, 11, 181, 0, 55, 42, 16, 24, 188, 10]
abbrev dktX5_init_4 : List UInt8 := dkwX5_init_4 ++ dktX5_init_5
def dkwX5_init_3 : List UInt8 := [181, 0, 40, 42, 16, 10, 188, 10, 181, 0, 43, 42, 16, 10, 188, 10, 181, 0, 46, 42, 16, 10, 188, 10]
abbrev dktX5_init_3 : List UInt8 := dkwX5_init_3 ++ dktX5_init_4
def dkwX5_init_2 : List UInt8 := [42, 17, 2, 88, 188, 8, 181, 0, 28, 42, 2, 181, 0, 32, 42, 16, 10, 188, 11, 181, 0, 36, 42, 2]
abbrev dktX5_init_2 : List UInt8 := dkwX5_init_2 ++ dktX5_init_3
def dkwX5_init_1 : List UInt8 := [17, 1, 88, 188, 10, 181, 0, 18, 42, 17, 8, 16, 188, 10, 181, 0, 21, 42, 5, 188, 4, 181, 0, 24]
abbrev dktX5_init_1 : List UInt8 := dkwX5_init_1 ++ dktX5_init_2
def dkwX5_init_0 : List UInt8 := [42, 183, 0, 5, 42, 17, 0, 172, 188, 10, 181, 0, 11, 42, 17, 0, 172, 188, 10, 181, 0, 15, 42]
abbrev dktX5_init_0 : List UInt8 := dkwX5_init_0 ++ dktX5_init_1
theorem dksX5_init_0 : cX5_init.data.toList.drop 0 = dktX5_init_0 := by decide +kernel
theorem dksX5_init_1 : cX5_init.data.toList.drop 23 = dktX5_init_1 := dk_seg dksX5_init_0 23 rfl rfl
theorem dksX5_init_2 : cX5_init.data.toList.drop 47 = dktX5_init_2 := dk_seg dksX5_init_1 24 rfl rfl
theorem dksX5_init_3 : cX5_init.data.toList.drop 71 = dktX5_init_3 := dk_seg dksX5_init_2 24 rfl rfl
theorem dksX5_init_4 : cX5_init.data.toList.drop 95 = dktX5_init_4 := dk_seg dksX5_init_3 24 rfl rfl
theorem dksX5_init_5 : cX5_init.data.toList.drop 119 = dktX5_init_5 := dk_seg dksX5_init_4 24 rfl rfl
theorem dksX5_init_6 : cX5_init.data.toList.drop 142 = dktX5_init_6 := dk_seg dksX5_init_5 23 rfl rfl
theorem dX5_init_0 : decode cX5_init 0 = .ok (.aload_n 0, 1) := dk_42 (dk_at dksX5_init_0 0 rfl rfl)
theorem dX5_init_1 : decode cX5_init 1 = .ok (.invokespecial 5, 3) := dk_183 0 5 (dk_at dksX5_init_0 1 rfl rfl)
theorem dX5_init_4 : decode cX5_init 4 = .ok (.aload_n 0, 1) := dk_42 (dk_at dksX5_init_0 4 rfl rfl)
theorem dX5_init_5 : decode cX5_init 5 = .ok (.sipush 172, 3) := dk_17 0 172 (dk_at dksX5_init_0 5 rfl rfl)
theorem dX5_init_8 : decode cX5_init 8 = .ok (.newarray .int, 2) := dk_188_10 (dk_at dksX5_init_0 8 rfl rfl)
theorem dX5_init_10 : decode cX5_init 10 = .ok (.putfield 11, 3) := dk_181 0 11 (dk_at dksX5_init_0 10 rfl rfl)
theorem dX5_init_13 : decode cX5_init 13 = .ok (.aload_n 0, 1) := dk_42 (dk_at dksX5_init_0 13 rfl rfl)
theorem dX5_init_14 : decode cX5_init 14 = .ok (.sipush 172, 3) := dk_17 0 172 (dk_at dksX5_init_0 14 rfl rfl)
theorem dX5_init_17 : decode cX5_init 17 = .ok (.newarray .int, 2) := dk_188_10 (dk_at dksX5_init_0 17 rfl rfl)
theorem dX5_init_19 : decode cX5_init 19 = .ok (.putfield 15, 3) := dk_181 0 15 (dk_at dksX5_init_0 19 rfl rfl)
theorem dX5_init_22 : decode cX5_init 22 = .ok (.aload_n 0, 1) := dk_42 (dk_at dksX5_init_0 22 rfl rfl)
theorem dX5_init_23 : decode cX5_init 23 = .ok (.sipush 344, 3) := dk_17 1 88 (dk_at dksX5_init_1 0 rfl rfl)
theorem dX5_init_26 : decode cX5_init 26 = .ok (.newarray .int, 2) := dk_188_10 (dk_at dksX5_init_1 3 rfl rfl)
theorem dX5_init_28 : decode cX5_init 28 = .ok (.putfield 18, 3) := dk_181 0 18 (dk_at dksX5_init_1 5 rfl rfl)
theorem dX5_init_31 : decode cX5_init 31 = .ok (.aload_n 0, 1) := dk_42 (dk_at dksX5_init_1 8 rfl rfl)
theorem dX5_init_32 : decode cX5_init 32 = .ok (.sipush 2064, 3) := dk_17 8 16 (dk_at dksX5_init_1 9 rfl rfl)
theorem dX5_init_35 : decode cX5_init 35 = .ok (.newarray .int, 2) := dk_188_10 (dk_at dksX5_init_1 12 rfl rfl)
theorem dX5_init_37 : decode cX5_init 37 = .ok (.putfield 21, 3) := dk_181 0 21 (dk_at dksX5_init_1 14 rfl rfl)
theorem dX5_init_40 : decode cX5_init 40 = .ok (.aload_n 0, 1) := dk_42 (dk_at dksX5_init_1 17 rfl rfl)
theorem dX5_init_41 : decode cX5_init 41 = .ok (.iconst 2, 1) := dk_5 (dk_at dksX5_init_1 18 rfl rfl)
theorem dX5_init_42 : decode cX5_init 42 = .ok (.newarray .boolean, 2) := dk_188_4 (dk_at dksX5_init_1 19 rfl rfl)
theorem dX5_init_44 : decode cX5_init 44 = .ok (.putfield 24, 3) := dk_181 0 24 (dk_at dksX5_init_1 21 rfl rfl)
theorem dX5_init_47 : decode cX5_init 47 = .ok (.aload_n 0, 1) := dk_42 (dk_at dksX5_init_2 0 rfl rfl)
theorem dX5_init_48 : decode cX5_init 48 = .ok (.sipush 600, 3) := dk_17 2 88 (dk_at dksX5_init_2 1 rfl rfl)
theorem dX5_init_51 : decode cX5_init 51 = .ok (.newarray .byte, 2) := dk_188_8 (dk_at dksX5_init_2 4 rfl rfl)
theorem dX5_init_53 : decode cX5_init 53 = .ok (.putfield 28, 3) := dk_181 0 28 (dk_at dksX5_init_2 6 rfl rfl)
theorem dX5_init_56 : decode cX5_init 56 = .ok (.aload_n 0, 1) := dk_42 (dk_at dksX5_init_2 9 rfl rfl)
theorem dX5_init_57 : decode cX5_init 57 = .ok (.iconst (-1), 1) := dk_2 (dk_at dksX5_init_2 10 rfl rfl)
theorem dX5_init_58 : decode cX5_init 58 = .ok (.putfield 32, 3) := dk_181 0 32 (dk_at dksX5_init_2 11 rfl rfl)
theorem dX5_init_61 : decode cX5_init 61 = .ok (.aload_n 0, 1) := dk_42 (dk_at dksX5_init_2 14 rfl rfl)
theorem dX5_init_62 : decode cX5_init 62 = .ok (.bipush 10, 2) := dk_16 10 (dk_at dksX5_init_2 15 rfl rfl)
theorem dX5_init_64 : decode cX5_init 64 = .ok (.newarray .long, 2) := dk_188_11 (dk_at dksX5_init_2 17 rfl rfl)
theorem dX5_init_66 : decode cX5_init 66 = .ok (.putfield 36, 3) := dk_181 0 36 (dk_at dksX5_init_2 19 rfl rfl)
theorem dX5_init_69 : decode cX5_init 69 = .ok (.aload_n 0, 1) := dk_42 (dk_at dksX5_init_2 22 rfl rfl)
theorem dX5_init_70 : decode cX5_init 70 = .ok (.iconst (-1), 1) := dk_2 (dk_at dksX5_init_2 23 rfl rfl)
theorem dX5_init_71 : decode cX5_init 71 = .ok (.putfield 40, 3) := dk_181 0 40 (dk_at dksX5_init_3 0 rfl rfl)
theorem dX5_init_74 : decode cX5_init 74 = .ok (.aload_n 0, 1) := dk_42 (dk_at dksX5_init_3 3 rfl rfl)
theorem dX5_init_75 : decode cX5_init 75 = .ok (.bipush 10, 2) := dk_16 10 (dk_at dksX5_init_3 4 rfl rfl)
theorem dX5_init_77 : decode cX5_init 77 = .ok (.newarray .int, 2) := dk_188_10 (dk_at dksX5_init_3 6 rfl rfl)
theorem dX5_init_79 : decode cX5_init 79 = .ok (.putfield 43, 3) := dk_181 0 43 (dk_at dksX5_init_3 8 rfl rfl)
theorem dX5_init_82 : decode cX5_init 82 = .ok (.aload_n 0, 1) := dk_42 (dk_at dksX5_init_3 11 rfl rfl)
theorem dX5_init_83 : decode cX5_init 83 = .ok (.bipush 10, 2) := dk_16 10 (dk_at dksX5_init_3 12 rfl rfl)
theorem dX5_init_85 : decode cX5_init 85 = .ok (.newarray .int, 2) := dk_188_10 (dk_at dksX5_init_3 14 rfl rfl)
theorem dX5_init_87 : decode cX5_init 87 = .ok (.putfield 46, 3) := dk_181 0 46 (dk_at dksX5_init_3 16 rfl rfl)
theorem dX5_init_90 : decode cX5_init 90 = .ok (.aload_n 0, 1) := dk_42 (dk_at dksX5_init_3 19 rfl rfl)
theorem dX5_init_91 : decode cX5_init 91 = .ok (.bipush 10, 2) := dk_16 10 (dk_at dksX5_init_3 20 rfl rfl)
theorem dX5_init_93 : decode cX5_init 93 = .ok (.newarray .int, 2) := dk_188_10 (dk_at dksX5_init_3 22 rfl rfl)
theorem dX5_init_95 : decode cX5_init 95 = .ok (.putfield 49, 3) := dk_181 0 49 (dk_at dksX5_init_4 0 rfl rfl)
theorem dX5_init_98 : decode cX5_init 98 = .ok (.aload_n 0, 1) := dk_42 (dk_at dksX5_init_4 3 rfl rfl)
theorem dX5_init_99 : decode cX5_init 99 = .ok (.bipush 10, 2) := dk_16 10 (dk_at dksX5_init_4 4 rfl rfl)
theorem dX5_init_101 : decode cX5_init 101 = .ok (.newarray .int, 2) := dk_188_10 (dk_at dksX5_init_4 6 rfl rfl)
theorem dX5_init_103 : decode cX5_init 103 = .ok (.putfield 52, 3) := dk_181 0 52 (dk_at dksX5_init_4 8 rfl rfl)
theorem dX5_init_106 : decode cX5_init 106 = .ok (.aload_n 0, 1) := dk_42 (dk_at dksX5_init_4 11 rfl rfl)
theorem dX5_init_107 : decode cX5_init 107 = .ok (.bipush 10, 2) := dk_16 10 (dk_at dksX5_init_4 12 rfl rfl)
theorem dX5_init_109 : decode cX5_init 109 = .ok (.newarray .long, 2) := dk_188_11 (dk_at dksX5_init_4 14 rfl rfl)
theorem dX5_init_111 : decode cX5_init 111 = .ok (.putfield 55, 3) := dk_181 0 55 (dk_at dksX5_init_4 16 rfl rfl)
theorem dX5_init_114 : decode cX5_init 114 = .ok (.aload_n 0, 1) := dk_42 (dk_at dksX5_init_4 19 rfl rfl)
theorem dX5_init_115 : decode cX5_init 115 = .ok (.bipush 24, 2) := dk_16 24 (dk_at dksX5_init_4 20 rfl rfl)
theorem dX5_init_117 : decode cX5_init 117 = .ok (.newarray .int, 2) := dk_188_10 (dk_at dksX5_init_4 22 rfl rfl)
theorem dX5_init_119 : decode cX5_init 119 = .ok (.putfield 58, 3) := dk_181 0 58 (dk_at dksX5_init_5 0 rfl rfl)
theorem dX5_init_122 : decode cX5_init 122 = .ok (.aload_n 0, 1) := dk_42 (dk_at dksX5_init_5 3 rfl rfl)
theorem dX5_init_123 : decode cX5_init 123 = .ok (.bipush 14, 2) := dk_16 14 (dk_at dksX5_init_5 4 rfl rfl)
theorem dX5_init_125 : decode cX5_init 125 = .ok (.newarray .int, 2) := dk_188_10 (dk_at dksX5_init_5 6 rfl rfl)
theorem dX5_init_127 : decode cX5_init 127 = .ok (.putfield 61, 3) := dk_181 0 61 (dk_at dksX5_init_5 8 rfl rfl)
theorem dX5_init_130 : decode cX5_init 130 = .ok (.aload_n 0, 1) := dk_42 (dk_at dksX5_init_5 11 rfl rfl)
theorem dX5_init_131 : decode cX5_init 131 = .ok (.bipush 10, 2) := dk_16 10 (dk_at dksX5_init_5 12 rfl rfl)
theorem dX5_init_133 : decode cX5_init 133 = .ok (.newarray .int, 2) := dk_188_10 (dk_at dksX5_init_5 14 rfl rfl)
theorem dX5_init_135 : decode cX5_init 135 = .ok (.putfield 64, 3) := dk_181 0 64 (dk_at dksX5_init_5 16 rfl rfl)
theorem dX5_init_138 : decode cX5_init 138 = .ok (.aload_n 0, 1) := dk_42 (dk_at dksX5_init_5 19 rfl rfl)
theorem dX5_init_139 : decode cX5_init 139 = .ok (.sipush 256, 3) := dk_17 1 0 (dk_at dksX5_init_5 20 rfl rfl)
theorem dX5_init_142 : decode cX5_init 142 = .ok (.newarray .byte, 2) := dk_188_8 (dk_at dksX5_init_6 0 rfl rfl)
theorem dX5_init_144 : decode cX5_init 144 = .ok (.putfield 67, 3) := dk_181 0 67 (dk_at dksX5_init_6 2 rfl rfl)
theorem dX5_init_147 : decode cX5_init 147 = .ok (.aload_n 0, 1) := dk_42 (dk_at dksX5_init_6 5 rfl rfl)
theorem dX5_init_148 : decode cX5_init 148 = .ok (.getfield 11, 3) := dk_180 0 11 (dk_at dksX5_init_6 6 rfl rfl)
theorem dX5_init_151 : decode cX5_init 151 = .ok (.invokestatic 70, 3) := dk_184 0 70 (dk_at dksX5_init_6 9 rfl rfl)
theorem dX5_init_154 : decode cX5_init 154 = .ok (.aload_n 0, 1) := dk_42 (dk_at dksX5_init_6 12 rfl rfl)
theorem dX5_init_155 : decode cX5_init 155 = .ok (.getfield 11, 3) := dk_180 0 11 (dk_at dksX5_init_6 13 rfl rfl)
theorem dX5_init_158 : decode cX5_init 158 = .ok (.iconst 0, 1) := dk_3 (dk_at dksX5_init_6 16 rfl rfl)
theorem dX5_init_159 : decode cX5_init 159 = .ok (.iconst 2, 1) := dk_5 (dk_at dksX5_init_6 17 rfl rfl)
theorem dX5_init_160 : decode cX5_init 160 = .ok (.iastore, 1) := dk_79 (dk_at dksX5_init_6 18 rfl rfl)
theorem dX5_init_161 : decode cX5_init 161 = .ok (.return_, 1) := dk_177 (dk_at dksX5_init_6 19 rfl rfl)
abbrev cX5_begins : ByteArray := prog_17_method_5_code
def yX5_begins : MethodName := ⟨RX5, "begins", "([I)V"⟩
def dkwX5_begins_0 : List UInt8 := [3, 60, 27, 17, 0, 172, 162, 0, 13, 42, 27, 3, 79, 132, 1, 1, 167, 255, 242, 42, 6, 4, 79, 177]
abbrev dktX5_begins_0 : List UInt8 := dkwX5_begins_0 ++ []
theorem dksX5_begins_0 : cX5_begins.data.toList.drop 0 = dktX5_begins_0 := by decide +kernel
theorem dX5_begins_0 : decode cX5_begins 0 = .ok (.iconst 0, 1) := dk_3 (dk_at dksX5_begins_0 0 rfl rfl)
theorem dX5_begins_1 : decode cX5_begins 1 = .ok (.istore_n 1, 1) := dk_60 (dk_at dksX5_begins_0 1 rfl rfl)
theorem dX5_begins_2 : decode cX5_begins 2 = .ok (.iload_n 1, 1) := dk_27 (dk_at dksX5_begins_0 2 rfl rfl)
theorem dX5_begins_3 : decode cX5_begins 3 = .ok (.sipush 172, 3) := dk_17 0 172 (dk_at dksX5_begins_0 3 rfl rfl)
theorem dX5_begins_6 : decode cX5_begins 6 = .ok (.if_icmp .ge 13, 3) := dk_162 0 13 (dk_at dksX5_begins_0 6 rfl rfl)
theorem dX5_begins_9 : decode cX5_begins 9 = .ok (.aload_n 0, 1) := dk_42 (dk_at dksX5_begins_0 9 rfl rfl)
theorem dX5_begins_10 : decode cX5_begins 10 = .ok (.iload_n 1, 1) := dk_27 (dk_at dksX5_begins_0 10 rfl rfl)
theorem dX5_begins_11 : decode cX5_begins 11 = .ok (.iconst 0, 1) := dk_3 (dk_at dksX5_begins_0 11 rfl rfl)
theorem dX5_begins_12 : decode cX5_begins 12 = .ok (.iastore, 1) := dk_79 (dk_at dksX5_begins_0 12 rfl rfl)
theorem dX5_begins_13 : decode cX5_begins 13 = .ok (.iinc 1 1, 3) := dk_132 1 1 (dk_at dksX5_begins_0 13 rfl rfl)
theorem dX5_begins_16 : decode cX5_begins 16 = .ok (.goto (-14), 3) := dk_167 255 242 (dk_at dksX5_begins_0 16 rfl rfl)
theorem dX5_begins_19 : decode cX5_begins 19 = .ok (.aload_n 0, 1) := dk_42 (dk_at dksX5_begins_0 19 rfl rfl)
theorem dX5_begins_20 : decode cX5_begins 20 = .ok (.iconst 3, 1) := dk_6 (dk_at dksX5_begins_0 20 rfl rfl)
theorem dX5_begins_21 : decode cX5_begins 21 = .ok (.iconst 1, 1) := dk_4 (dk_at dksX5_begins_0 21 rfl rfl)
theorem dX5_begins_22 : decode cX5_begins 22 = .ok (.iastore, 1) := dk_79 (dk_at dksX5_begins_0 22 rfl rfl)
theorem dX5_begins_23 : decode cX5_begins 23 = .ok (.return_, 1) := dk_177 (dk_at dksX5_begins_0 23 rfl rfl)
abbrev cX5_thrown : ByteArray := prog_17_method_2_code
def yX5_thrown : MethodName := ⟨RX5, "thrown", "()I"⟩
theorem dX5_thrown_0 : decode cX5_thrown 0 = .ok (.aload_n 0, 1) := by decide +kernel
theorem dX5_thrown_1 : decode cX5_thrown 1 = .ok (.getfield 74, 3) := by decide +kernel
theorem dX5_thrown_4 : decode cX5_thrown 4 = .ok (.ireturn, 1) := by decide +kernel
abbrev cX5_append : ByteArray := prog_17_method_13_code
def yX5_append : MethodName := ⟨RX5, "append", "(J)I"⟩
def dkwX5_append_4 : List UInt8 := [180, 0, 91, 4, 96, 181, 0, 91, 132, 4, 1, 167, 255, 211, 42, 180, 0, 91, 172]
abbrev dktX5_append_4 : List UInt8 := dkwX5_append_4 ++ []
def dkwX5_append_3 : List UInt8 := [184, 0, 87, 153, 0, 29, 42, 180, 0, 28, 42, 180, 0, 91, 31, 21, 4, 184, 0, 87, 145, 84, 42, 89]
abbrev dktX5_append_3 : List UInt8 := dkwX5_append_3 ++ dktX5_append_4
def dkwX5_append_2 : List UInt8 := [17, 2, 88, 164, 0, 6, 16, 254, 172, 3, 54, 4, 21, 4, 16, 8, 162, 0, 44, 31, 21, 4]
abbrev dktX5_append_2 : List UInt8 := dkwX5_append_2 ++ dktX5_append_3
def dkwX5_append_1 : List UInt8 := [154, 0, 7, 3, 167, 0, 4, 4, 96, 62, 132, 4, 1, 167, 255, 229, 42, 180, 0, 91, 29, 96]
abbrev dktX5_append_1 : List UInt8 := dkwX5_append_1 ++ dktX5_append_2
def dkwX5_append_0 : List UInt8 := [42, 3, 181, 0, 74, 3, 62, 3, 54, 4, 21, 4, 16, 8, 162, 0, 26, 29, 31, 21, 4, 184, 0, 87]
abbrev dktX5_append_0 : List UInt8 := dkwX5_append_0 ++ dktX5_append_1
theorem dksX5_append_0 : cX5_append.data.toList.drop 0 = dktX5_append_0 := by decide +kernel
theorem dksX5_append_1 : cX5_append.data.toList.drop 24 = dktX5_append_1 := dk_seg dksX5_append_0 24 rfl rfl
theorem dksX5_append_2 : cX5_append.data.toList.drop 46 = dktX5_append_2 := dk_seg dksX5_append_1 22 rfl rfl
theorem dksX5_append_3 : cX5_append.data.toList.drop 68 = dktX5_append_3 := dk_seg dksX5_append_2 22 rfl rfl
theorem dksX5_append_4 : cX5_append.data.toList.drop 92 = dktX5_append_4 := dk_seg dksX5_append_3 24 rfl rfl
theorem dX5_append_0 : decode cX5_append 0 = .ok (.aload_n 0, 1) := dk_42 (dk_at dksX5_append_0 0 rfl rfl)
theorem dX5_append_1 : decode cX5_append 1 = .ok (.iconst 0, 1) := dk_3 (dk_at dksX5_append_0 1 rfl rfl)
theorem dX5_append_2 : decode cX5_append 2 = .ok (.putfield 74, 3) := dk_181 0 74 (dk_at dksX5_append_0 2 rfl rfl)
theorem dX5_append_5 : decode cX5_append 5 = .ok (.iconst 0, 1) := dk_3 (dk_at dksX5_append_0 5 rfl rfl)
theorem dX5_append_6 : decode cX5_append 6 = .ok (.istore_n 3, 1) := dk_62 (dk_at dksX5_append_0 6 rfl rfl)
theorem dX5_append_7 : decode cX5_append 7 = .ok (.iconst 0, 1) := dk_3 (dk_at dksX5_append_0 7 rfl rfl)
theorem dX5_append_8 : decode cX5_append 8 = .ok (.istore 4, 2) := dk_54 4 (dk_at dksX5_append_0 8 rfl rfl)
theorem dX5_append_10 : decode cX5_append 10 = .ok (.iload 4, 2) := dk_21 4 (dk_at dksX5_append_0 10 rfl rfl)
theorem dX5_append_12 : decode cX5_append 12 = .ok (.bipush 8, 2) := dk_16 8 (dk_at dksX5_append_0 12 rfl rfl)
theorem dX5_append_14 : decode cX5_append 14 = .ok (.if_icmp .ge 26, 3) := dk_162 0 26 (dk_at dksX5_append_0 14 rfl rfl)
theorem dX5_append_17 : decode cX5_append 17 = .ok (.iload_n 3, 1) := dk_29 (dk_at dksX5_append_0 17 rfl rfl)
theorem dX5_append_18 : decode cX5_append 18 = .ok (.lload_n 1, 1) := dk_31 (dk_at dksX5_append_0 18 rfl rfl)
theorem dX5_append_19 : decode cX5_append 19 = .ok (.iload 4, 2) := dk_21 4 (dk_at dksX5_append_0 19 rfl rfl)
theorem dX5_append_21 : decode cX5_append 21 = .ok (.invokestatic 87, 3) := dk_184 0 87 (dk_at dksX5_append_0 21 rfl rfl)
theorem dX5_append_24 : decode cX5_append 24 = .ok (.ifCond .ne 7, 3) := dk_154 0 7 (dk_at dksX5_append_1 0 rfl rfl)
theorem dX5_append_27 : decode cX5_append 27 = .ok (.iconst 0, 1) := dk_3 (dk_at dksX5_append_1 3 rfl rfl)
theorem dX5_append_28 : decode cX5_append 28 = .ok (.goto 4, 3) := dk_167 0 4 (dk_at dksX5_append_1 4 rfl rfl)
theorem dX5_append_31 : decode cX5_append 31 = .ok (.iconst 1, 1) := dk_4 (dk_at dksX5_append_1 7 rfl rfl)
theorem dX5_append_32 : decode cX5_append 32 = .ok (.iadd, 1) := dk_96 (dk_at dksX5_append_1 8 rfl rfl)
theorem dX5_append_33 : decode cX5_append 33 = .ok (.istore_n 3, 1) := dk_62 (dk_at dksX5_append_1 9 rfl rfl)
theorem dX5_append_34 : decode cX5_append 34 = .ok (.iinc 4 1, 3) := dk_132 4 1 (dk_at dksX5_append_1 10 rfl rfl)
theorem dX5_append_37 : decode cX5_append 37 = .ok (.goto (-27), 3) := dk_167 255 229 (dk_at dksX5_append_1 13 rfl rfl)
theorem dX5_append_40 : decode cX5_append 40 = .ok (.aload_n 0, 1) := dk_42 (dk_at dksX5_append_1 16 rfl rfl)
theorem dX5_append_41 : decode cX5_append 41 = .ok (.getfield 91, 3) := dk_180 0 91 (dk_at dksX5_append_1 17 rfl rfl)
theorem dX5_append_44 : decode cX5_append 44 = .ok (.iload_n 3, 1) := dk_29 (dk_at dksX5_append_1 20 rfl rfl)
theorem dX5_append_45 : decode cX5_append 45 = .ok (.iadd, 1) := dk_96 (dk_at dksX5_append_1 21 rfl rfl)
theorem dX5_append_46 : decode cX5_append 46 = .ok (.sipush 600, 3) := dk_17 2 88 (dk_at dksX5_append_2 0 rfl rfl)
theorem dX5_append_49 : decode cX5_append 49 = .ok (.if_icmp .le 6, 3) := dk_164 0 6 (dk_at dksX5_append_2 3 rfl rfl)
theorem dX5_append_52 : decode cX5_append 52 = .ok (.bipush (-2), 2) := dk_16 254 (dk_at dksX5_append_2 6 rfl rfl)
theorem dX5_append_54 : decode cX5_append 54 = .ok (.ireturn, 1) := dk_172 (dk_at dksX5_append_2 8 rfl rfl)
theorem dX5_append_55 : decode cX5_append 55 = .ok (.iconst 0, 1) := dk_3 (dk_at dksX5_append_2 9 rfl rfl)
theorem dX5_append_56 : decode cX5_append 56 = .ok (.istore 4, 2) := dk_54 4 (dk_at dksX5_append_2 10 rfl rfl)
theorem dX5_append_58 : decode cX5_append 58 = .ok (.iload 4, 2) := dk_21 4 (dk_at dksX5_append_2 12 rfl rfl)
theorem dX5_append_60 : decode cX5_append 60 = .ok (.bipush 8, 2) := dk_16 8 (dk_at dksX5_append_2 14 rfl rfl)
theorem dX5_append_62 : decode cX5_append 62 = .ok (.if_icmp .ge 44, 3) := dk_162 0 44 (dk_at dksX5_append_2 16 rfl rfl)
theorem dX5_append_65 : decode cX5_append 65 = .ok (.lload_n 1, 1) := dk_31 (dk_at dksX5_append_2 19 rfl rfl)
theorem dX5_append_66 : decode cX5_append 66 = .ok (.iload 4, 2) := dk_21 4 (dk_at dksX5_append_2 20 rfl rfl)
theorem dX5_append_68 : decode cX5_append 68 = .ok (.invokestatic 87, 3) := dk_184 0 87 (dk_at dksX5_append_3 0 rfl rfl)
theorem dX5_append_71 : decode cX5_append 71 = .ok (.ifCond .eq 29, 3) := dk_153 0 29 (dk_at dksX5_append_3 3 rfl rfl)
theorem dX5_append_74 : decode cX5_append 74 = .ok (.aload_n 0, 1) := dk_42 (dk_at dksX5_append_3 6 rfl rfl)
theorem dX5_append_75 : decode cX5_append 75 = .ok (.getfield 28, 3) := dk_180 0 28 (dk_at dksX5_append_3 7 rfl rfl)
theorem dX5_append_78 : decode cX5_append 78 = .ok (.aload_n 0, 1) := dk_42 (dk_at dksX5_append_3 10 rfl rfl)
theorem dX5_append_79 : decode cX5_append 79 = .ok (.getfield 91, 3) := dk_180 0 91 (dk_at dksX5_append_3 11 rfl rfl)
theorem dX5_append_82 : decode cX5_append 82 = .ok (.lload_n 1, 1) := dk_31 (dk_at dksX5_append_3 14 rfl rfl)
theorem dX5_append_83 : decode cX5_append 83 = .ok (.iload 4, 2) := dk_21 4 (dk_at dksX5_append_3 15 rfl rfl)
theorem dX5_append_85 : decode cX5_append 85 = .ok (.invokestatic 87, 3) := dk_184 0 87 (dk_at dksX5_append_3 17 rfl rfl)
theorem dX5_append_88 : decode cX5_append 88 = .ok (.i2b, 1) := dk_145 (dk_at dksX5_append_3 20 rfl rfl)
theorem dX5_append_89 : decode cX5_append 89 = .ok (.bastore, 1) := dk_84 (dk_at dksX5_append_3 21 rfl rfl)
theorem dX5_append_90 : decode cX5_append 90 = .ok (.aload_n 0, 1) := dk_42 (dk_at dksX5_append_3 22 rfl rfl)
theorem dX5_append_91 : decode cX5_append 91 = .ok (.dup, 1) := dk_89 (dk_at dksX5_append_3 23 rfl rfl)
theorem dX5_append_92 : decode cX5_append 92 = .ok (.getfield 91, 3) := dk_180 0 91 (dk_at dksX5_append_4 0 rfl rfl)
theorem dX5_append_95 : decode cX5_append 95 = .ok (.iconst 1, 1) := dk_4 (dk_at dksX5_append_4 3 rfl rfl)
theorem dX5_append_96 : decode cX5_append 96 = .ok (.iadd, 1) := dk_96 (dk_at dksX5_append_4 4 rfl rfl)
theorem dX5_append_97 : decode cX5_append 97 = .ok (.putfield 91, 3) := dk_181 0 91 (dk_at dksX5_append_4 5 rfl rfl)
theorem dX5_append_100 : decode cX5_append 100 = .ok (.iinc 4 1, 3) := dk_132 4 1 (dk_at dksX5_append_4 8 rfl rfl)
theorem dX5_append_103 : decode cX5_append 103 = .ok (.goto (-45), 3) := dk_167 255 211 (dk_at dksX5_append_4 11 rfl rfl)
theorem dX5_append_106 : decode cX5_append 106 = .ok (.aload_n 0, 1) := dk_42 (dk_at dksX5_append_4 14 rfl rfl)
theorem dX5_append_107 : decode cX5_append 107 = .ok (.getfield 91, 3) := dk_180 0 91 (dk_at dksX5_append_4 15 rfl rfl)
theorem dX5_append_110 : decode cX5_append 110 = .ok (.ireturn, 1) := dk_172 (dk_at dksX5_append_4 18 rfl rfl)
abbrev cX5_byteOf : ByteArray := prog_17_method_12_code
def yX5_byteOf : MethodName := ⟨RX5, "byteOf", "(JI)I"⟩
def dkwX5_byteOf_0 : List UInt8 := [30, 16, 8, 16, 7, 28, 100, 104, 123, 20, 0, 85, 127, 136, 172]
abbrev dktX5_byteOf_0 : List UInt8 := dkwX5_byteOf_0 ++ []
theorem dksX5_byteOf_0 : cX5_byteOf.data.toList.drop 0 = dktX5_byteOf_0 := by decide +kernel
theorem dX5_byteOf_0 : decode cX5_byteOf 0 = .ok (.lload_n 0, 1) := dk_30 (dk_at dksX5_byteOf_0 0 rfl rfl)
theorem dX5_byteOf_1 : decode cX5_byteOf 1 = .ok (.bipush 8, 2) := dk_16 8 (dk_at dksX5_byteOf_0 1 rfl rfl)
theorem dX5_byteOf_3 : decode cX5_byteOf 3 = .ok (.bipush 7, 2) := dk_16 7 (dk_at dksX5_byteOf_0 3 rfl rfl)
theorem dX5_byteOf_5 : decode cX5_byteOf 5 = .ok (.iload_n 2, 1) := dk_28 (dk_at dksX5_byteOf_0 5 rfl rfl)
theorem dX5_byteOf_6 : decode cX5_byteOf 6 = .ok (.isub, 1) := dk_100 (dk_at dksX5_byteOf_0 6 rfl rfl)
theorem dX5_byteOf_7 : decode cX5_byteOf 7 = .ok (.imul, 1) := dk_104 (dk_at dksX5_byteOf_0 7 rfl rfl)
theorem dX5_byteOf_8 : decode cX5_byteOf 8 = .ok (.lshr, 1) := dk_123 (dk_at dksX5_byteOf_0 8 rfl rfl)
theorem dX5_byteOf_9 : decode cX5_byteOf 9 = .ok (.ldc2_w 85, 3) := dk_20 0 85 (dk_at dksX5_byteOf_0 9 rfl rfl)
theorem dX5_byteOf_12 : decode cX5_byteOf 12 = .ok (.land, 1) := dk_127 (dk_at dksX5_byteOf_0 12 rfl rfl)
theorem dX5_byteOf_13 : decode cX5_byteOf 13 = .ok (.l2i, 1) := dk_136 (dk_at dksX5_byteOf_0 13 rfl rfl)
theorem dX5_byteOf_14 : decode cX5_byteOf 14 = .ok (.ireturn, 1) := dk_172 (dk_at dksX5_byteOf_0 14 rfl rfl)
abbrev cX5_load : ByteArray := prog_17_method_25_code
def yX5_load : MethodName := ⟨RX5, "load", "()I"⟩
def dkwX5_load_6 : List UInt8 := [4, 46, 172]
abbrev dktX5_load_6 : List UInt8 := dkwX5_load_6 ++ []
def dkwX5_load_5 : List UInt8 := [100, 172, 42, 180, 0, 15, 3, 42, 180, 0, 11, 3, 184, 0, 170, 42, 3, 181, 0, 173, 42, 180, 0, 11]
abbrev dktX5_load_5 : List UInt8 := dkwX5_load_5 ++ dktX5_load_6
def dkwX5_load_4 : List UInt8 := [2, 167, 0, 7, 42, 180, 0, 156, 181, 0, 32, 42, 180, 0, 104, 153, 0, 11, 16, 156, 42, 180, 0, 107]
abbrev dktX5_load_4 : List UInt8 := dkwX5_load_4 ++ dktX5_load_5
def dkwX5_load_3 : List UInt8 := [167, 255, 245, 42, 3, 181, 0, 91, 42, 42, 180, 0, 104, 181, 0, 167, 42, 42, 180, 0, 104, 154, 0, 7]
abbrev dktX5_load_3 : List UInt8 := dkwX5_load_3 ++ dktX5_load_4
def dkwX5_load_2 : List UInt8 := [180, 0, 15, 3, 42, 5, 16, 10, 182, 0, 131, 79, 42, 182, 0, 161, 153, 0, 10, 42, 182, 0, 165]
abbrev dktX5_load_2 : List UInt8 := dkwX5_load_2 ++ dktX5_load_3
def dkwX5_load_1 : List UInt8 := [184, 0, 70, 42, 182, 0, 137, 42, 18, 159, 182, 0, 142, 154, 0, 8, 42, 4, 182, 0, 121, 42]
abbrev dktX5_load_1 : List UInt8 := dkwX5_load_1 ++ dktX5_load_2
def dkwX5_load_0 : List UInt8 := [42, 3, 181, 0, 74, 42, 3, 181, 0, 94, 42, 3, 181, 0, 104, 42, 3, 181, 0, 156, 42, 180, 0, 15]
abbrev dktX5_load_0 : List UInt8 := dkwX5_load_0 ++ dktX5_load_1
theorem dksX5_load_0 : cX5_load.data.toList.drop 0 = dktX5_load_0 := by decide +kernel
theorem dksX5_load_1 : cX5_load.data.toList.drop 24 = dktX5_load_1 := dk_seg dksX5_load_0 24 rfl rfl
theorem dksX5_load_2 : cX5_load.data.toList.drop 46 = dktX5_load_2 := dk_seg dksX5_load_1 22 rfl rfl
theorem dksX5_load_3 : cX5_load.data.toList.drop 69 = dktX5_load_3 := dk_seg dksX5_load_2 23 rfl rfl
theorem dksX5_load_4 : cX5_load.data.toList.drop 93 = dktX5_load_4 := dk_seg dksX5_load_3 24 rfl rfl
theorem dksX5_load_5 : cX5_load.data.toList.drop 117 = dktX5_load_5 := dk_seg dksX5_load_4 24 rfl rfl
theorem dksX5_load_6 : cX5_load.data.toList.drop 141 = dktX5_load_6 := dk_seg dksX5_load_5 24 rfl rfl
theorem dX5_load_0 : decode cX5_load 0 = .ok (.aload_n 0, 1) := dk_42 (dk_at dksX5_load_0 0 rfl rfl)
theorem dX5_load_1 : decode cX5_load 1 = .ok (.iconst 0, 1) := dk_3 (dk_at dksX5_load_0 1 rfl rfl)
theorem dX5_load_2 : decode cX5_load 2 = .ok (.putfield 74, 3) := dk_181 0 74 (dk_at dksX5_load_0 2 rfl rfl)
theorem dX5_load_5 : decode cX5_load 5 = .ok (.aload_n 0, 1) := dk_42 (dk_at dksX5_load_0 5 rfl rfl)
theorem dX5_load_6 : decode cX5_load 6 = .ok (.iconst 0, 1) := dk_3 (dk_at dksX5_load_0 6 rfl rfl)
theorem dX5_load_7 : decode cX5_load 7 = .ok (.putfield 94, 3) := dk_181 0 94 (dk_at dksX5_load_0 7 rfl rfl)
theorem dX5_load_10 : decode cX5_load 10 = .ok (.aload_n 0, 1) := dk_42 (dk_at dksX5_load_0 10 rfl rfl)
theorem dX5_load_11 : decode cX5_load 11 = .ok (.iconst 0, 1) := dk_3 (dk_at dksX5_load_0 11 rfl rfl)
theorem dX5_load_12 : decode cX5_load 12 = .ok (.putfield 104, 3) := dk_181 0 104 (dk_at dksX5_load_0 12 rfl rfl)
theorem dX5_load_15 : decode cX5_load 15 = .ok (.aload_n 0, 1) := dk_42 (dk_at dksX5_load_0 15 rfl rfl)
theorem dX5_load_16 : decode cX5_load 16 = .ok (.iconst 0, 1) := dk_3 (dk_at dksX5_load_0 16 rfl rfl)
theorem dX5_load_17 : decode cX5_load 17 = .ok (.putfield 156, 3) := dk_181 0 156 (dk_at dksX5_load_0 17 rfl rfl)
theorem dX5_load_20 : decode cX5_load 20 = .ok (.aload_n 0, 1) := dk_42 (dk_at dksX5_load_0 20 rfl rfl)
theorem dX5_load_21 : decode cX5_load 21 = .ok (.getfield 15, 3) := dk_180 0 15 (dk_at dksX5_load_0 21 rfl rfl)
theorem dX5_load_24 : decode cX5_load 24 = .ok (.invokestatic 70, 3) := dk_184 0 70 (dk_at dksX5_load_1 0 rfl rfl)
theorem dX5_load_27 : decode cX5_load 27 = .ok (.aload_n 0, 1) := dk_42 (dk_at dksX5_load_1 3 rfl rfl)
theorem dX5_load_28 : decode cX5_load 28 = .ok (.invokevirtual 137, 3) := dk_182 0 137 (dk_at dksX5_load_1 4 rfl rfl)
theorem dX5_load_31 : decode cX5_load 31 = .ok (.aload_n 0, 1) := dk_42 (dk_at dksX5_load_1 7 rfl rfl)
theorem dX5_load_32 : decode cX5_load 32 = .ok (.ldc 159, 2) := dk_18 159 (dk_at dksX5_load_1 8 rfl rfl)
theorem dX5_load_34 : decode cX5_load 34 = .ok (.invokevirtual 142, 3) := dk_182 0 142 (dk_at dksX5_load_1 10 rfl rfl)
theorem dX5_load_37 : decode cX5_load 37 = .ok (.ifCond .ne 8, 3) := dk_154 0 8 (dk_at dksX5_load_1 13 rfl rfl)
theorem dX5_load_40 : decode cX5_load 40 = .ok (.aload_n 0, 1) := dk_42 (dk_at dksX5_load_1 16 rfl rfl)
theorem dX5_load_41 : decode cX5_load 41 = .ok (.iconst 1, 1) := dk_4 (dk_at dksX5_load_1 17 rfl rfl)
theorem dX5_load_42 : decode cX5_load 42 = .ok (.invokevirtual 121, 3) := dk_182 0 121 (dk_at dksX5_load_1 18 rfl rfl)
theorem dX5_load_45 : decode cX5_load 45 = .ok (.aload_n 0, 1) := dk_42 (dk_at dksX5_load_1 21 rfl rfl)
theorem dX5_load_46 : decode cX5_load 46 = .ok (.getfield 15, 3) := dk_180 0 15 (dk_at dksX5_load_2 0 rfl rfl)
theorem dX5_load_49 : decode cX5_load 49 = .ok (.iconst 0, 1) := dk_3 (dk_at dksX5_load_2 3 rfl rfl)
theorem dX5_load_50 : decode cX5_load 50 = .ok (.aload_n 0, 1) := dk_42 (dk_at dksX5_load_2 4 rfl rfl)
theorem dX5_load_51 : decode cX5_load 51 = .ok (.iconst 2, 1) := dk_5 (dk_at dksX5_load_2 5 rfl rfl)
theorem dX5_load_52 : decode cX5_load 52 = .ok (.bipush 10, 2) := dk_16 10 (dk_at dksX5_load_2 6 rfl rfl)
theorem dX5_load_54 : decode cX5_load 54 = .ok (.invokevirtual 131, 3) := dk_182 0 131 (dk_at dksX5_load_2 8 rfl rfl)
theorem dX5_load_57 : decode cX5_load 57 = .ok (.iastore, 1) := dk_79 (dk_at dksX5_load_2 11 rfl rfl)
theorem dX5_load_58 : decode cX5_load 58 = .ok (.aload_n 0, 1) := dk_42 (dk_at dksX5_load_2 12 rfl rfl)
theorem dX5_load_59 : decode cX5_load 59 = .ok (.invokevirtual 161, 3) := dk_182 0 161 (dk_at dksX5_load_2 13 rfl rfl)
theorem dX5_load_62 : decode cX5_load 62 = .ok (.ifCond .eq 10, 3) := dk_153 0 10 (dk_at dksX5_load_2 16 rfl rfl)
theorem dX5_load_65 : decode cX5_load 65 = .ok (.aload_n 0, 1) := dk_42 (dk_at dksX5_load_2 19 rfl rfl)
theorem dX5_load_66 : decode cX5_load 66 = .ok (.invokevirtual 165, 3) := dk_182 0 165 (dk_at dksX5_load_2 20 rfl rfl)
theorem dX5_load_69 : decode cX5_load 69 = .ok (.goto (-11), 3) := dk_167 255 245 (dk_at dksX5_load_3 0 rfl rfl)
theorem dX5_load_72 : decode cX5_load 72 = .ok (.aload_n 0, 1) := dk_42 (dk_at dksX5_load_3 3 rfl rfl)
theorem dX5_load_73 : decode cX5_load 73 = .ok (.iconst 0, 1) := dk_3 (dk_at dksX5_load_3 4 rfl rfl)
theorem dX5_load_74 : decode cX5_load 74 = .ok (.putfield 91, 3) := dk_181 0 91 (dk_at dksX5_load_3 5 rfl rfl)
theorem dX5_load_77 : decode cX5_load 77 = .ok (.aload_n 0, 1) := dk_42 (dk_at dksX5_load_3 8 rfl rfl)
theorem dX5_load_78 : decode cX5_load 78 = .ok (.aload_n 0, 1) := dk_42 (dk_at dksX5_load_3 9 rfl rfl)
theorem dX5_load_79 : decode cX5_load 79 = .ok (.getfield 104, 3) := dk_180 0 104 (dk_at dksX5_load_3 10 rfl rfl)
theorem dX5_load_82 : decode cX5_load 82 = .ok (.putfield 167, 3) := dk_181 0 167 (dk_at dksX5_load_3 13 rfl rfl)
theorem dX5_load_85 : decode cX5_load 85 = .ok (.aload_n 0, 1) := dk_42 (dk_at dksX5_load_3 16 rfl rfl)
theorem dX5_load_86 : decode cX5_load 86 = .ok (.aload_n 0, 1) := dk_42 (dk_at dksX5_load_3 17 rfl rfl)
theorem dX5_load_87 : decode cX5_load 87 = .ok (.getfield 104, 3) := dk_180 0 104 (dk_at dksX5_load_3 18 rfl rfl)
theorem dX5_load_90 : decode cX5_load 90 = .ok (.ifCond .ne 7, 3) := dk_154 0 7 (dk_at dksX5_load_3 21 rfl rfl)
theorem dX5_load_93 : decode cX5_load 93 = .ok (.iconst (-1), 1) := dk_2 (dk_at dksX5_load_4 0 rfl rfl)
theorem dX5_load_94 : decode cX5_load 94 = .ok (.goto 7, 3) := dk_167 0 7 (dk_at dksX5_load_4 1 rfl rfl)
theorem dX5_load_97 : decode cX5_load 97 = .ok (.aload_n 0, 1) := dk_42 (dk_at dksX5_load_4 4 rfl rfl)
theorem dX5_load_98 : decode cX5_load 98 = .ok (.getfield 156, 3) := dk_180 0 156 (dk_at dksX5_load_4 5 rfl rfl)
theorem dX5_load_101 : decode cX5_load 101 = .ok (.putfield 32, 3) := dk_181 0 32 (dk_at dksX5_load_4 8 rfl rfl)
theorem dX5_load_104 : decode cX5_load 104 = .ok (.aload_n 0, 1) := dk_42 (dk_at dksX5_load_4 11 rfl rfl)
theorem dX5_load_105 : decode cX5_load 105 = .ok (.getfield 104, 3) := dk_180 0 104 (dk_at dksX5_load_4 12 rfl rfl)
theorem dX5_load_108 : decode cX5_load 108 = .ok (.ifCond .eq 11, 3) := dk_153 0 11 (dk_at dksX5_load_4 15 rfl rfl)
theorem dX5_load_111 : decode cX5_load 111 = .ok (.bipush (-100), 2) := dk_16 156 (dk_at dksX5_load_4 18 rfl rfl)
theorem dX5_load_113 : decode cX5_load 113 = .ok (.aload_n 0, 1) := dk_42 (dk_at dksX5_load_4 20 rfl rfl)
theorem dX5_load_114 : decode cX5_load 114 = .ok (.getfield 107, 3) := dk_180 0 107 (dk_at dksX5_load_4 21 rfl rfl)
theorem dX5_load_117 : decode cX5_load 117 = .ok (.isub, 1) := dk_100 (dk_at dksX5_load_5 0 rfl rfl)
theorem dX5_load_118 : decode cX5_load 118 = .ok (.ireturn, 1) := dk_172 (dk_at dksX5_load_5 1 rfl rfl)
theorem dX5_load_119 : decode cX5_load 119 = .ok (.aload_n 0, 1) := dk_42 (dk_at dksX5_load_5 2 rfl rfl)
theorem dX5_load_120 : decode cX5_load 120 = .ok (.getfield 15, 3) := dk_180 0 15 (dk_at dksX5_load_5 3 rfl rfl)
theorem dX5_load_123 : decode cX5_load 123 = .ok (.iconst 0, 1) := dk_3 (dk_at dksX5_load_5 6 rfl rfl)
theorem dX5_load_124 : decode cX5_load 124 = .ok (.aload_n 0, 1) := dk_42 (dk_at dksX5_load_5 7 rfl rfl)
theorem dX5_load_125 : decode cX5_load 125 = .ok (.getfield 11, 3) := dk_180 0 11 (dk_at dksX5_load_5 8 rfl rfl)
theorem dX5_load_128 : decode cX5_load 128 = .ok (.iconst 0, 1) := dk_3 (dk_at dksX5_load_5 11 rfl rfl)
theorem dX5_load_129 : decode cX5_load 129 = .ok (.invokestatic 170, 3) := dk_184 0 170 (dk_at dksX5_load_5 12 rfl rfl)
theorem dX5_load_132 : decode cX5_load 132 = .ok (.aload_n 0, 1) := dk_42 (dk_at dksX5_load_5 15 rfl rfl)
theorem dX5_load_133 : decode cX5_load 133 = .ok (.iconst 0, 1) := dk_3 (dk_at dksX5_load_5 16 rfl rfl)
theorem dX5_load_134 : decode cX5_load 134 = .ok (.putfield 173, 3) := dk_181 0 173 (dk_at dksX5_load_5 17 rfl rfl)
theorem dX5_load_137 : decode cX5_load 137 = .ok (.aload_n 0, 1) := dk_42 (dk_at dksX5_load_5 20 rfl rfl)
theorem dX5_load_138 : decode cX5_load 138 = .ok (.getfield 11, 3) := dk_180 0 11 (dk_at dksX5_load_5 21 rfl rfl)
theorem dX5_load_141 : decode cX5_load 141 = .ok (.iconst 1, 1) := dk_4 (dk_at dksX5_load_6 0 rfl rfl)
theorem dX5_load_142 : decode cX5_load 142 = .ok (.iaload, 1) := dk_46 (dk_at dksX5_load_6 1 rfl rfl)
theorem dX5_load_143 : decode cX5_load 143 = .ok (.ireturn, 1) := dk_172 (dk_at dksX5_load_6 2 rfl rfl)
abbrev cX5_reads : ByteArray := prog_17_method_17_code
def yX5_reads : MethodName := ⟨RX5, "reads", "()V"⟩
def dkwX5_reads_1 : List UInt8 := [4, 96, 181, 0, 94, 167, 255, 232, 177]
abbrev dktX5_reads_1 : List UInt8 := dkwX5_reads_1 ++ []
def dkwX5_reads_0 : List UInt8 := [42, 182, 0, 110, 87, 42, 182, 0, 97, 16, 97, 16, 122, 184, 0, 81, 153, 0, 16, 42, 89, 180, 0, 94]
abbrev dktX5_reads_0 : List UInt8 := dkwX5_reads_0 ++ dktX5_reads_1
theorem dksX5_reads_0 : cX5_reads.data.toList.drop 0 = dktX5_reads_0 := by decide +kernel
theorem dksX5_reads_1 : cX5_reads.data.toList.drop 24 = dktX5_reads_1 := dk_seg dksX5_reads_0 24 rfl rfl
theorem dX5_reads_0 : decode cX5_reads 0 = .ok (.aload_n 0, 1) := dk_42 (dk_at dksX5_reads_0 0 rfl rfl)
theorem dX5_reads_1 : decode cX5_reads 1 = .ok (.invokevirtual 110, 3) := dk_182 0 110 (dk_at dksX5_reads_0 1 rfl rfl)
theorem dX5_reads_4 : decode cX5_reads 4 = .ok (.pop, 1) := dk_87 (dk_at dksX5_reads_0 4 rfl rfl)
theorem dX5_reads_5 : decode cX5_reads 5 = .ok (.aload_n 0, 1) := dk_42 (dk_at dksX5_reads_0 5 rfl rfl)
theorem dX5_reads_6 : decode cX5_reads 6 = .ok (.invokevirtual 97, 3) := dk_182 0 97 (dk_at dksX5_reads_0 6 rfl rfl)
theorem dX5_reads_9 : decode cX5_reads 9 = .ok (.bipush 97, 2) := dk_16 97 (dk_at dksX5_reads_0 9 rfl rfl)
theorem dX5_reads_11 : decode cX5_reads 11 = .ok (.bipush 122, 2) := dk_16 122 (dk_at dksX5_reads_0 11 rfl rfl)
theorem dX5_reads_13 : decode cX5_reads 13 = .ok (.invokestatic 81, 3) := dk_184 0 81 (dk_at dksX5_reads_0 13 rfl rfl)
theorem dX5_reads_16 : decode cX5_reads 16 = .ok (.ifCond .eq 16, 3) := dk_153 0 16 (dk_at dksX5_reads_0 16 rfl rfl)
theorem dX5_reads_19 : decode cX5_reads 19 = .ok (.aload_n 0, 1) := dk_42 (dk_at dksX5_reads_0 19 rfl rfl)
theorem dX5_reads_20 : decode cX5_reads 20 = .ok (.dup, 1) := dk_89 (dk_at dksX5_reads_0 20 rfl rfl)
theorem dX5_reads_21 : decode cX5_reads 21 = .ok (.getfield 94, 3) := dk_180 0 94 (dk_at dksX5_reads_0 21 rfl rfl)
theorem dX5_reads_24 : decode cX5_reads 24 = .ok (.iconst 1, 1) := dk_4 (dk_at dksX5_reads_1 0 rfl rfl)
theorem dX5_reads_25 : decode cX5_reads 25 = .ok (.iadd, 1) := dk_96 (dk_at dksX5_reads_1 1 rfl rfl)
theorem dX5_reads_26 : decode cX5_reads 26 = .ok (.putfield 94, 3) := dk_181 0 94 (dk_at dksX5_reads_1 2 rfl rfl)
theorem dX5_reads_29 : decode cX5_reads 29 = .ok (.goto (-24), 3) := dk_167 255 232 (dk_at dksX5_reads_1 5 rfl rfl)
theorem dX5_reads_32 : decode cX5_reads 32 = .ok (.return_, 1) := dk_177 (dk_at dksX5_reads_1 8 rfl rfl)
abbrev cX5_next : ByteArray := prog_17_method_15_code
def yX5_next : MethodName := ⟨RX5, "next", "()I"⟩
def dkwX5_next_1 : List UInt8 := [180, 0, 94, 181, 0, 101, 42, 182, 0, 97, 172]
abbrev dktX5_next_1 : List UInt8 := dkwX5_next_1 ++ []
def dkwX5_next_0 : List UInt8 := [42, 182, 0, 97, 16, 32, 160, 0, 16, 42, 89, 180, 0, 94, 4, 96, 181, 0, 94, 167, 255, 237, 42, 42]
abbrev dktX5_next_0 : List UInt8 := dkwX5_next_0 ++ dktX5_next_1
theorem dksX5_next_0 : cX5_next.data.toList.drop 0 = dktX5_next_0 := by decide +kernel
theorem dksX5_next_1 : cX5_next.data.toList.drop 24 = dktX5_next_1 := dk_seg dksX5_next_0 24 rfl rfl
theorem dX5_next_0 : decode cX5_next 0 = .ok (.aload_n 0, 1) := dk_42 (dk_at dksX5_next_0 0 rfl rfl)
theorem dX5_next_1 : decode cX5_next 1 = .ok (.invokevirtual 97, 3) := dk_182 0 97 (dk_at dksX5_next_0 1 rfl rfl)
theorem dX5_next_4 : decode cX5_next 4 = .ok (.bipush 32, 2) := dk_16 32 (dk_at dksX5_next_0 4 rfl rfl)
theorem dX5_next_6 : decode cX5_next 6 = .ok (.if_icmp .ne 16, 3) := dk_160 0 16 (dk_at dksX5_next_0 6 rfl rfl)
theorem dX5_next_9 : decode cX5_next 9 = .ok (.aload_n 0, 1) := dk_42 (dk_at dksX5_next_0 9 rfl rfl)
theorem dX5_next_10 : decode cX5_next 10 = .ok (.dup, 1) := dk_89 (dk_at dksX5_next_0 10 rfl rfl)
theorem dX5_next_11 : decode cX5_next 11 = .ok (.getfield 94, 3) := dk_180 0 94 (dk_at dksX5_next_0 11 rfl rfl)
theorem dX5_next_14 : decode cX5_next 14 = .ok (.iconst 1, 1) := dk_4 (dk_at dksX5_next_0 14 rfl rfl)
theorem dX5_next_15 : decode cX5_next 15 = .ok (.iadd, 1) := dk_96 (dk_at dksX5_next_0 15 rfl rfl)
theorem dX5_next_16 : decode cX5_next 16 = .ok (.putfield 94, 3) := dk_181 0 94 (dk_at dksX5_next_0 16 rfl rfl)
theorem dX5_next_19 : decode cX5_next 19 = .ok (.goto (-19), 3) := dk_167 255 237 (dk_at dksX5_next_0 19 rfl rfl)
theorem dX5_next_22 : decode cX5_next 22 = .ok (.aload_n 0, 1) := dk_42 (dk_at dksX5_next_0 22 rfl rfl)
theorem dX5_next_23 : decode cX5_next 23 = .ok (.aload_n 0, 1) := dk_42 (dk_at dksX5_next_0 23 rfl rfl)
theorem dX5_next_24 : decode cX5_next 24 = .ok (.getfield 94, 3) := dk_180 0 94 (dk_at dksX5_next_1 0 rfl rfl)
theorem dX5_next_27 : decode cX5_next 27 = .ok (.putfield 101, 3) := dk_181 0 101 (dk_at dksX5_next_1 3 rfl rfl)
theorem dX5_next_30 : decode cX5_next 30 = .ok (.aload_n 0, 1) := dk_42 (dk_at dksX5_next_1 6 rfl rfl)
theorem dX5_next_31 : decode cX5_next 31 = .ok (.invokevirtual 97, 3) := dk_182 0 97 (dk_at dksX5_next_1 7 rfl rfl)
theorem dX5_next_34 : decode cX5_next 34 = .ok (.ireturn, 1) := dk_172 (dk_at dksX5_next_1 10 rfl rfl)
abbrev cX5_here : ByteArray := prog_17_method_14_code
def yX5_here : MethodName := ⟨RX5, "here", "()I"⟩
def dkwX5_here_1 : List UInt8 := [167, 0, 4, 2, 172]
abbrev dktX5_here_1 : List UInt8 := dkwX5_here_1 ++ []
def dkwX5_here_0 : List UInt8 := [42, 180, 0, 94, 42, 180, 0, 91, 162, 0, 19, 42, 180, 0, 28, 42, 180, 0, 94, 51, 17, 0, 255, 126]
abbrev dktX5_here_0 : List UInt8 := dkwX5_here_0 ++ dktX5_here_1
theorem dksX5_here_0 : cX5_here.data.toList.drop 0 = dktX5_here_0 := by decide +kernel
theorem dksX5_here_1 : cX5_here.data.toList.drop 24 = dktX5_here_1 := dk_seg dksX5_here_0 24 rfl rfl
theorem dX5_here_0 : decode cX5_here 0 = .ok (.aload_n 0, 1) := dk_42 (dk_at dksX5_here_0 0 rfl rfl)
theorem dX5_here_1 : decode cX5_here 1 = .ok (.getfield 94, 3) := dk_180 0 94 (dk_at dksX5_here_0 1 rfl rfl)
theorem dX5_here_4 : decode cX5_here 4 = .ok (.aload_n 0, 1) := dk_42 (dk_at dksX5_here_0 4 rfl rfl)
theorem dX5_here_5 : decode cX5_here 5 = .ok (.getfield 91, 3) := dk_180 0 91 (dk_at dksX5_here_0 5 rfl rfl)
theorem dX5_here_8 : decode cX5_here 8 = .ok (.if_icmp .ge 19, 3) := dk_162 0 19 (dk_at dksX5_here_0 8 rfl rfl)
theorem dX5_here_11 : decode cX5_here 11 = .ok (.aload_n 0, 1) := dk_42 (dk_at dksX5_here_0 11 rfl rfl)
theorem dX5_here_12 : decode cX5_here 12 = .ok (.getfield 28, 3) := dk_180 0 28 (dk_at dksX5_here_0 12 rfl rfl)
theorem dX5_here_15 : decode cX5_here 15 = .ok (.aload_n 0, 1) := dk_42 (dk_at dksX5_here_0 15 rfl rfl)
theorem dX5_here_16 : decode cX5_here 16 = .ok (.getfield 94, 3) := dk_180 0 94 (dk_at dksX5_here_0 16 rfl rfl)
theorem dX5_here_19 : decode cX5_here 19 = .ok (.baload, 1) := dk_51 (dk_at dksX5_here_0 19 rfl rfl)
theorem dX5_here_20 : decode cX5_here 20 = .ok (.sipush 255, 3) := dk_17 0 255 (dk_at dksX5_here_0 20 rfl rfl)
theorem dX5_here_23 : decode cX5_here 23 = .ok (.iand, 1) := dk_126 (dk_at dksX5_here_0 23 rfl rfl)
theorem dX5_here_24 : decode cX5_here 24 = .ok (.goto 4, 3) := dk_167 0 4 (dk_at dksX5_here_1 0 rfl rfl)
theorem dX5_here_27 : decode cX5_here 27 = .ok (.iconst (-1), 1) := dk_2 (dk_at dksX5_here_1 3 rfl rfl)
theorem dX5_here_28 : decode cX5_here 28 = .ok (.ireturn, 1) := dk_172 (dk_at dksX5_here_1 4 rfl rfl)
abbrev cX5_in : ByteArray := prog_17_method_3_code
def yX5_in : MethodName := ⟨RX5, "in", "(III)Z"⟩
def dkwX5_in_0 : List UInt8 := [26, 27, 161, 0, 12, 26, 28, 163, 0, 7, 4, 167, 0, 4, 3, 172]
abbrev dktX5_in_0 : List UInt8 := dkwX5_in_0 ++ []
theorem dksX5_in_0 : cX5_in.data.toList.drop 0 = dktX5_in_0 := by decide +kernel
theorem dX5_in_0 : decode cX5_in 0 = .ok (.iload_n 0, 1) := dk_26 (dk_at dksX5_in_0 0 rfl rfl)
theorem dX5_in_1 : decode cX5_in 1 = .ok (.iload_n 1, 1) := dk_27 (dk_at dksX5_in_0 1 rfl rfl)
theorem dX5_in_2 : decode cX5_in 2 = .ok (.if_icmp .lt 12, 3) := dk_161 0 12 (dk_at dksX5_in_0 2 rfl rfl)
theorem dX5_in_5 : decode cX5_in 5 = .ok (.iload_n 0, 1) := dk_26 (dk_at dksX5_in_0 5 rfl rfl)
theorem dX5_in_6 : decode cX5_in 6 = .ok (.iload_n 2, 1) := dk_28 (dk_at dksX5_in_0 6 rfl rfl)
theorem dX5_in_7 : decode cX5_in 7 = .ok (.if_icmp .gt 7, 3) := dk_163 0 7 (dk_at dksX5_in_0 7 rfl rfl)
theorem dX5_in_10 : decode cX5_in 10 = .ok (.iconst 1, 1) := dk_4 (dk_at dksX5_in_0 10 rfl rfl)
theorem dX5_in_11 : decode cX5_in 11 = .ok (.goto 4, 3) := dk_167 0 4 (dk_at dksX5_in_0 11 rfl rfl)
theorem dX5_in_14 : decode cX5_in 14 = .ok (.iconst 0, 1) := dk_3 (dk_at dksX5_in_0 14 rfl rfl)
theorem dX5_in_15 : decode cX5_in 15 = .ok (.ireturn, 1) := dk_172 (dk_at dksX5_in_0 15 rfl rfl)
abbrev cX5_isWord : ByteArray := prog_17_method_18_code
def yX5_isWord : MethodName := ⟨RX5, "isWord", "(Ljava/lang/String;)Z"⟩
def dkwX5_isWord_2 : List UInt8 := [29, 182, 0, 117, 160, 0, 7, 4, 167, 0, 4, 3, 61, 132, 3, 1, 167, 255, 216, 28, 172]
abbrev dktX5_isWord_2 : List UInt8 := dkwX5_isWord_2 ++ []
def dkwX5_isWord_1 : List UInt8 := [28, 153, 0, 42, 29, 43, 182, 0, 113, 162, 0, 34, 42, 180, 0, 28, 42, 180, 0, 101, 29, 96, 51, 43]
abbrev dktX5_isWord_1 : List UInt8 := dkwX5_isWord_1 ++ dktX5_isWord_2
def dkwX5_isWord_0 : List UInt8 := [42, 180, 0, 94, 42, 180, 0, 101, 100, 43, 182, 0, 113, 160, 0, 7, 4, 167, 0, 4, 3, 61, 3, 62]
abbrev dktX5_isWord_0 : List UInt8 := dkwX5_isWord_0 ++ dktX5_isWord_1
theorem dksX5_isWord_0 : cX5_isWord.data.toList.drop 0 = dktX5_isWord_0 := by decide +kernel
theorem dksX5_isWord_1 : cX5_isWord.data.toList.drop 24 = dktX5_isWord_1 := dk_seg dksX5_isWord_0 24 rfl rfl
theorem dksX5_isWord_2 : cX5_isWord.data.toList.drop 48 = dktX5_isWord_2 := dk_seg dksX5_isWord_1 24 rfl rfl
theorem dX5_isWord_0 : decode cX5_isWord 0 = .ok (.aload_n 0, 1) := dk_42 (dk_at dksX5_isWord_0 0 rfl rfl)
theorem dX5_isWord_1 : decode cX5_isWord 1 = .ok (.getfield 94, 3) := dk_180 0 94 (dk_at dksX5_isWord_0 1 rfl rfl)
theorem dX5_isWord_4 : decode cX5_isWord 4 = .ok (.aload_n 0, 1) := dk_42 (dk_at dksX5_isWord_0 4 rfl rfl)
theorem dX5_isWord_5 : decode cX5_isWord 5 = .ok (.getfield 101, 3) := dk_180 0 101 (dk_at dksX5_isWord_0 5 rfl rfl)
theorem dX5_isWord_8 : decode cX5_isWord 8 = .ok (.isub, 1) := dk_100 (dk_at dksX5_isWord_0 8 rfl rfl)
theorem dX5_isWord_9 : decode cX5_isWord 9 = .ok (.aload_n 1, 1) := dk_43 (dk_at dksX5_isWord_0 9 rfl rfl)
theorem dX5_isWord_10 : decode cX5_isWord 10 = .ok (.invokevirtual 113, 3) := dk_182 0 113 (dk_at dksX5_isWord_0 10 rfl rfl)
theorem dX5_isWord_13 : decode cX5_isWord 13 = .ok (.if_icmp .ne 7, 3) := dk_160 0 7 (dk_at dksX5_isWord_0 13 rfl rfl)
theorem dX5_isWord_16 : decode cX5_isWord 16 = .ok (.iconst 1, 1) := dk_4 (dk_at dksX5_isWord_0 16 rfl rfl)
theorem dX5_isWord_17 : decode cX5_isWord 17 = .ok (.goto 4, 3) := dk_167 0 4 (dk_at dksX5_isWord_0 17 rfl rfl)
theorem dX5_isWord_20 : decode cX5_isWord 20 = .ok (.iconst 0, 1) := dk_3 (dk_at dksX5_isWord_0 20 rfl rfl)
theorem dX5_isWord_21 : decode cX5_isWord 21 = .ok (.istore_n 2, 1) := dk_61 (dk_at dksX5_isWord_0 21 rfl rfl)
theorem dX5_isWord_22 : decode cX5_isWord 22 = .ok (.iconst 0, 1) := dk_3 (dk_at dksX5_isWord_0 22 rfl rfl)
theorem dX5_isWord_23 : decode cX5_isWord 23 = .ok (.istore_n 3, 1) := dk_62 (dk_at dksX5_isWord_0 23 rfl rfl)
theorem dX5_isWord_24 : decode cX5_isWord 24 = .ok (.iload_n 2, 1) := dk_28 (dk_at dksX5_isWord_1 0 rfl rfl)
theorem dX5_isWord_25 : decode cX5_isWord 25 = .ok (.ifCond .eq 42, 3) := dk_153 0 42 (dk_at dksX5_isWord_1 1 rfl rfl)
theorem dX5_isWord_28 : decode cX5_isWord 28 = .ok (.iload_n 3, 1) := dk_29 (dk_at dksX5_isWord_1 4 rfl rfl)
theorem dX5_isWord_29 : decode cX5_isWord 29 = .ok (.aload_n 1, 1) := dk_43 (dk_at dksX5_isWord_1 5 rfl rfl)
theorem dX5_isWord_30 : decode cX5_isWord 30 = .ok (.invokevirtual 113, 3) := dk_182 0 113 (dk_at dksX5_isWord_1 6 rfl rfl)
theorem dX5_isWord_33 : decode cX5_isWord 33 = .ok (.if_icmp .ge 34, 3) := dk_162 0 34 (dk_at dksX5_isWord_1 9 rfl rfl)
theorem dX5_isWord_36 : decode cX5_isWord 36 = .ok (.aload_n 0, 1) := dk_42 (dk_at dksX5_isWord_1 12 rfl rfl)
theorem dX5_isWord_37 : decode cX5_isWord 37 = .ok (.getfield 28, 3) := dk_180 0 28 (dk_at dksX5_isWord_1 13 rfl rfl)
theorem dX5_isWord_40 : decode cX5_isWord 40 = .ok (.aload_n 0, 1) := dk_42 (dk_at dksX5_isWord_1 16 rfl rfl)
theorem dX5_isWord_41 : decode cX5_isWord 41 = .ok (.getfield 101, 3) := dk_180 0 101 (dk_at dksX5_isWord_1 17 rfl rfl)
theorem dX5_isWord_44 : decode cX5_isWord 44 = .ok (.iload_n 3, 1) := dk_29 (dk_at dksX5_isWord_1 20 rfl rfl)
theorem dX5_isWord_45 : decode cX5_isWord 45 = .ok (.iadd, 1) := dk_96 (dk_at dksX5_isWord_1 21 rfl rfl)
theorem dX5_isWord_46 : decode cX5_isWord 46 = .ok (.baload, 1) := dk_51 (dk_at dksX5_isWord_1 22 rfl rfl)
theorem dX5_isWord_47 : decode cX5_isWord 47 = .ok (.aload_n 1, 1) := dk_43 (dk_at dksX5_isWord_1 23 rfl rfl)
theorem dX5_isWord_48 : decode cX5_isWord 48 = .ok (.iload_n 3, 1) := dk_29 (dk_at dksX5_isWord_2 0 rfl rfl)
theorem dX5_isWord_49 : decode cX5_isWord 49 = .ok (.invokevirtual 117, 3) := dk_182 0 117 (dk_at dksX5_isWord_2 1 rfl rfl)
theorem dX5_isWord_52 : decode cX5_isWord 52 = .ok (.if_icmp .ne 7, 3) := dk_160 0 7 (dk_at dksX5_isWord_2 4 rfl rfl)
theorem dX5_isWord_55 : decode cX5_isWord 55 = .ok (.iconst 1, 1) := dk_4 (dk_at dksX5_isWord_2 7 rfl rfl)
theorem dX5_isWord_56 : decode cX5_isWord 56 = .ok (.goto 4, 3) := dk_167 0 4 (dk_at dksX5_isWord_2 8 rfl rfl)
theorem dX5_isWord_59 : decode cX5_isWord 59 = .ok (.iconst 0, 1) := dk_3 (dk_at dksX5_isWord_2 11 rfl rfl)
theorem dX5_isWord_60 : decode cX5_isWord 60 = .ok (.istore_n 2, 1) := dk_61 (dk_at dksX5_isWord_2 12 rfl rfl)
theorem dX5_isWord_61 : decode cX5_isWord 61 = .ok (.iinc 3 1, 3) := dk_132 3 1 (dk_at dksX5_isWord_2 13 rfl rfl)
theorem dX5_isWord_64 : decode cX5_isWord 64 = .ok (.goto (-40), 3) := dk_167 255 216 (dk_at dksX5_isWord_2 16 rfl rfl)
theorem dX5_isWord_67 : decode cX5_isWord 67 = .ok (.iload_n 2, 1) := dk_28 (dk_at dksX5_isWord_2 19 rfl rfl)
theorem dX5_isWord_68 : decode cX5_isWord 68 = .ok (.ireturn, 1) := dk_172 (dk_at dksX5_isWord_2 20 rfl rfl)
abbrev cX5_fails : ByteArray := prog_17_method_16_code
def yX5_fails : MethodName := ⟨RX5, "fails", "(I)V"⟩
def dkwX5_fails_0 : List UInt8 := [42, 180, 0, 104, 154, 0, 16, 42, 27, 181, 0, 104, 42, 42, 180, 0, 101, 181, 0, 107, 177]
abbrev dktX5_fails_0 : List UInt8 := dkwX5_fails_0 ++ []
theorem dksX5_fails_0 : cX5_fails.data.toList.drop 0 = dktX5_fails_0 := by decide +kernel
theorem dX5_fails_0 : decode cX5_fails 0 = .ok (.aload_n 0, 1) := dk_42 (dk_at dksX5_fails_0 0 rfl rfl)
theorem dX5_fails_1 : decode cX5_fails 1 = .ok (.getfield 104, 3) := dk_180 0 104 (dk_at dksX5_fails_0 1 rfl rfl)
theorem dX5_fails_4 : decode cX5_fails 4 = .ok (.ifCond .ne 16, 3) := dk_154 0 16 (dk_at dksX5_fails_0 4 rfl rfl)
theorem dX5_fails_7 : decode cX5_fails 7 = .ok (.aload_n 0, 1) := dk_42 (dk_at dksX5_fails_0 7 rfl rfl)
theorem dX5_fails_8 : decode cX5_fails 8 = .ok (.iload_n 1, 1) := dk_27 (dk_at dksX5_fails_0 8 rfl rfl)
theorem dX5_fails_9 : decode cX5_fails 9 = .ok (.putfield 104, 3) := dk_181 0 104 (dk_at dksX5_fails_0 9 rfl rfl)
theorem dX5_fails_12 : decode cX5_fails 12 = .ok (.aload_n 0, 1) := dk_42 (dk_at dksX5_fails_0 12 rfl rfl)
theorem dX5_fails_13 : decode cX5_fails 13 = .ok (.aload_n 0, 1) := dk_42 (dk_at dksX5_fails_0 13 rfl rfl)
theorem dX5_fails_14 : decode cX5_fails 14 = .ok (.getfield 101, 3) := dk_180 0 101 (dk_at dksX5_fails_0 14 rfl rfl)
theorem dX5_fails_17 : decode cX5_fails 17 = .ok (.putfield 107, 3) := dk_181 0 107 (dk_at dksX5_fails_0 17 rfl rfl)
theorem dX5_fails_20 : decode cX5_fails 20 = .ok (.return_, 1) := dk_177 (dk_at dksX5_fails_0 20 rfl rfl)
abbrev cX5_number : ByteArray := prog_17_method_19_code
def yX5_number : MethodName := ⟨RX5, "number", "(II)I"⟩
def dkwX5_number_3 : List UInt8 := [181, 0, 94, 167, 255, 214, 29, 27, 28, 184, 0, 81, 154, 0, 10, 42, 5, 182, 0, 121, 27, 172, 29, 172]
abbrev dktX5_number_3 : List UInt8 := dkwX5_number_3 ++ []
def dkwX5_number_2 : List UInt8 := [16, 10, 29, 104, 42, 182, 0, 97, 96, 16, 48, 100, 184, 0, 126, 62, 42, 89, 180, 0, 94, 4, 96]
abbrev dktX5_number_2 : List UInt8 := dkwX5_number_2 ++ dktX5_number_3
def dkwX5_number_1 : List UInt8 := [4, 182, 0, 121, 27, 172, 3, 62, 42, 182, 0, 97, 16, 48, 16, 57, 184, 0, 81, 153, 0, 34, 18, 125]
abbrev dktX5_number_1 : List UInt8 := dkwX5_number_1 ++ dktX5_number_2
def dkwX5_number_0 : List UInt8 := [42, 180, 0, 104, 153, 0, 5, 27, 172, 42, 182, 0, 110, 16, 48, 16, 57, 184, 0, 81, 154, 0, 10, 42]
abbrev dktX5_number_0 : List UInt8 := dkwX5_number_0 ++ dktX5_number_1
theorem dksX5_number_0 : cX5_number.data.toList.drop 0 = dktX5_number_0 := by decide +kernel
theorem dksX5_number_1 : cX5_number.data.toList.drop 24 = dktX5_number_1 := dk_seg dksX5_number_0 24 rfl rfl
theorem dksX5_number_2 : cX5_number.data.toList.drop 48 = dktX5_number_2 := dk_seg dksX5_number_1 24 rfl rfl
theorem dksX5_number_3 : cX5_number.data.toList.drop 71 = dktX5_number_3 := dk_seg dksX5_number_2 23 rfl rfl
theorem dX5_number_0 : decode cX5_number 0 = .ok (.aload_n 0, 1) := dk_42 (dk_at dksX5_number_0 0 rfl rfl)
theorem dX5_number_1 : decode cX5_number 1 = .ok (.getfield 104, 3) := dk_180 0 104 (dk_at dksX5_number_0 1 rfl rfl)
theorem dX5_number_4 : decode cX5_number 4 = .ok (.ifCond .eq 5, 3) := dk_153 0 5 (dk_at dksX5_number_0 4 rfl rfl)
theorem dX5_number_7 : decode cX5_number 7 = .ok (.iload_n 1, 1) := dk_27 (dk_at dksX5_number_0 7 rfl rfl)
theorem dX5_number_8 : decode cX5_number 8 = .ok (.ireturn, 1) := dk_172 (dk_at dksX5_number_0 8 rfl rfl)
theorem dX5_number_9 : decode cX5_number 9 = .ok (.aload_n 0, 1) := dk_42 (dk_at dksX5_number_0 9 rfl rfl)
theorem dX5_number_10 : decode cX5_number 10 = .ok (.invokevirtual 110, 3) := dk_182 0 110 (dk_at dksX5_number_0 10 rfl rfl)
theorem dX5_number_13 : decode cX5_number 13 = .ok (.bipush 48, 2) := dk_16 48 (dk_at dksX5_number_0 13 rfl rfl)
theorem dX5_number_15 : decode cX5_number 15 = .ok (.bipush 57, 2) := dk_16 57 (dk_at dksX5_number_0 15 rfl rfl)
theorem dX5_number_17 : decode cX5_number 17 = .ok (.invokestatic 81, 3) := dk_184 0 81 (dk_at dksX5_number_0 17 rfl rfl)
theorem dX5_number_20 : decode cX5_number 20 = .ok (.ifCond .ne 10, 3) := dk_154 0 10 (dk_at dksX5_number_0 20 rfl rfl)
theorem dX5_number_23 : decode cX5_number 23 = .ok (.aload_n 0, 1) := dk_42 (dk_at dksX5_number_0 23 rfl rfl)
theorem dX5_number_24 : decode cX5_number 24 = .ok (.iconst 1, 1) := dk_4 (dk_at dksX5_number_1 0 rfl rfl)
theorem dX5_number_25 : decode cX5_number 25 = .ok (.invokevirtual 121, 3) := dk_182 0 121 (dk_at dksX5_number_1 1 rfl rfl)
theorem dX5_number_28 : decode cX5_number 28 = .ok (.iload_n 1, 1) := dk_27 (dk_at dksX5_number_1 4 rfl rfl)
theorem dX5_number_29 : decode cX5_number 29 = .ok (.ireturn, 1) := dk_172 (dk_at dksX5_number_1 5 rfl rfl)
theorem dX5_number_30 : decode cX5_number 30 = .ok (.iconst 0, 1) := dk_3 (dk_at dksX5_number_1 6 rfl rfl)
theorem dX5_number_31 : decode cX5_number 31 = .ok (.istore_n 3, 1) := dk_62 (dk_at dksX5_number_1 7 rfl rfl)
theorem dX5_number_32 : decode cX5_number 32 = .ok (.aload_n 0, 1) := dk_42 (dk_at dksX5_number_1 8 rfl rfl)
theorem dX5_number_33 : decode cX5_number 33 = .ok (.invokevirtual 97, 3) := dk_182 0 97 (dk_at dksX5_number_1 9 rfl rfl)
theorem dX5_number_36 : decode cX5_number 36 = .ok (.bipush 48, 2) := dk_16 48 (dk_at dksX5_number_1 12 rfl rfl)
theorem dX5_number_38 : decode cX5_number 38 = .ok (.bipush 57, 2) := dk_16 57 (dk_at dksX5_number_1 14 rfl rfl)
theorem dX5_number_40 : decode cX5_number 40 = .ok (.invokestatic 81, 3) := dk_184 0 81 (dk_at dksX5_number_1 16 rfl rfl)
theorem dX5_number_43 : decode cX5_number 43 = .ok (.ifCond .eq 34, 3) := dk_153 0 34 (dk_at dksX5_number_1 19 rfl rfl)
theorem dX5_number_46 : decode cX5_number 46 = .ok (.ldc 125, 2) := dk_18 125 (dk_at dksX5_number_1 22 rfl rfl)
theorem dX5_number_48 : decode cX5_number 48 = .ok (.bipush 10, 2) := dk_16 10 (dk_at dksX5_number_2 0 rfl rfl)
theorem dX5_number_50 : decode cX5_number 50 = .ok (.iload_n 3, 1) := dk_29 (dk_at dksX5_number_2 2 rfl rfl)
theorem dX5_number_51 : decode cX5_number 51 = .ok (.imul, 1) := dk_104 (dk_at dksX5_number_2 3 rfl rfl)
theorem dX5_number_52 : decode cX5_number 52 = .ok (.aload_n 0, 1) := dk_42 (dk_at dksX5_number_2 4 rfl rfl)
theorem dX5_number_53 : decode cX5_number 53 = .ok (.invokevirtual 97, 3) := dk_182 0 97 (dk_at dksX5_number_2 5 rfl rfl)
theorem dX5_number_56 : decode cX5_number 56 = .ok (.iadd, 1) := dk_96 (dk_at dksX5_number_2 8 rfl rfl)
theorem dX5_number_57 : decode cX5_number 57 = .ok (.bipush 48, 2) := dk_16 48 (dk_at dksX5_number_2 9 rfl rfl)
theorem dX5_number_59 : decode cX5_number 59 = .ok (.isub, 1) := dk_100 (dk_at dksX5_number_2 11 rfl rfl)
theorem dX5_number_60 : decode cX5_number 60 = .ok (.invokestatic 126, 3) := dk_184 0 126 (dk_at dksX5_number_2 12 rfl rfl)
theorem dX5_number_63 : decode cX5_number 63 = .ok (.istore_n 3, 1) := dk_62 (dk_at dksX5_number_2 15 rfl rfl)
theorem dX5_number_64 : decode cX5_number 64 = .ok (.aload_n 0, 1) := dk_42 (dk_at dksX5_number_2 16 rfl rfl)
theorem dX5_number_65 : decode cX5_number 65 = .ok (.dup, 1) := dk_89 (dk_at dksX5_number_2 17 rfl rfl)
theorem dX5_number_66 : decode cX5_number 66 = .ok (.getfield 94, 3) := dk_180 0 94 (dk_at dksX5_number_2 18 rfl rfl)
theorem dX5_number_69 : decode cX5_number 69 = .ok (.iconst 1, 1) := dk_4 (dk_at dksX5_number_2 21 rfl rfl)
theorem dX5_number_70 : decode cX5_number 70 = .ok (.iadd, 1) := dk_96 (dk_at dksX5_number_2 22 rfl rfl)
theorem dX5_number_71 : decode cX5_number 71 = .ok (.putfield 94, 3) := dk_181 0 94 (dk_at dksX5_number_3 0 rfl rfl)
theorem dX5_number_74 : decode cX5_number 74 = .ok (.goto (-42), 3) := dk_167 255 214 (dk_at dksX5_number_3 3 rfl rfl)
theorem dX5_number_77 : decode cX5_number 77 = .ok (.iload_n 3, 1) := dk_29 (dk_at dksX5_number_3 6 rfl rfl)
theorem dX5_number_78 : decode cX5_number 78 = .ok (.iload_n 1, 1) := dk_27 (dk_at dksX5_number_3 7 rfl rfl)
theorem dX5_number_79 : decode cX5_number 79 = .ok (.iload_n 2, 1) := dk_28 (dk_at dksX5_number_3 8 rfl rfl)
theorem dX5_number_80 : decode cX5_number 80 = .ok (.invokestatic 81, 3) := dk_184 0 81 (dk_at dksX5_number_3 9 rfl rfl)
theorem dX5_number_83 : decode cX5_number 83 = .ok (.ifCond .ne 10, 3) := dk_154 0 10 (dk_at dksX5_number_3 12 rfl rfl)
theorem dX5_number_86 : decode cX5_number 86 = .ok (.aload_n 0, 1) := dk_42 (dk_at dksX5_number_3 15 rfl rfl)
theorem dX5_number_87 : decode cX5_number 87 = .ok (.iconst 2, 1) := dk_5 (dk_at dksX5_number_3 16 rfl rfl)
theorem dX5_number_88 : decode cX5_number 88 = .ok (.invokevirtual 121, 3) := dk_182 0 121 (dk_at dksX5_number_3 17 rfl rfl)
theorem dX5_number_91 : decode cX5_number 91 = .ok (.iload_n 1, 1) := dk_27 (dk_at dksX5_number_3 20 rfl rfl)
theorem dX5_number_92 : decode cX5_number 92 = .ok (.ireturn, 1) := dk_172 (dk_at dksX5_number_3 21 rfl rfl)
theorem dX5_number_93 : decode cX5_number 93 = .ok (.iload_n 3, 1) := dk_29 (dk_at dksX5_number_3 22 rfl rfl)
theorem dX5_number_94 : decode cX5_number 94 = .ok (.ireturn, 1) := dk_172 (dk_at dksX5_number_3 23 rfl rfl)
abbrev cX5_isMore : ByteArray := prog_17_method_24_code
def yX5_isMore : MethodName := ⟨RX5, "isMore", "()Z"⟩
def dkwX5_isMore_2 : List UInt8 := [180, 0, 156, 4, 96, 181, 0, 156, 4, 172]
abbrev dktX5_isMore_2 : List UInt8 := dkwX5_isMore_2 ++ []
def dkwX5_isMore_1 : List UInt8 := [159, 0, 10, 42, 4, 182, 0, 121, 3, 172, 42, 89, 180, 0, 94, 4, 96, 181, 0, 94, 42, 89]
abbrev dktX5_isMore_1 : List UInt8 := dkwX5_isMore_1 ++ dktX5_isMore_2
def dkwX5_isMore_0 : List UInt8 := [42, 180, 0, 104, 154, 0, 10, 42, 182, 0, 110, 156, 0, 5, 3, 172, 42, 182, 0, 97, 16, 59]
abbrev dktX5_isMore_0 : List UInt8 := dkwX5_isMore_0 ++ dktX5_isMore_1
theorem dksX5_isMore_0 : cX5_isMore.data.toList.drop 0 = dktX5_isMore_0 := by decide +kernel
theorem dksX5_isMore_1 : cX5_isMore.data.toList.drop 22 = dktX5_isMore_1 := dk_seg dksX5_isMore_0 22 rfl rfl
theorem dksX5_isMore_2 : cX5_isMore.data.toList.drop 44 = dktX5_isMore_2 := dk_seg dksX5_isMore_1 22 rfl rfl
theorem dX5_isMore_0 : decode cX5_isMore 0 = .ok (.aload_n 0, 1) := dk_42 (dk_at dksX5_isMore_0 0 rfl rfl)
theorem dX5_isMore_1 : decode cX5_isMore 1 = .ok (.getfield 104, 3) := dk_180 0 104 (dk_at dksX5_isMore_0 1 rfl rfl)
theorem dX5_isMore_4 : decode cX5_isMore 4 = .ok (.ifCond .ne 10, 3) := dk_154 0 10 (dk_at dksX5_isMore_0 4 rfl rfl)
theorem dX5_isMore_7 : decode cX5_isMore 7 = .ok (.aload_n 0, 1) := dk_42 (dk_at dksX5_isMore_0 7 rfl rfl)
theorem dX5_isMore_8 : decode cX5_isMore 8 = .ok (.invokevirtual 110, 3) := dk_182 0 110 (dk_at dksX5_isMore_0 8 rfl rfl)
theorem dX5_isMore_11 : decode cX5_isMore 11 = .ok (.ifCond .ge 5, 3) := dk_156 0 5 (dk_at dksX5_isMore_0 11 rfl rfl)
theorem dX5_isMore_14 : decode cX5_isMore 14 = .ok (.iconst 0, 1) := dk_3 (dk_at dksX5_isMore_0 14 rfl rfl)
theorem dX5_isMore_15 : decode cX5_isMore 15 = .ok (.ireturn, 1) := dk_172 (dk_at dksX5_isMore_0 15 rfl rfl)
theorem dX5_isMore_16 : decode cX5_isMore 16 = .ok (.aload_n 0, 1) := dk_42 (dk_at dksX5_isMore_0 16 rfl rfl)
theorem dX5_isMore_17 : decode cX5_isMore 17 = .ok (.invokevirtual 97, 3) := dk_182 0 97 (dk_at dksX5_isMore_0 17 rfl rfl)
theorem dX5_isMore_20 : decode cX5_isMore 20 = .ok (.bipush 59, 2) := dk_16 59 (dk_at dksX5_isMore_0 20 rfl rfl)
theorem dX5_isMore_22 : decode cX5_isMore 22 = .ok (.if_icmp .eq 10, 3) := dk_159 0 10 (dk_at dksX5_isMore_1 0 rfl rfl)
theorem dX5_isMore_25 : decode cX5_isMore 25 = .ok (.aload_n 0, 1) := dk_42 (dk_at dksX5_isMore_1 3 rfl rfl)
theorem dX5_isMore_26 : decode cX5_isMore 26 = .ok (.iconst 1, 1) := dk_4 (dk_at dksX5_isMore_1 4 rfl rfl)
theorem dX5_isMore_27 : decode cX5_isMore 27 = .ok (.invokevirtual 121, 3) := dk_182 0 121 (dk_at dksX5_isMore_1 5 rfl rfl)
theorem dX5_isMore_30 : decode cX5_isMore 30 = .ok (.iconst 0, 1) := dk_3 (dk_at dksX5_isMore_1 8 rfl rfl)
theorem dX5_isMore_31 : decode cX5_isMore 31 = .ok (.ireturn, 1) := dk_172 (dk_at dksX5_isMore_1 9 rfl rfl)
theorem dX5_isMore_32 : decode cX5_isMore 32 = .ok (.aload_n 0, 1) := dk_42 (dk_at dksX5_isMore_1 10 rfl rfl)
theorem dX5_isMore_33 : decode cX5_isMore 33 = .ok (.dup, 1) := dk_89 (dk_at dksX5_isMore_1 11 rfl rfl)
theorem dX5_isMore_34 : decode cX5_isMore 34 = .ok (.getfield 94, 3) := dk_180 0 94 (dk_at dksX5_isMore_1 12 rfl rfl)
theorem dX5_isMore_37 : decode cX5_isMore 37 = .ok (.iconst 1, 1) := dk_4 (dk_at dksX5_isMore_1 15 rfl rfl)
theorem dX5_isMore_38 : decode cX5_isMore 38 = .ok (.iadd, 1) := dk_96 (dk_at dksX5_isMore_1 16 rfl rfl)
theorem dX5_isMore_39 : decode cX5_isMore 39 = .ok (.putfield 94, 3) := dk_181 0 94 (dk_at dksX5_isMore_1 17 rfl rfl)
theorem dX5_isMore_42 : decode cX5_isMore 42 = .ok (.aload_n 0, 1) := dk_42 (dk_at dksX5_isMore_1 20 rfl rfl)
theorem dX5_isMore_43 : decode cX5_isMore 43 = .ok (.dup, 1) := dk_89 (dk_at dksX5_isMore_1 21 rfl rfl)
theorem dX5_isMore_44 : decode cX5_isMore 44 = .ok (.getfield 156, 3) := dk_180 0 156 (dk_at dksX5_isMore_2 0 rfl rfl)
theorem dX5_isMore_47 : decode cX5_isMore 47 = .ok (.iconst 1, 1) := dk_4 (dk_at dksX5_isMore_2 3 rfl rfl)
theorem dX5_isMore_48 : decode cX5_isMore 48 = .ok (.iadd, 1) := dk_96 (dk_at dksX5_isMore_2 4 rfl rfl)
theorem dX5_isMore_49 : decode cX5_isMore 49 = .ok (.putfield 156, 3) := dk_181 0 156 (dk_at dksX5_isMore_2 5 rfl rfl)
theorem dX5_isMore_52 : decode cX5_isMore 52 = .ok (.iconst 1, 1) := dk_4 (dk_at dksX5_isMore_2 8 rfl rfl)
theorem dX5_isMore_53 : decode cX5_isMore 53 = .ok (.ireturn, 1) := dk_172 (dk_at dksX5_isMore_2 9 rfl rfl)
abbrev cX5_statement : ByteArray := prog_17_method_23_code
def yX5_statement : MethodName := ⟨RX5, "statement", "()V"⟩
def dkwX5_statement_1 : List UInt8 := [182, 0, 142, 153, 0, 10, 42, 182, 0, 153, 167, 0, 8, 42, 4, 182, 0, 121, 177]
abbrev dktX5_statement_1 : List UInt8 := dkwX5_statement_1 ++ []
def dkwX5_statement_0 : List UInt8 := [42, 182, 0, 137, 42, 18, 146, 182, 0, 142, 153, 0, 10, 42, 182, 0, 148, 167, 0, 24, 42, 18, 151]
abbrev dktX5_statement_0 : List UInt8 := dkwX5_statement_0 ++ dktX5_statement_1
theorem dksX5_statement_0 : cX5_statement.data.toList.drop 0 = dktX5_statement_0 := by decide +kernel
theorem dksX5_statement_1 : cX5_statement.data.toList.drop 23 = dktX5_statement_1 := dk_seg dksX5_statement_0 23 rfl rfl
theorem dX5_statement_0 : decode cX5_statement 0 = .ok (.aload_n 0, 1) := dk_42 (dk_at dksX5_statement_0 0 rfl rfl)
theorem dX5_statement_1 : decode cX5_statement 1 = .ok (.invokevirtual 137, 3) := dk_182 0 137 (dk_at dksX5_statement_0 1 rfl rfl)
theorem dX5_statement_4 : decode cX5_statement 4 = .ok (.aload_n 0, 1) := dk_42 (dk_at dksX5_statement_0 4 rfl rfl)
theorem dX5_statement_5 : decode cX5_statement 5 = .ok (.ldc 146, 2) := dk_18 146 (dk_at dksX5_statement_0 5 rfl rfl)
theorem dX5_statement_7 : decode cX5_statement 7 = .ok (.invokevirtual 142, 3) := dk_182 0 142 (dk_at dksX5_statement_0 7 rfl rfl)
theorem dX5_statement_10 : decode cX5_statement 10 = .ok (.ifCond .eq 10, 3) := dk_153 0 10 (dk_at dksX5_statement_0 10 rfl rfl)
theorem dX5_statement_13 : decode cX5_statement 13 = .ok (.aload_n 0, 1) := dk_42 (dk_at dksX5_statement_0 13 rfl rfl)
theorem dX5_statement_14 : decode cX5_statement 14 = .ok (.invokevirtual 148, 3) := dk_182 0 148 (dk_at dksX5_statement_0 14 rfl rfl)
theorem dX5_statement_17 : decode cX5_statement 17 = .ok (.goto 24, 3) := dk_167 0 24 (dk_at dksX5_statement_0 17 rfl rfl)
theorem dX5_statement_20 : decode cX5_statement 20 = .ok (.aload_n 0, 1) := dk_42 (dk_at dksX5_statement_0 20 rfl rfl)
theorem dX5_statement_21 : decode cX5_statement 21 = .ok (.ldc 151, 2) := dk_18 151 (dk_at dksX5_statement_0 21 rfl rfl)
theorem dX5_statement_23 : decode cX5_statement 23 = .ok (.invokevirtual 142, 3) := dk_182 0 142 (dk_at dksX5_statement_1 0 rfl rfl)
theorem dX5_statement_26 : decode cX5_statement 26 = .ok (.ifCond .eq 10, 3) := dk_153 0 10 (dk_at dksX5_statement_1 3 rfl rfl)
theorem dX5_statement_29 : decode cX5_statement 29 = .ok (.aload_n 0, 1) := dk_42 (dk_at dksX5_statement_1 6 rfl rfl)
theorem dX5_statement_30 : decode cX5_statement 30 = .ok (.invokevirtual 153, 3) := dk_182 0 153 (dk_at dksX5_statement_1 7 rfl rfl)
theorem dX5_statement_33 : decode cX5_statement 33 = .ok (.goto 8, 3) := dk_167 0 8 (dk_at dksX5_statement_1 10 rfl rfl)
theorem dX5_statement_36 : decode cX5_statement 36 = .ok (.aload_n 0, 1) := dk_42 (dk_at dksX5_statement_1 13 rfl rfl)
theorem dX5_statement_37 : decode cX5_statement 37 = .ok (.iconst 1, 1) := dk_4 (dk_at dksX5_statement_1 14 rfl rfl)
theorem dX5_statement_38 : decode cX5_statement 38 = .ok (.invokevirtual 121, 3) := dk_182 0 121 (dk_at dksX5_statement_1 15 rfl rfl)
theorem dX5_statement_41 : decode cX5_statement 41 = .ok (.return_, 1) := dk_177 (dk_at dksX5_statement_1 18 rfl rfl)
abbrev cX5_arcPart : ByteArray := prog_17_method_21_code
def yX5_arcPart : MethodName := ⟨RX5, "arcPart", "()V"⟩
def dkwX5_arcPart_4 : List UInt8 := [184, 0, 77, 42, 4, 17, 39, 15, 182, 0, 131, 79, 42, 180, 0, 15, 4, 92, 46, 4, 96, 79, 177]
abbrev dktX5_arcPart_4 : List UInt8 := dkwX5_arcPart_4 ++ []
def dkwX5_arcPart_3 : List UInt8 := [182, 0, 137, 42, 18, 140, 182, 0, 142, 154, 0, 8, 42, 4, 182, 0, 121, 42, 180, 0, 15, 27, 6]
abbrev dktX5_arcPart_3 : List UInt8 := dkwX5_arcPart_3 ++ dktX5_arcPart_4
def dkwX5_arcPart_2 : List UInt8 := [42, 180, 0, 104, 154, 0, 53, 42, 182, 0, 110, 16, 97, 16, 122, 184, 0, 81, 153, 0, 39, 42]
abbrev dktX5_arcPart_2 : List UInt8 := dkwX5_arcPart_2 ++ dktX5_arcPart_3
def dkwX5_arcPart_1 : List UInt8 := [184, 0, 77, 182, 0, 134, 42, 180, 0, 15, 27, 5, 184, 0, 77, 42, 4, 17, 3, 231, 182, 0, 131, 79]
abbrev dktX5_arcPart_1 : List UInt8 := dkwX5_arcPart_1 ++ dktX5_arcPart_2
def dkwX5_arcPart_0 : List UInt8 := [42, 180, 0, 15, 4, 46, 60, 27, 16, 24, 160, 0, 9, 42, 7, 182, 0, 121, 177, 42, 27, 3]
abbrev dktX5_arcPart_0 : List UInt8 := dkwX5_arcPart_0 ++ dktX5_arcPart_1
theorem dksX5_arcPart_0 : cX5_arcPart.data.toList.drop 0 = dktX5_arcPart_0 := by decide +kernel
theorem dksX5_arcPart_1 : cX5_arcPart.data.toList.drop 22 = dktX5_arcPart_1 := dk_seg dksX5_arcPart_0 22 rfl rfl
theorem dksX5_arcPart_2 : cX5_arcPart.data.toList.drop 46 = dktX5_arcPart_2 := dk_seg dksX5_arcPart_1 24 rfl rfl
theorem dksX5_arcPart_3 : cX5_arcPart.data.toList.drop 68 = dktX5_arcPart_3 := dk_seg dksX5_arcPart_2 22 rfl rfl
theorem dksX5_arcPart_4 : cX5_arcPart.data.toList.drop 91 = dktX5_arcPart_4 := dk_seg dksX5_arcPart_3 23 rfl rfl
theorem dX5_arcPart_0 : decode cX5_arcPart 0 = .ok (.aload_n 0, 1) := dk_42 (dk_at dksX5_arcPart_0 0 rfl rfl)
theorem dX5_arcPart_1 : decode cX5_arcPart 1 = .ok (.getfield 15, 3) := dk_180 0 15 (dk_at dksX5_arcPart_0 1 rfl rfl)
theorem dX5_arcPart_4 : decode cX5_arcPart 4 = .ok (.iconst 1, 1) := dk_4 (dk_at dksX5_arcPart_0 4 rfl rfl)
theorem dX5_arcPart_5 : decode cX5_arcPart 5 = .ok (.iaload, 1) := dk_46 (dk_at dksX5_arcPart_0 5 rfl rfl)
theorem dX5_arcPart_6 : decode cX5_arcPart 6 = .ok (.istore_n 1, 1) := dk_60 (dk_at dksX5_arcPart_0 6 rfl rfl)
theorem dX5_arcPart_7 : decode cX5_arcPart 7 = .ok (.iload_n 1, 1) := dk_27 (dk_at dksX5_arcPart_0 7 rfl rfl)
theorem dX5_arcPart_8 : decode cX5_arcPart 8 = .ok (.bipush 24, 2) := dk_16 24 (dk_at dksX5_arcPart_0 8 rfl rfl)
theorem dX5_arcPart_10 : decode cX5_arcPart 10 = .ok (.if_icmp .ne 9, 3) := dk_160 0 9 (dk_at dksX5_arcPart_0 10 rfl rfl)
theorem dX5_arcPart_13 : decode cX5_arcPart 13 = .ok (.aload_n 0, 1) := dk_42 (dk_at dksX5_arcPart_0 13 rfl rfl)
theorem dX5_arcPart_14 : decode cX5_arcPart 14 = .ok (.iconst 4, 1) := dk_7 (dk_at dksX5_arcPart_0 14 rfl rfl)
theorem dX5_arcPart_15 : decode cX5_arcPart 15 = .ok (.invokevirtual 121, 3) := dk_182 0 121 (dk_at dksX5_arcPart_0 15 rfl rfl)
theorem dX5_arcPart_18 : decode cX5_arcPart 18 = .ok (.return_, 1) := dk_177 (dk_at dksX5_arcPart_0 18 rfl rfl)
theorem dX5_arcPart_19 : decode cX5_arcPart 19 = .ok (.aload_n 0, 1) := dk_42 (dk_at dksX5_arcPart_0 19 rfl rfl)
theorem dX5_arcPart_20 : decode cX5_arcPart 20 = .ok (.iload_n 1, 1) := dk_27 (dk_at dksX5_arcPart_0 20 rfl rfl)
theorem dX5_arcPart_21 : decode cX5_arcPart 21 = .ok (.iconst 0, 1) := dk_3 (dk_at dksX5_arcPart_0 21 rfl rfl)
theorem dX5_arcPart_22 : decode cX5_arcPart 22 = .ok (.invokestatic 77, 3) := dk_184 0 77 (dk_at dksX5_arcPart_1 0 rfl rfl)
theorem dX5_arcPart_25 : decode cX5_arcPart 25 = .ok (.invokevirtual 134, 3) := dk_182 0 134 (dk_at dksX5_arcPart_1 3 rfl rfl)
theorem dX5_arcPart_28 : decode cX5_arcPart 28 = .ok (.aload_n 0, 1) := dk_42 (dk_at dksX5_arcPart_1 6 rfl rfl)
theorem dX5_arcPart_29 : decode cX5_arcPart 29 = .ok (.getfield 15, 3) := dk_180 0 15 (dk_at dksX5_arcPart_1 7 rfl rfl)
theorem dX5_arcPart_32 : decode cX5_arcPart 32 = .ok (.iload_n 1, 1) := dk_27 (dk_at dksX5_arcPart_1 10 rfl rfl)
theorem dX5_arcPart_33 : decode cX5_arcPart 33 = .ok (.iconst 2, 1) := dk_5 (dk_at dksX5_arcPart_1 11 rfl rfl)
theorem dX5_arcPart_34 : decode cX5_arcPart 34 = .ok (.invokestatic 77, 3) := dk_184 0 77 (dk_at dksX5_arcPart_1 12 rfl rfl)
theorem dX5_arcPart_37 : decode cX5_arcPart 37 = .ok (.aload_n 0, 1) := dk_42 (dk_at dksX5_arcPart_1 15 rfl rfl)
theorem dX5_arcPart_38 : decode cX5_arcPart 38 = .ok (.iconst 1, 1) := dk_4 (dk_at dksX5_arcPart_1 16 rfl rfl)
theorem dX5_arcPart_39 : decode cX5_arcPart 39 = .ok (.sipush 999, 3) := dk_17 3 231 (dk_at dksX5_arcPart_1 17 rfl rfl)
theorem dX5_arcPart_42 : decode cX5_arcPart 42 = .ok (.invokevirtual 131, 3) := dk_182 0 131 (dk_at dksX5_arcPart_1 20 rfl rfl)
theorem dX5_arcPart_45 : decode cX5_arcPart 45 = .ok (.iastore, 1) := dk_79 (dk_at dksX5_arcPart_1 23 rfl rfl)
theorem dX5_arcPart_46 : decode cX5_arcPart 46 = .ok (.aload_n 0, 1) := dk_42 (dk_at dksX5_arcPart_2 0 rfl rfl)
theorem dX5_arcPart_47 : decode cX5_arcPart 47 = .ok (.getfield 104, 3) := dk_180 0 104 (dk_at dksX5_arcPart_2 1 rfl rfl)
theorem dX5_arcPart_50 : decode cX5_arcPart 50 = .ok (.ifCond .ne 53, 3) := dk_154 0 53 (dk_at dksX5_arcPart_2 4 rfl rfl)
theorem dX5_arcPart_53 : decode cX5_arcPart 53 = .ok (.aload_n 0, 1) := dk_42 (dk_at dksX5_arcPart_2 7 rfl rfl)
theorem dX5_arcPart_54 : decode cX5_arcPart 54 = .ok (.invokevirtual 110, 3) := dk_182 0 110 (dk_at dksX5_arcPart_2 8 rfl rfl)
theorem dX5_arcPart_57 : decode cX5_arcPart 57 = .ok (.bipush 97, 2) := dk_16 97 (dk_at dksX5_arcPart_2 11 rfl rfl)
theorem dX5_arcPart_59 : decode cX5_arcPart 59 = .ok (.bipush 122, 2) := dk_16 122 (dk_at dksX5_arcPart_2 13 rfl rfl)
theorem dX5_arcPart_61 : decode cX5_arcPart 61 = .ok (.invokestatic 81, 3) := dk_184 0 81 (dk_at dksX5_arcPart_2 15 rfl rfl)
theorem dX5_arcPart_64 : decode cX5_arcPart 64 = .ok (.ifCond .eq 39, 3) := dk_153 0 39 (dk_at dksX5_arcPart_2 18 rfl rfl)
theorem dX5_arcPart_67 : decode cX5_arcPart 67 = .ok (.aload_n 0, 1) := dk_42 (dk_at dksX5_arcPart_2 21 rfl rfl)
theorem dX5_arcPart_68 : decode cX5_arcPart 68 = .ok (.invokevirtual 137, 3) := dk_182 0 137 (dk_at dksX5_arcPart_3 0 rfl rfl)
theorem dX5_arcPart_71 : decode cX5_arcPart 71 = .ok (.aload_n 0, 1) := dk_42 (dk_at dksX5_arcPart_3 3 rfl rfl)
theorem dX5_arcPart_72 : decode cX5_arcPart 72 = .ok (.ldc 140, 2) := dk_18 140 (dk_at dksX5_arcPart_3 4 rfl rfl)
theorem dX5_arcPart_74 : decode cX5_arcPart 74 = .ok (.invokevirtual 142, 3) := dk_182 0 142 (dk_at dksX5_arcPart_3 6 rfl rfl)
theorem dX5_arcPart_77 : decode cX5_arcPart 77 = .ok (.ifCond .ne 8, 3) := dk_154 0 8 (dk_at dksX5_arcPart_3 9 rfl rfl)
theorem dX5_arcPart_80 : decode cX5_arcPart 80 = .ok (.aload_n 0, 1) := dk_42 (dk_at dksX5_arcPart_3 12 rfl rfl)
theorem dX5_arcPart_81 : decode cX5_arcPart 81 = .ok (.iconst 1, 1) := dk_4 (dk_at dksX5_arcPart_3 13 rfl rfl)
theorem dX5_arcPart_82 : decode cX5_arcPart 82 = .ok (.invokevirtual 121, 3) := dk_182 0 121 (dk_at dksX5_arcPart_3 14 rfl rfl)
theorem dX5_arcPart_85 : decode cX5_arcPart 85 = .ok (.aload_n 0, 1) := dk_42 (dk_at dksX5_arcPart_3 17 rfl rfl)
theorem dX5_arcPart_86 : decode cX5_arcPart 86 = .ok (.getfield 15, 3) := dk_180 0 15 (dk_at dksX5_arcPart_3 18 rfl rfl)
theorem dX5_arcPart_89 : decode cX5_arcPart 89 = .ok (.iload_n 1, 1) := dk_27 (dk_at dksX5_arcPart_3 21 rfl rfl)
theorem dX5_arcPart_90 : decode cX5_arcPart 90 = .ok (.iconst 3, 1) := dk_6 (dk_at dksX5_arcPart_3 22 rfl rfl)
theorem dX5_arcPart_91 : decode cX5_arcPart 91 = .ok (.invokestatic 77, 3) := dk_184 0 77 (dk_at dksX5_arcPart_4 0 rfl rfl)
theorem dX5_arcPart_94 : decode cX5_arcPart 94 = .ok (.aload_n 0, 1) := dk_42 (dk_at dksX5_arcPart_4 3 rfl rfl)
theorem dX5_arcPart_95 : decode cX5_arcPart 95 = .ok (.iconst 1, 1) := dk_4 (dk_at dksX5_arcPart_4 4 rfl rfl)
theorem dX5_arcPart_96 : decode cX5_arcPart 96 = .ok (.sipush 9999, 3) := dk_17 39 15 (dk_at dksX5_arcPart_4 5 rfl rfl)
theorem dX5_arcPart_99 : decode cX5_arcPart 99 = .ok (.invokevirtual 131, 3) := dk_182 0 131 (dk_at dksX5_arcPart_4 8 rfl rfl)
theorem dX5_arcPart_102 : decode cX5_arcPart 102 = .ok (.iastore, 1) := dk_79 (dk_at dksX5_arcPart_4 11 rfl rfl)
theorem dX5_arcPart_103 : decode cX5_arcPart 103 = .ok (.aload_n 0, 1) := dk_42 (dk_at dksX5_arcPart_4 12 rfl rfl)
theorem dX5_arcPart_104 : decode cX5_arcPart 104 = .ok (.getfield 15, 3) := dk_180 0 15 (dk_at dksX5_arcPart_4 13 rfl rfl)
theorem dX5_arcPart_107 : decode cX5_arcPart 107 = .ok (.iconst 1, 1) := dk_4 (dk_at dksX5_arcPart_4 16 rfl rfl)
theorem dX5_arcPart_108 : decode cX5_arcPart 108 = .ok (.dup2, 1) := dk_92 (dk_at dksX5_arcPart_4 17 rfl rfl)
theorem dX5_arcPart_109 : decode cX5_arcPart 109 = .ok (.iaload, 1) := dk_46 (dk_at dksX5_arcPart_4 18 rfl rfl)
theorem dX5_arcPart_110 : decode cX5_arcPart 110 = .ok (.iconst 1, 1) := dk_4 (dk_at dksX5_arcPart_4 19 rfl rfl)
theorem dX5_arcPart_111 : decode cX5_arcPart 111 = .ok (.iadd, 1) := dk_96 (dk_at dksX5_arcPart_4 20 rfl rfl)
theorem dX5_arcPart_112 : decode cX5_arcPart 112 = .ok (.iastore, 1) := dk_79 (dk_at dksX5_arcPart_4 21 rfl rfl)
theorem dX5_arcPart_113 : decode cX5_arcPart 113 = .ok (.return_, 1) := dk_177 (dk_at dksX5_arcPart_4 22 rfl rfl)
abbrev cX5_atArc : ByteArray := prog_17_method_7_code
def yX5_atArc : MethodName := ⟨RX5, "atArc", "(II)I"⟩
def dkwX5_atArc_0 : List UInt8 := [7, 16, 6, 26, 104, 96, 27, 96, 172]
abbrev dktX5_atArc_0 : List UInt8 := dkwX5_atArc_0 ++ []
theorem dksX5_atArc_0 : cX5_atArc.data.toList.drop 0 = dktX5_atArc_0 := by decide +kernel
theorem dX5_atArc_0 : decode cX5_atArc 0 = .ok (.iconst 4, 1) := dk_7 (dk_at dksX5_atArc_0 0 rfl rfl)
theorem dX5_atArc_1 : decode cX5_atArc 1 = .ok (.bipush 6, 2) := dk_16 6 (dk_at dksX5_atArc_0 1 rfl rfl)
theorem dX5_atArc_3 : decode cX5_atArc 3 = .ok (.iload_n 0, 1) := dk_26 (dk_at dksX5_atArc_0 3 rfl rfl)
theorem dX5_atArc_4 : decode cX5_atArc 4 = .ok (.imul, 1) := dk_104 (dk_at dksX5_atArc_0 4 rfl rfl)
theorem dX5_atArc_5 : decode cX5_atArc 5 = .ok (.iadd, 1) := dk_96 (dk_at dksX5_atArc_0 5 rfl rfl)
theorem dX5_atArc_6 : decode cX5_atArc 6 = .ok (.iload_n 1, 1) := dk_27 (dk_at dksX5_atArc_0 6 rfl rfl)
theorem dX5_atArc_7 : decode cX5_atArc 7 = .ok (.iadd, 1) := dk_96 (dk_at dksX5_atArc_0 7 rfl rfl)
theorem dX5_atArc_8 : decode cX5_atArc 8 = .ok (.ireturn, 1) := dk_172 (dk_at dksX5_atArc_0 8 rfl rfl)
abbrev cX5_ends : ByteArray := prog_17_method_20_code
def yX5_ends : MethodName := ⟨RX5, "ends", "(I)V"⟩
def dkwX5_ends_2 : List UInt8 := [180, 0, 15, 27, 4, 96, 46, 160, 0, 8, 42, 6, 182, 0, 121, 177]
abbrev dktX5_ends_2 : List UInt8 := dkwX5_ends_2 ++ []
def dkwX5_ends_1 : List UInt8 := [4, 96, 42, 3, 42, 180, 0, 15, 3, 46, 4, 100, 182, 0, 131, 79, 42, 180, 0, 15, 27, 46, 42]
abbrev dktX5_ends_1 : List UInt8 := dkwX5_ends_1 ++ dktX5_ends_2
def dkwX5_ends_0 : List UInt8 := [42, 180, 0, 15, 27, 42, 3, 42, 180, 0, 15, 3, 46, 4, 100, 182, 0, 131, 79, 42, 180, 0, 15, 27]
abbrev dktX5_ends_0 : List UInt8 := dkwX5_ends_0 ++ dktX5_ends_1
theorem dksX5_ends_0 : cX5_ends.data.toList.drop 0 = dktX5_ends_0 := by decide +kernel
theorem dksX5_ends_1 : cX5_ends.data.toList.drop 24 = dktX5_ends_1 := dk_seg dksX5_ends_0 24 rfl rfl
theorem dksX5_ends_2 : cX5_ends.data.toList.drop 47 = dktX5_ends_2 := dk_seg dksX5_ends_1 23 rfl rfl
theorem dX5_ends_0 : decode cX5_ends 0 = .ok (.aload_n 0, 1) := dk_42 (dk_at dksX5_ends_0 0 rfl rfl)
theorem dX5_ends_1 : decode cX5_ends 1 = .ok (.getfield 15, 3) := dk_180 0 15 (dk_at dksX5_ends_0 1 rfl rfl)
theorem dX5_ends_4 : decode cX5_ends 4 = .ok (.iload_n 1, 1) := dk_27 (dk_at dksX5_ends_0 4 rfl rfl)
theorem dX5_ends_5 : decode cX5_ends 5 = .ok (.aload_n 0, 1) := dk_42 (dk_at dksX5_ends_0 5 rfl rfl)
theorem dX5_ends_6 : decode cX5_ends 6 = .ok (.iconst 0, 1) := dk_3 (dk_at dksX5_ends_0 6 rfl rfl)
theorem dX5_ends_7 : decode cX5_ends 7 = .ok (.aload_n 0, 1) := dk_42 (dk_at dksX5_ends_0 7 rfl rfl)
theorem dX5_ends_8 : decode cX5_ends 8 = .ok (.getfield 15, 3) := dk_180 0 15 (dk_at dksX5_ends_0 8 rfl rfl)
theorem dX5_ends_11 : decode cX5_ends 11 = .ok (.iconst 0, 1) := dk_3 (dk_at dksX5_ends_0 11 rfl rfl)
theorem dX5_ends_12 : decode cX5_ends 12 = .ok (.iaload, 1) := dk_46 (dk_at dksX5_ends_0 12 rfl rfl)
theorem dX5_ends_13 : decode cX5_ends 13 = .ok (.iconst 1, 1) := dk_4 (dk_at dksX5_ends_0 13 rfl rfl)
theorem dX5_ends_14 : decode cX5_ends 14 = .ok (.isub, 1) := dk_100 (dk_at dksX5_ends_0 14 rfl rfl)
theorem dX5_ends_15 : decode cX5_ends 15 = .ok (.invokevirtual 131, 3) := dk_182 0 131 (dk_at dksX5_ends_0 15 rfl rfl)
theorem dX5_ends_18 : decode cX5_ends 18 = .ok (.iastore, 1) := dk_79 (dk_at dksX5_ends_0 18 rfl rfl)
theorem dX5_ends_19 : decode cX5_ends 19 = .ok (.aload_n 0, 1) := dk_42 (dk_at dksX5_ends_0 19 rfl rfl)
theorem dX5_ends_20 : decode cX5_ends 20 = .ok (.getfield 15, 3) := dk_180 0 15 (dk_at dksX5_ends_0 20 rfl rfl)
theorem dX5_ends_23 : decode cX5_ends 23 = .ok (.iload_n 1, 1) := dk_27 (dk_at dksX5_ends_0 23 rfl rfl)
theorem dX5_ends_24 : decode cX5_ends 24 = .ok (.iconst 1, 1) := dk_4 (dk_at dksX5_ends_1 0 rfl rfl)
theorem dX5_ends_25 : decode cX5_ends 25 = .ok (.iadd, 1) := dk_96 (dk_at dksX5_ends_1 1 rfl rfl)
theorem dX5_ends_26 : decode cX5_ends 26 = .ok (.aload_n 0, 1) := dk_42 (dk_at dksX5_ends_1 2 rfl rfl)
theorem dX5_ends_27 : decode cX5_ends 27 = .ok (.iconst 0, 1) := dk_3 (dk_at dksX5_ends_1 3 rfl rfl)
theorem dX5_ends_28 : decode cX5_ends 28 = .ok (.aload_n 0, 1) := dk_42 (dk_at dksX5_ends_1 4 rfl rfl)
theorem dX5_ends_29 : decode cX5_ends 29 = .ok (.getfield 15, 3) := dk_180 0 15 (dk_at dksX5_ends_1 5 rfl rfl)
theorem dX5_ends_32 : decode cX5_ends 32 = .ok (.iconst 0, 1) := dk_3 (dk_at dksX5_ends_1 8 rfl rfl)
theorem dX5_ends_33 : decode cX5_ends 33 = .ok (.iaload, 1) := dk_46 (dk_at dksX5_ends_1 9 rfl rfl)
theorem dX5_ends_34 : decode cX5_ends 34 = .ok (.iconst 1, 1) := dk_4 (dk_at dksX5_ends_1 10 rfl rfl)
theorem dX5_ends_35 : decode cX5_ends 35 = .ok (.isub, 1) := dk_100 (dk_at dksX5_ends_1 11 rfl rfl)
theorem dX5_ends_36 : decode cX5_ends 36 = .ok (.invokevirtual 131, 3) := dk_182 0 131 (dk_at dksX5_ends_1 12 rfl rfl)
theorem dX5_ends_39 : decode cX5_ends 39 = .ok (.iastore, 1) := dk_79 (dk_at dksX5_ends_1 15 rfl rfl)
theorem dX5_ends_40 : decode cX5_ends 40 = .ok (.aload_n 0, 1) := dk_42 (dk_at dksX5_ends_1 16 rfl rfl)
theorem dX5_ends_41 : decode cX5_ends 41 = .ok (.getfield 15, 3) := dk_180 0 15 (dk_at dksX5_ends_1 17 rfl rfl)
theorem dX5_ends_44 : decode cX5_ends 44 = .ok (.iload_n 1, 1) := dk_27 (dk_at dksX5_ends_1 20 rfl rfl)
theorem dX5_ends_45 : decode cX5_ends 45 = .ok (.iaload, 1) := dk_46 (dk_at dksX5_ends_1 21 rfl rfl)
theorem dX5_ends_46 : decode cX5_ends 46 = .ok (.aload_n 0, 1) := dk_42 (dk_at dksX5_ends_1 22 rfl rfl)
theorem dX5_ends_47 : decode cX5_ends 47 = .ok (.getfield 15, 3) := dk_180 0 15 (dk_at dksX5_ends_2 0 rfl rfl)
theorem dX5_ends_50 : decode cX5_ends 50 = .ok (.iload_n 1, 1) := dk_27 (dk_at dksX5_ends_2 3 rfl rfl)
theorem dX5_ends_51 : decode cX5_ends 51 = .ok (.iconst 1, 1) := dk_4 (dk_at dksX5_ends_2 4 rfl rfl)
theorem dX5_ends_52 : decode cX5_ends 52 = .ok (.iadd, 1) := dk_96 (dk_at dksX5_ends_2 5 rfl rfl)
theorem dX5_ends_53 : decode cX5_ends 53 = .ok (.iaload, 1) := dk_46 (dk_at dksX5_ends_2 6 rfl rfl)
theorem dX5_ends_54 : decode cX5_ends 54 = .ok (.if_icmp .ne 8, 3) := dk_160 0 8 (dk_at dksX5_ends_2 7 rfl rfl)
theorem dX5_ends_57 : decode cX5_ends 57 = .ok (.aload_n 0, 1) := dk_42 (dk_at dksX5_ends_2 10 rfl rfl)
theorem dX5_ends_58 : decode cX5_ends 58 = .ok (.iconst 3, 1) := dk_6 (dk_at dksX5_ends_2 11 rfl rfl)
theorem dX5_ends_59 : decode cX5_ends 59 = .ok (.invokevirtual 121, 3) := dk_182 0 121 (dk_at dksX5_ends_2 12 rfl rfl)
theorem dX5_ends_62 : decode cX5_ends 62 = .ok (.return_, 1) := dk_177 (dk_at dksX5_ends_2 15 rfl rfl)
abbrev cX5_tripPart : ByteArray := prog_17_method_22_code
def yX5_tripPart : MethodName := ⟨RX5, "tripPart", "()V"⟩
def dkwX5_tripPart_3 : List UInt8 := [92, 46, 4, 96, 79, 177]
abbrev dktX5_tripPart_3 : List UInt8 := dkwX5_tripPart_3 ++ []
def dkwX5_tripPart_2 : List UInt8 := [182, 0, 131, 79, 42, 180, 0, 15, 27, 6, 96, 42, 4, 16, 20, 182, 0, 131, 79, 42, 180, 0, 15, 5]
abbrev dktX5_tripPart_2 : List UInt8 := dkwX5_tripPart_2 ++ dktX5_tripPart_3
def dkwX5_tripPart_1 : List UInt8 := [42, 7, 182, 0, 121, 177, 42, 27, 182, 0, 134, 42, 180, 0, 15, 27, 5, 96, 42, 3, 17, 3, 231]
abbrev dktX5_tripPart_1 : List UInt8 := dkwX5_tripPart_1 ++ dktX5_tripPart_2
def dkwX5_tripPart_0 : List UInt8 := [17, 0, 148, 7, 42, 180, 0, 15, 5, 46, 104, 96, 60, 42, 180, 0, 15, 5, 46, 16, 6, 160, 0, 9]
abbrev dktX5_tripPart_0 : List UInt8 := dkwX5_tripPart_0 ++ dktX5_tripPart_1
theorem dksX5_tripPart_0 : cX5_tripPart.data.toList.drop 0 = dktX5_tripPart_0 := by decide +kernel
theorem dksX5_tripPart_1 : cX5_tripPart.data.toList.drop 24 = dktX5_tripPart_1 := dk_seg dksX5_tripPart_0 24 rfl rfl
theorem dksX5_tripPart_2 : cX5_tripPart.data.toList.drop 47 = dktX5_tripPart_2 := dk_seg dksX5_tripPart_1 23 rfl rfl
theorem dksX5_tripPart_3 : cX5_tripPart.data.toList.drop 71 = dktX5_tripPart_3 := dk_seg dksX5_tripPart_2 24 rfl rfl
theorem dX5_tripPart_0 : decode cX5_tripPart 0 = .ok (.sipush 148, 3) := dk_17 0 148 (dk_at dksX5_tripPart_0 0 rfl rfl)
theorem dX5_tripPart_3 : decode cX5_tripPart 3 = .ok (.iconst 4, 1) := dk_7 (dk_at dksX5_tripPart_0 3 rfl rfl)
theorem dX5_tripPart_4 : decode cX5_tripPart 4 = .ok (.aload_n 0, 1) := dk_42 (dk_at dksX5_tripPart_0 4 rfl rfl)
theorem dX5_tripPart_5 : decode cX5_tripPart 5 = .ok (.getfield 15, 3) := dk_180 0 15 (dk_at dksX5_tripPart_0 5 rfl rfl)
theorem dX5_tripPart_8 : decode cX5_tripPart 8 = .ok (.iconst 2, 1) := dk_5 (dk_at dksX5_tripPart_0 8 rfl rfl)
theorem dX5_tripPart_9 : decode cX5_tripPart 9 = .ok (.iaload, 1) := dk_46 (dk_at dksX5_tripPart_0 9 rfl rfl)
theorem dX5_tripPart_10 : decode cX5_tripPart 10 = .ok (.imul, 1) := dk_104 (dk_at dksX5_tripPart_0 10 rfl rfl)
theorem dX5_tripPart_11 : decode cX5_tripPart 11 = .ok (.iadd, 1) := dk_96 (dk_at dksX5_tripPart_0 11 rfl rfl)
theorem dX5_tripPart_12 : decode cX5_tripPart 12 = .ok (.istore_n 1, 1) := dk_60 (dk_at dksX5_tripPart_0 12 rfl rfl)
theorem dX5_tripPart_13 : decode cX5_tripPart 13 = .ok (.aload_n 0, 1) := dk_42 (dk_at dksX5_tripPart_0 13 rfl rfl)
theorem dX5_tripPart_14 : decode cX5_tripPart 14 = .ok (.getfield 15, 3) := dk_180 0 15 (dk_at dksX5_tripPart_0 14 rfl rfl)
theorem dX5_tripPart_17 : decode cX5_tripPart 17 = .ok (.iconst 2, 1) := dk_5 (dk_at dksX5_tripPart_0 17 rfl rfl)
theorem dX5_tripPart_18 : decode cX5_tripPart 18 = .ok (.iaload, 1) := dk_46 (dk_at dksX5_tripPart_0 18 rfl rfl)
theorem dX5_tripPart_19 : decode cX5_tripPart 19 = .ok (.bipush 6, 2) := dk_16 6 (dk_at dksX5_tripPart_0 19 rfl rfl)
theorem dX5_tripPart_21 : decode cX5_tripPart 21 = .ok (.if_icmp .ne 9, 3) := dk_160 0 9 (dk_at dksX5_tripPart_0 21 rfl rfl)
theorem dX5_tripPart_24 : decode cX5_tripPart 24 = .ok (.aload_n 0, 1) := dk_42 (dk_at dksX5_tripPart_1 0 rfl rfl)
theorem dX5_tripPart_25 : decode cX5_tripPart 25 = .ok (.iconst 4, 1) := dk_7 (dk_at dksX5_tripPart_1 1 rfl rfl)
theorem dX5_tripPart_26 : decode cX5_tripPart 26 = .ok (.invokevirtual 121, 3) := dk_182 0 121 (dk_at dksX5_tripPart_1 2 rfl rfl)
theorem dX5_tripPart_29 : decode cX5_tripPart 29 = .ok (.return_, 1) := dk_177 (dk_at dksX5_tripPart_1 5 rfl rfl)
theorem dX5_tripPart_30 : decode cX5_tripPart 30 = .ok (.aload_n 0, 1) := dk_42 (dk_at dksX5_tripPart_1 6 rfl rfl)
theorem dX5_tripPart_31 : decode cX5_tripPart 31 = .ok (.iload_n 1, 1) := dk_27 (dk_at dksX5_tripPart_1 7 rfl rfl)
theorem dX5_tripPart_32 : decode cX5_tripPart 32 = .ok (.invokevirtual 134, 3) := dk_182 0 134 (dk_at dksX5_tripPart_1 8 rfl rfl)
theorem dX5_tripPart_35 : decode cX5_tripPart 35 = .ok (.aload_n 0, 1) := dk_42 (dk_at dksX5_tripPart_1 11 rfl rfl)
theorem dX5_tripPart_36 : decode cX5_tripPart 36 = .ok (.getfield 15, 3) := dk_180 0 15 (dk_at dksX5_tripPart_1 12 rfl rfl)
theorem dX5_tripPart_39 : decode cX5_tripPart 39 = .ok (.iload_n 1, 1) := dk_27 (dk_at dksX5_tripPart_1 15 rfl rfl)
theorem dX5_tripPart_40 : decode cX5_tripPart 40 = .ok (.iconst 2, 1) := dk_5 (dk_at dksX5_tripPart_1 16 rfl rfl)
theorem dX5_tripPart_41 : decode cX5_tripPart 41 = .ok (.iadd, 1) := dk_96 (dk_at dksX5_tripPart_1 17 rfl rfl)
theorem dX5_tripPart_42 : decode cX5_tripPart 42 = .ok (.aload_n 0, 1) := dk_42 (dk_at dksX5_tripPart_1 18 rfl rfl)
theorem dX5_tripPart_43 : decode cX5_tripPart 43 = .ok (.iconst 0, 1) := dk_3 (dk_at dksX5_tripPart_1 19 rfl rfl)
theorem dX5_tripPart_44 : decode cX5_tripPart 44 = .ok (.sipush 999, 3) := dk_17 3 231 (dk_at dksX5_tripPart_1 20 rfl rfl)
theorem dX5_tripPart_47 : decode cX5_tripPart 47 = .ok (.invokevirtual 131, 3) := dk_182 0 131 (dk_at dksX5_tripPart_2 0 rfl rfl)
theorem dX5_tripPart_50 : decode cX5_tripPart 50 = .ok (.iastore, 1) := dk_79 (dk_at dksX5_tripPart_2 3 rfl rfl)
theorem dX5_tripPart_51 : decode cX5_tripPart 51 = .ok (.aload_n 0, 1) := dk_42 (dk_at dksX5_tripPart_2 4 rfl rfl)
theorem dX5_tripPart_52 : decode cX5_tripPart 52 = .ok (.getfield 15, 3) := dk_180 0 15 (dk_at dksX5_tripPart_2 5 rfl rfl)
theorem dX5_tripPart_55 : decode cX5_tripPart 55 = .ok (.iload_n 1, 1) := dk_27 (dk_at dksX5_tripPart_2 8 rfl rfl)
theorem dX5_tripPart_56 : decode cX5_tripPart 56 = .ok (.iconst 3, 1) := dk_6 (dk_at dksX5_tripPart_2 9 rfl rfl)
theorem dX5_tripPart_57 : decode cX5_tripPart 57 = .ok (.iadd, 1) := dk_96 (dk_at dksX5_tripPart_2 10 rfl rfl)
theorem dX5_tripPart_58 : decode cX5_tripPart 58 = .ok (.aload_n 0, 1) := dk_42 (dk_at dksX5_tripPart_2 11 rfl rfl)
theorem dX5_tripPart_59 : decode cX5_tripPart 59 = .ok (.iconst 1, 1) := dk_4 (dk_at dksX5_tripPart_2 12 rfl rfl)
theorem dX5_tripPart_60 : decode cX5_tripPart 60 = .ok (.bipush 20, 2) := dk_16 20 (dk_at dksX5_tripPart_2 13 rfl rfl)
theorem dX5_tripPart_62 : decode cX5_tripPart 62 = .ok (.invokevirtual 131, 3) := dk_182 0 131 (dk_at dksX5_tripPart_2 15 rfl rfl)
theorem dX5_tripPart_65 : decode cX5_tripPart 65 = .ok (.iastore, 1) := dk_79 (dk_at dksX5_tripPart_2 18 rfl rfl)
theorem dX5_tripPart_66 : decode cX5_tripPart 66 = .ok (.aload_n 0, 1) := dk_42 (dk_at dksX5_tripPart_2 19 rfl rfl)
theorem dX5_tripPart_67 : decode cX5_tripPart 67 = .ok (.getfield 15, 3) := dk_180 0 15 (dk_at dksX5_tripPart_2 20 rfl rfl)
theorem dX5_tripPart_70 : decode cX5_tripPart 70 = .ok (.iconst 2, 1) := dk_5 (dk_at dksX5_tripPart_2 23 rfl rfl)
theorem dX5_tripPart_71 : decode cX5_tripPart 71 = .ok (.dup2, 1) := dk_92 (dk_at dksX5_tripPart_3 0 rfl rfl)
theorem dX5_tripPart_72 : decode cX5_tripPart 72 = .ok (.iaload, 1) := dk_46 (dk_at dksX5_tripPart_3 1 rfl rfl)
theorem dX5_tripPart_73 : decode cX5_tripPart 73 = .ok (.iconst 1, 1) := dk_4 (dk_at dksX5_tripPart_3 2 rfl rfl)
theorem dX5_tripPart_74 : decode cX5_tripPart 74 = .ok (.iadd, 1) := dk_96 (dk_at dksX5_tripPart_3 3 rfl rfl)
theorem dX5_tripPart_75 : decode cX5_tripPart 75 = .ok (.iastore, 1) := dk_79 (dk_at dksX5_tripPart_3 4 rfl rfl)
theorem dX5_tripPart_76 : decode cX5_tripPart 76 = .ok (.return_, 1) := dk_177 (dk_at dksX5_tripPart_3 5 rfl rfl)
abbrev cX5_copies : ByteArray := prog_17_method_4_code
def yX5_copies : MethodName := ⟨RX5, "copies", "([II[II)V"⟩
def dkwX5_copies_1 : List UInt8 := [27, 104, 21, 4, 96, 46, 79, 132, 4, 1, 167, 255, 225, 177]
abbrev dktX5_copies_1 : List UInt8 := dkwX5_copies_1 ++ []
def dkwX5_copies_0 : List UInt8 := [3, 54, 4, 21, 4, 17, 0, 172, 162, 0, 29, 44, 17, 0, 172, 29, 104, 21, 4, 96, 42, 17, 0, 172]
abbrev dktX5_copies_0 : List UInt8 := dkwX5_copies_0 ++ dktX5_copies_1
theorem dksX5_copies_0 : cX5_copies.data.toList.drop 0 = dktX5_copies_0 := by decide +kernel
theorem dksX5_copies_1 : cX5_copies.data.toList.drop 24 = dktX5_copies_1 := dk_seg dksX5_copies_0 24 rfl rfl
theorem dX5_copies_0 : decode cX5_copies 0 = .ok (.iconst 0, 1) := dk_3 (dk_at dksX5_copies_0 0 rfl rfl)
theorem dX5_copies_1 : decode cX5_copies 1 = .ok (.istore 4, 2) := dk_54 4 (dk_at dksX5_copies_0 1 rfl rfl)
theorem dX5_copies_3 : decode cX5_copies 3 = .ok (.iload 4, 2) := dk_21 4 (dk_at dksX5_copies_0 3 rfl rfl)
theorem dX5_copies_5 : decode cX5_copies 5 = .ok (.sipush 172, 3) := dk_17 0 172 (dk_at dksX5_copies_0 5 rfl rfl)
theorem dX5_copies_8 : decode cX5_copies 8 = .ok (.if_icmp .ge 29, 3) := dk_162 0 29 (dk_at dksX5_copies_0 8 rfl rfl)
theorem dX5_copies_11 : decode cX5_copies 11 = .ok (.aload_n 2, 1) := dk_44 (dk_at dksX5_copies_0 11 rfl rfl)
theorem dX5_copies_12 : decode cX5_copies 12 = .ok (.sipush 172, 3) := dk_17 0 172 (dk_at dksX5_copies_0 12 rfl rfl)
theorem dX5_copies_15 : decode cX5_copies 15 = .ok (.iload_n 3, 1) := dk_29 (dk_at dksX5_copies_0 15 rfl rfl)
theorem dX5_copies_16 : decode cX5_copies 16 = .ok (.imul, 1) := dk_104 (dk_at dksX5_copies_0 16 rfl rfl)
theorem dX5_copies_17 : decode cX5_copies 17 = .ok (.iload 4, 2) := dk_21 4 (dk_at dksX5_copies_0 17 rfl rfl)
theorem dX5_copies_19 : decode cX5_copies 19 = .ok (.iadd, 1) := dk_96 (dk_at dksX5_copies_0 19 rfl rfl)
theorem dX5_copies_20 : decode cX5_copies 20 = .ok (.aload_n 0, 1) := dk_42 (dk_at dksX5_copies_0 20 rfl rfl)
theorem dX5_copies_21 : decode cX5_copies 21 = .ok (.sipush 172, 3) := dk_17 0 172 (dk_at dksX5_copies_0 21 rfl rfl)
theorem dX5_copies_24 : decode cX5_copies 24 = .ok (.iload_n 1, 1) := dk_27 (dk_at dksX5_copies_1 0 rfl rfl)
theorem dX5_copies_25 : decode cX5_copies 25 = .ok (.imul, 1) := dk_104 (dk_at dksX5_copies_1 1 rfl rfl)
theorem dX5_copies_26 : decode cX5_copies 26 = .ok (.iload 4, 2) := dk_21 4 (dk_at dksX5_copies_1 2 rfl rfl)
theorem dX5_copies_28 : decode cX5_copies 28 = .ok (.iadd, 1) := dk_96 (dk_at dksX5_copies_1 4 rfl rfl)
theorem dX5_copies_29 : decode cX5_copies 29 = .ok (.iaload, 1) := dk_46 (dk_at dksX5_copies_1 5 rfl rfl)
theorem dX5_copies_30 : decode cX5_copies 30 = .ok (.iastore, 1) := dk_79 (dk_at dksX5_copies_1 6 rfl rfl)
theorem dX5_copies_31 : decode cX5_copies 31 = .ok (.iinc 4 1, 3) := dk_132 4 1 (dk_at dksX5_copies_1 7 rfl rfl)
theorem dX5_copies_34 : decode cX5_copies 34 = .ok (.goto (-31), 3) := dk_167 255 225 (dk_at dksX5_copies_1 10 rfl rfl)
theorem dX5_copies_37 : decode cX5_copies 37 = .ok (.return_, 1) := dk_177 (dk_at dksX5_copies_1 13 rfl rfl)
abbrev cX5_loadError : ByteArray := prog_17_method_26_code
def yX5_loadError : MethodName := ⟨RX5, "loadError", "()I"⟩
def dkwX5_loadError_0 : List UInt8 := [42, 3, 181, 0, 74, 42, 180, 0, 167, 172]
abbrev dktX5_loadError_0 : List UInt8 := dkwX5_loadError_0 ++ []
theorem dksX5_loadError_0 : cX5_loadError.data.toList.drop 0 = dktX5_loadError_0 := by decide +kernel
theorem dX5_loadError_0 : decode cX5_loadError 0 = .ok (.aload_n 0, 1) := dk_42 (dk_at dksX5_loadError_0 0 rfl rfl)
theorem dX5_loadError_1 : decode cX5_loadError 1 = .ok (.iconst 0, 1) := dk_3 (dk_at dksX5_loadError_0 1 rfl rfl)
theorem dX5_loadError_2 : decode cX5_loadError 2 = .ok (.putfield 74, 3) := dk_181 0 74 (dk_at dksX5_loadError_0 2 rfl rfl)
theorem dX5_loadError_5 : decode cX5_loadError 5 = .ok (.aload_n 0, 1) := dk_42 (dk_at dksX5_loadError_0 5 rfl rfl)
theorem dX5_loadError_6 : decode cX5_loadError 6 = .ok (.getfield 167, 3) := dk_180 0 167 (dk_at dksX5_loadError_0 6 rfl rfl)
theorem dX5_loadError_9 : decode cX5_loadError 9 = .ok (.ireturn, 1) := dk_172 (dk_at dksX5_loadError_0 9 rfl rfl)
abbrev cX5_loadStatement : ByteArray := prog_17_method_27_code
def yX5_loadStatement : MethodName := ⟨RX5, "loadStatement", "()I"⟩
def dkwX5_loadStatement_0 : List UInt8 := [42, 3, 181, 0, 74, 42, 180, 0, 32, 172]
abbrev dktX5_loadStatement_0 : List UInt8 := dkwX5_loadStatement_0 ++ []
theorem dksX5_loadStatement_0 : cX5_loadStatement.data.toList.drop 0 = dktX5_loadStatement_0 := by decide +kernel
theorem dX5_loadStatement_0 : decode cX5_loadStatement 0 = .ok (.aload_n 0, 1) := dk_42 (dk_at dksX5_loadStatement_0 0 rfl rfl)
theorem dX5_loadStatement_1 : decode cX5_loadStatement 1 = .ok (.iconst 0, 1) := dk_3 (dk_at dksX5_loadStatement_0 1 rfl rfl)
theorem dX5_loadStatement_2 : decode cX5_loadStatement 2 = .ok (.putfield 74, 3) := dk_181 0 74 (dk_at dksX5_loadStatement_0 2 rfl rfl)
theorem dX5_loadStatement_5 : decode cX5_loadStatement 5 = .ok (.aload_n 0, 1) := dk_42 (dk_at dksX5_loadStatement_0 5 rfl rfl)
theorem dX5_loadStatement_6 : decode cX5_loadStatement 6 = .ok (.getfield 32, 3) := dk_180 0 32 (dk_at dksX5_loadStatement_0 6 rfl rfl)
theorem dX5_loadStatement_9 : decode cX5_loadStatement 9 = .ok (.ireturn, 1) := dk_172 (dk_at dksX5_loadStatement_0 9 rfl rfl)
abbrev cX5_count : ByteArray := prog_17_method_28_code
def yX5_count : MethodName := ⟨RX5, "count", "(I)I"⟩
def dkwX5_count_3 : List UInt8 := [132, 3, 1, 167, 255, 217, 28, 172]
abbrev dktX5_count_3 : List UInt8 := dkwX5_count_3 ++ []
def dkwX5_count_2 : List UInt8 := [29, 27, 6, 160, 0, 7, 6, 167, 0, 4, 8, 182, 0, 180, 158, 0, 7, 4, 167, 0, 4, 3, 96, 61]
abbrev dktX5_count_2 : List UInt8 := dkwX5_count_2 ++ dktX5_count_3
def dkwX5_count_1 : List UInt8 := [180, 0, 11, 3, 27, 96, 46, 172, 3, 61, 3, 62, 29, 42, 180, 0, 11, 4, 46, 162, 0, 35, 28, 42]
abbrev dktX5_count_1 : List UInt8 := dkwX5_count_1 ++ dktX5_count_2
def dkwX5_count_0 : List UInt8 := [42, 27, 3, 7, 184, 0, 81, 4, 182, 0, 176, 153, 0, 5, 3, 172, 27, 6, 162, 0, 12, 42]
abbrev dktX5_count_0 : List UInt8 := dkwX5_count_0 ++ dktX5_count_1
theorem dksX5_count_0 : cX5_count.data.toList.drop 0 = dktX5_count_0 := by decide +kernel
theorem dksX5_count_1 : cX5_count.data.toList.drop 22 = dktX5_count_1 := dk_seg dksX5_count_0 22 rfl rfl
theorem dksX5_count_2 : cX5_count.data.toList.drop 46 = dktX5_count_2 := dk_seg dksX5_count_1 24 rfl rfl
theorem dksX5_count_3 : cX5_count.data.toList.drop 70 = dktX5_count_3 := dk_seg dksX5_count_2 24 rfl rfl
theorem dX5_count_0 : decode cX5_count 0 = .ok (.aload_n 0, 1) := dk_42 (dk_at dksX5_count_0 0 rfl rfl)
theorem dX5_count_1 : decode cX5_count 1 = .ok (.iload_n 1, 1) := dk_27 (dk_at dksX5_count_0 1 rfl rfl)
theorem dX5_count_2 : decode cX5_count 2 = .ok (.iconst 0, 1) := dk_3 (dk_at dksX5_count_0 2 rfl rfl)
theorem dX5_count_3 : decode cX5_count 3 = .ok (.iconst 4, 1) := dk_7 (dk_at dksX5_count_0 3 rfl rfl)
theorem dX5_count_4 : decode cX5_count 4 = .ok (.invokestatic 81, 3) := dk_184 0 81 (dk_at dksX5_count_0 4 rfl rfl)
theorem dX5_count_7 : decode cX5_count 7 = .ok (.iconst 1, 1) := dk_4 (dk_at dksX5_count_0 7 rfl rfl)
theorem dX5_count_8 : decode cX5_count 8 = .ok (.invokevirtual 176, 3) := dk_182 0 176 (dk_at dksX5_count_0 8 rfl rfl)
theorem dX5_count_11 : decode cX5_count 11 = .ok (.ifCond .eq 5, 3) := dk_153 0 5 (dk_at dksX5_count_0 11 rfl rfl)
theorem dX5_count_14 : decode cX5_count 14 = .ok (.iconst 0, 1) := dk_3 (dk_at dksX5_count_0 14 rfl rfl)
theorem dX5_count_15 : decode cX5_count 15 = .ok (.ireturn, 1) := dk_172 (dk_at dksX5_count_0 15 rfl rfl)
theorem dX5_count_16 : decode cX5_count 16 = .ok (.iload_n 1, 1) := dk_27 (dk_at dksX5_count_0 16 rfl rfl)
theorem dX5_count_17 : decode cX5_count 17 = .ok (.iconst 3, 1) := dk_6 (dk_at dksX5_count_0 17 rfl rfl)
theorem dX5_count_18 : decode cX5_count 18 = .ok (.if_icmp .ge 12, 3) := dk_162 0 12 (dk_at dksX5_count_0 18 rfl rfl)
theorem dX5_count_21 : decode cX5_count 21 = .ok (.aload_n 0, 1) := dk_42 (dk_at dksX5_count_0 21 rfl rfl)
theorem dX5_count_22 : decode cX5_count 22 = .ok (.getfield 11, 3) := dk_180 0 11 (dk_at dksX5_count_1 0 rfl rfl)
theorem dX5_count_25 : decode cX5_count 25 = .ok (.iconst 0, 1) := dk_3 (dk_at dksX5_count_1 3 rfl rfl)
theorem dX5_count_26 : decode cX5_count 26 = .ok (.iload_n 1, 1) := dk_27 (dk_at dksX5_count_1 4 rfl rfl)
theorem dX5_count_27 : decode cX5_count 27 = .ok (.iadd, 1) := dk_96 (dk_at dksX5_count_1 5 rfl rfl)
theorem dX5_count_28 : decode cX5_count 28 = .ok (.iaload, 1) := dk_46 (dk_at dksX5_count_1 6 rfl rfl)
theorem dX5_count_29 : decode cX5_count 29 = .ok (.ireturn, 1) := dk_172 (dk_at dksX5_count_1 7 rfl rfl)
theorem dX5_count_30 : decode cX5_count 30 = .ok (.iconst 0, 1) := dk_3 (dk_at dksX5_count_1 8 rfl rfl)
theorem dX5_count_31 : decode cX5_count 31 = .ok (.istore_n 2, 1) := dk_61 (dk_at dksX5_count_1 9 rfl rfl)
theorem dX5_count_32 : decode cX5_count 32 = .ok (.iconst 0, 1) := dk_3 (dk_at dksX5_count_1 10 rfl rfl)
theorem dX5_count_33 : decode cX5_count 33 = .ok (.istore_n 3, 1) := dk_62 (dk_at dksX5_count_1 11 rfl rfl)
theorem dX5_count_34 : decode cX5_count 34 = .ok (.iload_n 3, 1) := dk_29 (dk_at dksX5_count_1 12 rfl rfl)
theorem dX5_count_35 : decode cX5_count 35 = .ok (.aload_n 0, 1) := dk_42 (dk_at dksX5_count_1 13 rfl rfl)
theorem dX5_count_36 : decode cX5_count 36 = .ok (.getfield 11, 3) := dk_180 0 11 (dk_at dksX5_count_1 14 rfl rfl)
theorem dX5_count_39 : decode cX5_count 39 = .ok (.iconst 1, 1) := dk_4 (dk_at dksX5_count_1 17 rfl rfl)
theorem dX5_count_40 : decode cX5_count 40 = .ok (.iaload, 1) := dk_46 (dk_at dksX5_count_1 18 rfl rfl)
theorem dX5_count_41 : decode cX5_count 41 = .ok (.if_icmp .ge 35, 3) := dk_162 0 35 (dk_at dksX5_count_1 19 rfl rfl)
theorem dX5_count_44 : decode cX5_count 44 = .ok (.iload_n 2, 1) := dk_28 (dk_at dksX5_count_1 22 rfl rfl)
theorem dX5_count_45 : decode cX5_count 45 = .ok (.aload_n 0, 1) := dk_42 (dk_at dksX5_count_1 23 rfl rfl)
theorem dX5_count_46 : decode cX5_count 46 = .ok (.iload_n 3, 1) := dk_29 (dk_at dksX5_count_2 0 rfl rfl)
theorem dX5_count_47 : decode cX5_count 47 = .ok (.iload_n 1, 1) := dk_27 (dk_at dksX5_count_2 1 rfl rfl)
theorem dX5_count_48 : decode cX5_count 48 = .ok (.iconst 3, 1) := dk_6 (dk_at dksX5_count_2 2 rfl rfl)
theorem dX5_count_49 : decode cX5_count 49 = .ok (.if_icmp .ne 7, 3) := dk_160 0 7 (dk_at dksX5_count_2 3 rfl rfl)
theorem dX5_count_52 : decode cX5_count 52 = .ok (.iconst 3, 1) := dk_6 (dk_at dksX5_count_2 6 rfl rfl)
theorem dX5_count_53 : decode cX5_count 53 = .ok (.goto 4, 3) := dk_167 0 4 (dk_at dksX5_count_2 7 rfl rfl)
theorem dX5_count_56 : decode cX5_count 56 = .ok (.iconst 5, 1) := dk_8 (dk_at dksX5_count_2 10 rfl rfl)
theorem dX5_count_57 : decode cX5_count 57 = .ok (.invokevirtual 180, 3) := dk_182 0 180 (dk_at dksX5_count_2 11 rfl rfl)
theorem dX5_count_60 : decode cX5_count 60 = .ok (.ifCond .le 7, 3) := dk_158 0 7 (dk_at dksX5_count_2 14 rfl rfl)
theorem dX5_count_63 : decode cX5_count 63 = .ok (.iconst 1, 1) := dk_4 (dk_at dksX5_count_2 17 rfl rfl)
theorem dX5_count_64 : decode cX5_count 64 = .ok (.goto 4, 3) := dk_167 0 4 (dk_at dksX5_count_2 18 rfl rfl)
theorem dX5_count_67 : decode cX5_count 67 = .ok (.iconst 0, 1) := dk_3 (dk_at dksX5_count_2 21 rfl rfl)
theorem dX5_count_68 : decode cX5_count 68 = .ok (.iadd, 1) := dk_96 (dk_at dksX5_count_2 22 rfl rfl)
theorem dX5_count_69 : decode cX5_count 69 = .ok (.istore_n 2, 1) := dk_61 (dk_at dksX5_count_2 23 rfl rfl)
theorem dX5_count_70 : decode cX5_count 70 = .ok (.iinc 3 1, 3) := dk_132 3 1 (dk_at dksX5_count_3 0 rfl rfl)
theorem dX5_count_73 : decode cX5_count 73 = .ok (.goto (-39), 3) := dk_167 255 217 (dk_at dksX5_count_3 3 rfl rfl)
theorem dX5_count_76 : decode cX5_count 76 = .ok (.iload_n 2, 1) := dk_28 (dk_at dksX5_count_3 6 rfl rfl)
theorem dX5_count_77 : decode cX5_count 77 = .ok (.ireturn, 1) := dk_172 (dk_at dksX5_count_3 7 rfl rfl)
abbrev cX5_isThrown : ByteArray := prog_17_method_6_code
def yX5_isThrown : MethodName := ⟨RX5, "isThrown", "(ZI)Z"⟩
def dkwX5_isThrown_0 : List UInt8 := [42, 27, 153, 0, 7, 3, 167, 0, 4, 28, 181, 0, 74, 27, 154, 0, 7, 4, 167, 0, 4, 3, 172]
abbrev dktX5_isThrown_0 : List UInt8 := dkwX5_isThrown_0 ++ []
theorem dksX5_isThrown_0 : cX5_isThrown.data.toList.drop 0 = dktX5_isThrown_0 := by decide +kernel
theorem dX5_isThrown_0 : decode cX5_isThrown 0 = .ok (.aload_n 0, 1) := dk_42 (dk_at dksX5_isThrown_0 0 rfl rfl)
theorem dX5_isThrown_1 : decode cX5_isThrown 1 = .ok (.iload_n 1, 1) := dk_27 (dk_at dksX5_isThrown_0 1 rfl rfl)
theorem dX5_isThrown_2 : decode cX5_isThrown 2 = .ok (.ifCond .eq 7, 3) := dk_153 0 7 (dk_at dksX5_isThrown_0 2 rfl rfl)
theorem dX5_isThrown_5 : decode cX5_isThrown 5 = .ok (.iconst 0, 1) := dk_3 (dk_at dksX5_isThrown_0 5 rfl rfl)
theorem dX5_isThrown_6 : decode cX5_isThrown 6 = .ok (.goto 4, 3) := dk_167 0 4 (dk_at dksX5_isThrown_0 6 rfl rfl)
theorem dX5_isThrown_9 : decode cX5_isThrown 9 = .ok (.iload_n 2, 1) := dk_28 (dk_at dksX5_isThrown_0 9 rfl rfl)
theorem dX5_isThrown_10 : decode cX5_isThrown 10 = .ok (.putfield 74, 3) := dk_181 0 74 (dk_at dksX5_isThrown_0 10 rfl rfl)
theorem dX5_isThrown_13 : decode cX5_isThrown 13 = .ok (.iload_n 1, 1) := dk_27 (dk_at dksX5_isThrown_0 13 rfl rfl)
theorem dX5_isThrown_14 : decode cX5_isThrown 14 = .ok (.ifCond .ne 7, 3) := dk_154 0 7 (dk_at dksX5_isThrown_0 14 rfl rfl)
theorem dX5_isThrown_17 : decode cX5_isThrown 17 = .ok (.iconst 1, 1) := dk_4 (dk_at dksX5_isThrown_0 17 rfl rfl)
theorem dX5_isThrown_18 : decode cX5_isThrown 18 = .ok (.goto 4, 3) := dk_167 0 4 (dk_at dksX5_isThrown_0 18 rfl rfl)
theorem dX5_isThrown_21 : decode cX5_isThrown 21 = .ok (.iconst 0, 1) := dk_3 (dk_at dksX5_isThrown_0 21 rfl rfl)
theorem dX5_isThrown_22 : decode cX5_isThrown 22 = .ok (.ireturn, 1) := dk_172 (dk_at dksX5_isThrown_0 22 rfl rfl)
abbrev cX5_arc : ByteArray := prog_17_method_8_code
def yX5_arc : MethodName := ⟨RX5, "arc", "(II)I"⟩
def dkwX5_arc_0 : List UInt8 := [42, 180, 0, 11, 27, 28, 184, 0, 77, 46, 172]
abbrev dktX5_arc_0 : List UInt8 := dkwX5_arc_0 ++ []
theorem dksX5_arc_0 : cX5_arc.data.toList.drop 0 = dktX5_arc_0 := by decide +kernel
theorem dX5_arc_0 : decode cX5_arc 0 = .ok (.aload_n 0, 1) := dk_42 (dk_at dksX5_arc_0 0 rfl rfl)
theorem dX5_arc_1 : decode cX5_arc 1 = .ok (.getfield 11, 3) := dk_180 0 11 (dk_at dksX5_arc_0 1 rfl rfl)
theorem dX5_arc_4 : decode cX5_arc 4 = .ok (.iload_n 1, 1) := dk_27 (dk_at dksX5_arc_0 4 rfl rfl)
theorem dX5_arc_5 : decode cX5_arc 5 = .ok (.iload_n 2, 1) := dk_28 (dk_at dksX5_arc_0 5 rfl rfl)
theorem dX5_arc_6 : decode cX5_arc 6 = .ok (.invokestatic 77, 3) := dk_184 0 77 (dk_at dksX5_arc_0 6 rfl rfl)
theorem dX5_arc_9 : decode cX5_arc 9 = .ok (.iaload, 1) := dk_46 (dk_at dksX5_arc_0 9 rfl rfl)
theorem dX5_arc_10 : decode cX5_arc 10 = .ok (.ireturn, 1) := dk_172 (dk_at dksX5_arc_0 10 rfl rfl)
abbrev cX5_arcValue : ByteArray := prog_17_method_29_code
def yX5_arcValue : MethodName := ⟨RX5, "arcValue", "(II)I"⟩
def dkwX5_arcValue_1 : List UInt8 := [153, 0, 5, 3, 172, 42, 27, 28, 182, 0, 180, 172]
abbrev dktX5_arcValue_1 : List UInt8 := dkwX5_arcValue_1 ++ []
def dkwX5_arcValue_0 : List UInt8 := [42, 42, 27, 182, 0, 182, 4, 182, 0, 176, 154, 0, 17, 42, 28, 3, 8, 184, 0, 81, 5, 182, 0, 176]
abbrev dktX5_arcValue_0 : List UInt8 := dkwX5_arcValue_0 ++ dktX5_arcValue_1
theorem dksX5_arcValue_0 : cX5_arcValue.data.toList.drop 0 = dktX5_arcValue_0 := by decide +kernel
theorem dksX5_arcValue_1 : cX5_arcValue.data.toList.drop 24 = dktX5_arcValue_1 := dk_seg dksX5_arcValue_0 24 rfl rfl
theorem dX5_arcValue_0 : decode cX5_arcValue 0 = .ok (.aload_n 0, 1) := dk_42 (dk_at dksX5_arcValue_0 0 rfl rfl)
theorem dX5_arcValue_1 : decode cX5_arcValue 1 = .ok (.aload_n 0, 1) := dk_42 (dk_at dksX5_arcValue_0 1 rfl rfl)
theorem dX5_arcValue_2 : decode cX5_arcValue 2 = .ok (.iload_n 1, 1) := dk_27 (dk_at dksX5_arcValue_0 2 rfl rfl)
theorem dX5_arcValue_3 : decode cX5_arcValue 3 = .ok (.invokevirtual 182, 3) := dk_182 0 182 (dk_at dksX5_arcValue_0 3 rfl rfl)
theorem dX5_arcValue_6 : decode cX5_arcValue 6 = .ok (.iconst 1, 1) := dk_4 (dk_at dksX5_arcValue_0 6 rfl rfl)
theorem dX5_arcValue_7 : decode cX5_arcValue 7 = .ok (.invokevirtual 176, 3) := dk_182 0 176 (dk_at dksX5_arcValue_0 7 rfl rfl)
theorem dX5_arcValue_10 : decode cX5_arcValue 10 = .ok (.ifCond .ne 17, 3) := dk_154 0 17 (dk_at dksX5_arcValue_0 10 rfl rfl)
theorem dX5_arcValue_13 : decode cX5_arcValue 13 = .ok (.aload_n 0, 1) := dk_42 (dk_at dksX5_arcValue_0 13 rfl rfl)
theorem dX5_arcValue_14 : decode cX5_arcValue 14 = .ok (.iload_n 2, 1) := dk_28 (dk_at dksX5_arcValue_0 14 rfl rfl)
theorem dX5_arcValue_15 : decode cX5_arcValue 15 = .ok (.iconst 0, 1) := dk_3 (dk_at dksX5_arcValue_0 15 rfl rfl)
theorem dX5_arcValue_16 : decode cX5_arcValue 16 = .ok (.iconst 5, 1) := dk_8 (dk_at dksX5_arcValue_0 16 rfl rfl)
theorem dX5_arcValue_17 : decode cX5_arcValue 17 = .ok (.invokestatic 81, 3) := dk_184 0 81 (dk_at dksX5_arcValue_0 17 rfl rfl)
theorem dX5_arcValue_20 : decode cX5_arcValue 20 = .ok (.iconst 2, 1) := dk_5 (dk_at dksX5_arcValue_0 20 rfl rfl)
theorem dX5_arcValue_21 : decode cX5_arcValue 21 = .ok (.invokevirtual 176, 3) := dk_182 0 176 (dk_at dksX5_arcValue_0 21 rfl rfl)
theorem dX5_arcValue_24 : decode cX5_arcValue 24 = .ok (.ifCond .eq 5, 3) := dk_153 0 5 (dk_at dksX5_arcValue_1 0 rfl rfl)
theorem dX5_arcValue_27 : decode cX5_arcValue 27 = .ok (.iconst 0, 1) := dk_3 (dk_at dksX5_arcValue_1 3 rfl rfl)
theorem dX5_arcValue_28 : decode cX5_arcValue 28 = .ok (.ireturn, 1) := dk_172 (dk_at dksX5_arcValue_1 4 rfl rfl)
theorem dX5_arcValue_29 : decode cX5_arcValue 29 = .ok (.aload_n 0, 1) := dk_42 (dk_at dksX5_arcValue_1 5 rfl rfl)
theorem dX5_arcValue_30 : decode cX5_arcValue 30 = .ok (.iload_n 1, 1) := dk_27 (dk_at dksX5_arcValue_1 6 rfl rfl)
theorem dX5_arcValue_31 : decode cX5_arcValue 31 = .ok (.iload_n 2, 1) := dk_28 (dk_at dksX5_arcValue_1 7 rfl rfl)
theorem dX5_arcValue_32 : decode cX5_arcValue 32 = .ok (.invokevirtual 180, 3) := dk_182 0 180 (dk_at dksX5_arcValue_1 8 rfl rfl)
theorem dX5_arcValue_35 : decode cX5_arcValue 35 = .ok (.ireturn, 1) := dk_172 (dk_at dksX5_arcValue_1 11 rfl rfl)
abbrev cX5_isArc : ByteArray := prog_17_method_10_code
def yX5_isArc : MethodName := ⟨RX5, "isArc", "(I)Z"⟩
def dkwX5_isArc_0 : List UInt8 := [27, 3, 42, 180, 0, 11, 4, 46, 4, 100, 184, 0, 81, 172]
abbrev dktX5_isArc_0 : List UInt8 := dkwX5_isArc_0 ++ []
theorem dksX5_isArc_0 : cX5_isArc.data.toList.drop 0 = dktX5_isArc_0 := by decide +kernel
theorem dX5_isArc_0 : decode cX5_isArc 0 = .ok (.iload_n 1, 1) := dk_27 (dk_at dksX5_isArc_0 0 rfl rfl)
theorem dX5_isArc_1 : decode cX5_isArc 1 = .ok (.iconst 0, 1) := dk_3 (dk_at dksX5_isArc_0 1 rfl rfl)
theorem dX5_isArc_2 : decode cX5_isArc 2 = .ok (.aload_n 0, 1) := dk_42 (dk_at dksX5_isArc_0 2 rfl rfl)
theorem dX5_isArc_3 : decode cX5_isArc 3 = .ok (.getfield 11, 3) := dk_180 0 11 (dk_at dksX5_isArc_0 3 rfl rfl)
theorem dX5_isArc_6 : decode cX5_isArc 6 = .ok (.iconst 1, 1) := dk_4 (dk_at dksX5_isArc_0 6 rfl rfl)
theorem dX5_isArc_7 : decode cX5_isArc 7 = .ok (.iaload, 1) := dk_46 (dk_at dksX5_isArc_0 7 rfl rfl)
theorem dX5_isArc_8 : decode cX5_isArc 8 = .ok (.iconst 1, 1) := dk_4 (dk_at dksX5_isArc_0 8 rfl rfl)
theorem dX5_isArc_9 : decode cX5_isArc 9 = .ok (.isub, 1) := dk_100 (dk_at dksX5_isArc_0 9 rfl rfl)
theorem dX5_isArc_10 : decode cX5_isArc 10 = .ok (.invokestatic 81, 3) := dk_184 0 81 (dk_at dksX5_isArc_0 10 rfl rfl)
theorem dX5_isArc_13 : decode cX5_isArc 13 = .ok (.ireturn, 1) := dk_172 (dk_at dksX5_isArc_0 13 rfl rfl)
abbrev cX5_tripValue : ByteArray := prog_17_method_30_code
def yX5_tripValue : MethodName := ⟨RX5, "tripValue", "(II)I"⟩
def dkwX5_tripValue_1 : List UInt8 := [153, 0, 5, 3, 172, 42, 27, 28, 182, 0, 189, 172]
abbrev dktX5_tripValue_1 : List UInt8 := dkwX5_tripValue_1 ++ []
def dkwX5_tripValue_0 : List UInt8 := [42, 42, 27, 182, 0, 186, 4, 182, 0, 176, 154, 0, 17, 42, 28, 3, 6, 184, 0, 81, 5, 182, 0, 176]
abbrev dktX5_tripValue_0 : List UInt8 := dkwX5_tripValue_0 ++ dktX5_tripValue_1
theorem dksX5_tripValue_0 : cX5_tripValue.data.toList.drop 0 = dktX5_tripValue_0 := by decide +kernel
theorem dksX5_tripValue_1 : cX5_tripValue.data.toList.drop 24 = dktX5_tripValue_1 := dk_seg dksX5_tripValue_0 24 rfl rfl
theorem dX5_tripValue_0 : decode cX5_tripValue 0 = .ok (.aload_n 0, 1) := dk_42 (dk_at dksX5_tripValue_0 0 rfl rfl)
theorem dX5_tripValue_1 : decode cX5_tripValue 1 = .ok (.aload_n 0, 1) := dk_42 (dk_at dksX5_tripValue_0 1 rfl rfl)
theorem dX5_tripValue_2 : decode cX5_tripValue 2 = .ok (.iload_n 1, 1) := dk_27 (dk_at dksX5_tripValue_0 2 rfl rfl)
theorem dX5_tripValue_3 : decode cX5_tripValue 3 = .ok (.invokevirtual 186, 3) := dk_182 0 186 (dk_at dksX5_tripValue_0 3 rfl rfl)
theorem dX5_tripValue_6 : decode cX5_tripValue 6 = .ok (.iconst 1, 1) := dk_4 (dk_at dksX5_tripValue_0 6 rfl rfl)
theorem dX5_tripValue_7 : decode cX5_tripValue 7 = .ok (.invokevirtual 176, 3) := dk_182 0 176 (dk_at dksX5_tripValue_0 7 rfl rfl)
theorem dX5_tripValue_10 : decode cX5_tripValue 10 = .ok (.ifCond .ne 17, 3) := dk_154 0 17 (dk_at dksX5_tripValue_0 10 rfl rfl)
theorem dX5_tripValue_13 : decode cX5_tripValue 13 = .ok (.aload_n 0, 1) := dk_42 (dk_at dksX5_tripValue_0 13 rfl rfl)
theorem dX5_tripValue_14 : decode cX5_tripValue 14 = .ok (.iload_n 2, 1) := dk_28 (dk_at dksX5_tripValue_0 14 rfl rfl)
theorem dX5_tripValue_15 : decode cX5_tripValue 15 = .ok (.iconst 0, 1) := dk_3 (dk_at dksX5_tripValue_0 15 rfl rfl)
theorem dX5_tripValue_16 : decode cX5_tripValue 16 = .ok (.iconst 3, 1) := dk_6 (dk_at dksX5_tripValue_0 16 rfl rfl)
theorem dX5_tripValue_17 : decode cX5_tripValue 17 = .ok (.invokestatic 81, 3) := dk_184 0 81 (dk_at dksX5_tripValue_0 17 rfl rfl)
theorem dX5_tripValue_20 : decode cX5_tripValue 20 = .ok (.iconst 2, 1) := dk_5 (dk_at dksX5_tripValue_0 20 rfl rfl)
theorem dX5_tripValue_21 : decode cX5_tripValue 21 = .ok (.invokevirtual 176, 3) := dk_182 0 176 (dk_at dksX5_tripValue_0 21 rfl rfl)
theorem dX5_tripValue_24 : decode cX5_tripValue 24 = .ok (.ifCond .eq 5, 3) := dk_153 0 5 (dk_at dksX5_tripValue_1 0 rfl rfl)
theorem dX5_tripValue_27 : decode cX5_tripValue 27 = .ok (.iconst 0, 1) := dk_3 (dk_at dksX5_tripValue_1 3 rfl rfl)
theorem dX5_tripValue_28 : decode cX5_tripValue 28 = .ok (.ireturn, 1) := dk_172 (dk_at dksX5_tripValue_1 4 rfl rfl)
theorem dX5_tripValue_29 : decode cX5_tripValue 29 = .ok (.aload_n 0, 1) := dk_42 (dk_at dksX5_tripValue_1 5 rfl rfl)
theorem dX5_tripValue_30 : decode cX5_tripValue 30 = .ok (.iload_n 1, 1) := dk_27 (dk_at dksX5_tripValue_1 6 rfl rfl)
theorem dX5_tripValue_31 : decode cX5_tripValue 31 = .ok (.iload_n 2, 1) := dk_28 (dk_at dksX5_tripValue_1 7 rfl rfl)
theorem dX5_tripValue_32 : decode cX5_tripValue 32 = .ok (.invokevirtual 189, 3) := dk_182 0 189 (dk_at dksX5_tripValue_1 8 rfl rfl)
theorem dX5_tripValue_35 : decode cX5_tripValue 35 = .ok (.ireturn, 1) := dk_172 (dk_at dksX5_tripValue_1 11 rfl rfl)
abbrev cX5_isTrip : ByteArray := prog_17_method_11_code
def yX5_isTrip : MethodName := ⟨RX5, "isTrip", "(I)Z"⟩
def dkwX5_isTrip_0 : List UInt8 := [27, 3, 42, 180, 0, 11, 5, 46, 4, 100, 184, 0, 81, 172]
abbrev dktX5_isTrip_0 : List UInt8 := dkwX5_isTrip_0 ++ []
theorem dksX5_isTrip_0 : cX5_isTrip.data.toList.drop 0 = dktX5_isTrip_0 := by decide +kernel
theorem dX5_isTrip_0 : decode cX5_isTrip 0 = .ok (.iload_n 1, 1) := dk_27 (dk_at dksX5_isTrip_0 0 rfl rfl)
theorem dX5_isTrip_1 : decode cX5_isTrip 1 = .ok (.iconst 0, 1) := dk_3 (dk_at dksX5_isTrip_0 1 rfl rfl)
theorem dX5_isTrip_2 : decode cX5_isTrip 2 = .ok (.aload_n 0, 1) := dk_42 (dk_at dksX5_isTrip_0 2 rfl rfl)
theorem dX5_isTrip_3 : decode cX5_isTrip 3 = .ok (.getfield 11, 3) := dk_180 0 11 (dk_at dksX5_isTrip_0 3 rfl rfl)
theorem dX5_isTrip_6 : decode cX5_isTrip 6 = .ok (.iconst 2, 1) := dk_5 (dk_at dksX5_isTrip_0 6 rfl rfl)
theorem dX5_isTrip_7 : decode cX5_isTrip 7 = .ok (.iaload, 1) := dk_46 (dk_at dksX5_isTrip_0 7 rfl rfl)
theorem dX5_isTrip_8 : decode cX5_isTrip 8 = .ok (.iconst 1, 1) := dk_4 (dk_at dksX5_isTrip_0 8 rfl rfl)
theorem dX5_isTrip_9 : decode cX5_isTrip 9 = .ok (.isub, 1) := dk_100 (dk_at dksX5_isTrip_0 9 rfl rfl)
theorem dX5_isTrip_10 : decode cX5_isTrip 10 = .ok (.invokestatic 81, 3) := dk_184 0 81 (dk_at dksX5_isTrip_0 10 rfl rfl)
theorem dX5_isTrip_13 : decode cX5_isTrip 13 = .ok (.ireturn, 1) := dk_172 (dk_at dksX5_isTrip_0 13 rfl rfl)
abbrev cX5_trip : ByteArray := prog_17_method_9_code
def yX5_trip : MethodName := ⟨RX5, "trip", "(II)I"⟩
def dkwX5_trip_0 : List UInt8 := [42, 180, 0, 11, 17, 0, 148, 7, 27, 104, 96, 28, 96, 46, 172]
abbrev dktX5_trip_0 : List UInt8 := dkwX5_trip_0 ++ []
theorem dksX5_trip_0 : cX5_trip.data.toList.drop 0 = dktX5_trip_0 := by decide +kernel
theorem dX5_trip_0 : decode cX5_trip 0 = .ok (.aload_n 0, 1) := dk_42 (dk_at dksX5_trip_0 0 rfl rfl)
theorem dX5_trip_1 : decode cX5_trip 1 = .ok (.getfield 11, 3) := dk_180 0 11 (dk_at dksX5_trip_0 1 rfl rfl)
theorem dX5_trip_4 : decode cX5_trip 4 = .ok (.sipush 148, 3) := dk_17 0 148 (dk_at dksX5_trip_0 4 rfl rfl)
theorem dX5_trip_7 : decode cX5_trip 7 = .ok (.iconst 4, 1) := dk_7 (dk_at dksX5_trip_0 7 rfl rfl)
theorem dX5_trip_8 : decode cX5_trip 8 = .ok (.iload_n 1, 1) := dk_27 (dk_at dksX5_trip_0 8 rfl rfl)
theorem dX5_trip_9 : decode cX5_trip 9 = .ok (.imul, 1) := dk_104 (dk_at dksX5_trip_0 9 rfl rfl)
theorem dX5_trip_10 : decode cX5_trip 10 = .ok (.iadd, 1) := dk_96 (dk_at dksX5_trip_0 10 rfl rfl)
theorem dX5_trip_11 : decode cX5_trip 11 = .ok (.iload_n 2, 1) := dk_28 (dk_at dksX5_trip_0 11 rfl rfl)
theorem dX5_trip_12 : decode cX5_trip 12 = .ok (.iadd, 1) := dk_96 (dk_at dksX5_trip_0 12 rfl rfl)
theorem dX5_trip_13 : decode cX5_trip 13 = .ok (.iaload, 1) := dk_46 (dk_at dksX5_trip_0 13 rfl rfl)
theorem dX5_trip_14 : decode cX5_trip 14 = .ok (.ireturn, 1) := dk_172 (dk_at dksX5_trip_0 14 rfl rfl)
abbrev cX5_setToll : ByteArray := prog_17_method_33_code
def yX5_setToll : MethodName := ⟨RX5, "setToll", "(II)I"⟩
def dkwX5_setToll_1 : List UInt8 := [184, 0, 81, 5, 182, 0, 176, 153, 0, 5, 3, 172, 42, 27, 7, 184, 0, 77, 28, 182, 0, 194, 172]
abbrev dktX5_setToll_1 : List UInt8 := dkwX5_setToll_1 ++ []
def dkwX5_setToll_0 : List UInt8 := [42, 42, 27, 182, 0, 182, 4, 182, 0, 176, 154, 0, 22, 42, 28, 3, 42, 27, 6, 182, 0, 180]
abbrev dktX5_setToll_0 : List UInt8 := dkwX5_setToll_0 ++ dktX5_setToll_1
theorem dksX5_setToll_0 : cX5_setToll.data.toList.drop 0 = dktX5_setToll_0 := by decide +kernel
theorem dksX5_setToll_1 : cX5_setToll.data.toList.drop 22 = dktX5_setToll_1 := dk_seg dksX5_setToll_0 22 rfl rfl
theorem dX5_setToll_0 : decode cX5_setToll 0 = .ok (.aload_n 0, 1) := dk_42 (dk_at dksX5_setToll_0 0 rfl rfl)
theorem dX5_setToll_1 : decode cX5_setToll 1 = .ok (.aload_n 0, 1) := dk_42 (dk_at dksX5_setToll_0 1 rfl rfl)
theorem dX5_setToll_2 : decode cX5_setToll 2 = .ok (.iload_n 1, 1) := dk_27 (dk_at dksX5_setToll_0 2 rfl rfl)
theorem dX5_setToll_3 : decode cX5_setToll 3 = .ok (.invokevirtual 182, 3) := dk_182 0 182 (dk_at dksX5_setToll_0 3 rfl rfl)
theorem dX5_setToll_6 : decode cX5_setToll 6 = .ok (.iconst 1, 1) := dk_4 (dk_at dksX5_setToll_0 6 rfl rfl)
theorem dX5_setToll_7 : decode cX5_setToll 7 = .ok (.invokevirtual 176, 3) := dk_182 0 176 (dk_at dksX5_setToll_0 7 rfl rfl)
theorem dX5_setToll_10 : decode cX5_setToll 10 = .ok (.ifCond .ne 22, 3) := dk_154 0 22 (dk_at dksX5_setToll_0 10 rfl rfl)
theorem dX5_setToll_13 : decode cX5_setToll 13 = .ok (.aload_n 0, 1) := dk_42 (dk_at dksX5_setToll_0 13 rfl rfl)
theorem dX5_setToll_14 : decode cX5_setToll 14 = .ok (.iload_n 2, 1) := dk_28 (dk_at dksX5_setToll_0 14 rfl rfl)
theorem dX5_setToll_15 : decode cX5_setToll 15 = .ok (.iconst 0, 1) := dk_3 (dk_at dksX5_setToll_0 15 rfl rfl)
theorem dX5_setToll_16 : decode cX5_setToll 16 = .ok (.aload_n 0, 1) := dk_42 (dk_at dksX5_setToll_0 16 rfl rfl)
theorem dX5_setToll_17 : decode cX5_setToll 17 = .ok (.iload_n 1, 1) := dk_27 (dk_at dksX5_setToll_0 17 rfl rfl)
theorem dX5_setToll_18 : decode cX5_setToll 18 = .ok (.iconst 3, 1) := dk_6 (dk_at dksX5_setToll_0 18 rfl rfl)
theorem dX5_setToll_19 : decode cX5_setToll 19 = .ok (.invokevirtual 180, 3) := dk_182 0 180 (dk_at dksX5_setToll_0 19 rfl rfl)
theorem dX5_setToll_22 : decode cX5_setToll 22 = .ok (.invokestatic 81, 3) := dk_184 0 81 (dk_at dksX5_setToll_1 0 rfl rfl)
theorem dX5_setToll_25 : decode cX5_setToll 25 = .ok (.iconst 2, 1) := dk_5 (dk_at dksX5_setToll_1 3 rfl rfl)
theorem dX5_setToll_26 : decode cX5_setToll 26 = .ok (.invokevirtual 176, 3) := dk_182 0 176 (dk_at dksX5_setToll_1 4 rfl rfl)
theorem dX5_setToll_29 : decode cX5_setToll 29 = .ok (.ifCond .eq 5, 3) := dk_153 0 5 (dk_at dksX5_setToll_1 7 rfl rfl)
theorem dX5_setToll_32 : decode cX5_setToll 32 = .ok (.iconst 0, 1) := dk_3 (dk_at dksX5_setToll_1 10 rfl rfl)
theorem dX5_setToll_33 : decode cX5_setToll 33 = .ok (.ireturn, 1) := dk_172 (dk_at dksX5_setToll_1 11 rfl rfl)
theorem dX5_setToll_34 : decode cX5_setToll 34 = .ok (.aload_n 0, 1) := dk_42 (dk_at dksX5_setToll_1 12 rfl rfl)
theorem dX5_setToll_35 : decode cX5_setToll 35 = .ok (.iload_n 1, 1) := dk_27 (dk_at dksX5_setToll_1 13 rfl rfl)
theorem dX5_setToll_36 : decode cX5_setToll 36 = .ok (.iconst 4, 1) := dk_7 (dk_at dksX5_setToll_1 14 rfl rfl)
theorem dX5_setToll_37 : decode cX5_setToll 37 = .ok (.invokestatic 77, 3) := dk_184 0 77 (dk_at dksX5_setToll_1 15 rfl rfl)
theorem dX5_setToll_40 : decode cX5_setToll 40 = .ok (.iload_n 2, 1) := dk_28 (dk_at dksX5_setToll_1 18 rfl rfl)
theorem dX5_setToll_41 : decode cX5_setToll 41 = .ok (.invokevirtual 194, 3) := dk_182 0 194 (dk_at dksX5_setToll_1 19 rfl rfl)
theorem dX5_setToll_44 : decode cX5_setToll 44 = .ok (.ireturn, 1) := dk_172 (dk_at dksX5_setToll_1 22 rfl rfl)
abbrev cX5_sets : ByteArray := prog_17_method_32_code
def yX5_sets : MethodName := ⟨RX5, "sets", "(II)I"⟩
def dkwX5_sets_0 : List UInt8 := [42, 182, 0, 191, 42, 180, 0, 11, 27, 46, 62, 42, 180, 0, 11, 27, 28, 79, 29, 172]
abbrev dktX5_sets_0 : List UInt8 := dkwX5_sets_0 ++ []
theorem dksX5_sets_0 : cX5_sets.data.toList.drop 0 = dktX5_sets_0 := by decide +kernel
theorem dX5_sets_0 : decode cX5_sets 0 = .ok (.aload_n 0, 1) := dk_42 (dk_at dksX5_sets_0 0 rfl rfl)
theorem dX5_sets_1 : decode cX5_sets 1 = .ok (.invokevirtual 191, 3) := dk_182 0 191 (dk_at dksX5_sets_0 1 rfl rfl)
theorem dX5_sets_4 : decode cX5_sets 4 = .ok (.aload_n 0, 1) := dk_42 (dk_at dksX5_sets_0 4 rfl rfl)
theorem dX5_sets_5 : decode cX5_sets 5 = .ok (.getfield 11, 3) := dk_180 0 11 (dk_at dksX5_sets_0 5 rfl rfl)
theorem dX5_sets_8 : decode cX5_sets 8 = .ok (.iload_n 1, 1) := dk_27 (dk_at dksX5_sets_0 8 rfl rfl)
theorem dX5_sets_9 : decode cX5_sets 9 = .ok (.iaload, 1) := dk_46 (dk_at dksX5_sets_0 9 rfl rfl)
theorem dX5_sets_10 : decode cX5_sets 10 = .ok (.istore_n 3, 1) := dk_62 (dk_at dksX5_sets_0 10 rfl rfl)
theorem dX5_sets_11 : decode cX5_sets 11 = .ok (.aload_n 0, 1) := dk_42 (dk_at dksX5_sets_0 11 rfl rfl)
theorem dX5_sets_12 : decode cX5_sets 12 = .ok (.getfield 11, 3) := dk_180 0 11 (dk_at dksX5_sets_0 12 rfl rfl)
theorem dX5_sets_15 : decode cX5_sets 15 = .ok (.iload_n 1, 1) := dk_27 (dk_at dksX5_sets_0 15 rfl rfl)
theorem dX5_sets_16 : decode cX5_sets 16 = .ok (.iload_n 2, 1) := dk_28 (dk_at dksX5_sets_0 16 rfl rfl)
theorem dX5_sets_17 : decode cX5_sets 17 = .ok (.iastore, 1) := dk_79 (dk_at dksX5_sets_0 17 rfl rfl)
theorem dX5_sets_18 : decode cX5_sets 18 = .ok (.iload_n 3, 1) := dk_29 (dk_at dksX5_sets_0 18 rfl rfl)
theorem dX5_sets_19 : decode cX5_sets 19 = .ok (.ireturn, 1) := dk_172 (dk_at dksX5_sets_0 19 rfl rfl)
abbrev cX5_keeps : ByteArray := prog_17_method_31_code
def yX5_keeps : MethodName := ⟨RX5, "keeps", "()V"⟩
def dkwX5_keeps_3 : List UInt8 := [4, 96, 181, 0, 173, 177]
abbrev dktX5_keeps_3 : List UInt8 := dkwX5_keeps_3 ++ []
def dkwX5_keeps_2 : List UInt8 := [181, 0, 173, 42, 180, 0, 11, 3, 42, 180, 0, 21, 42, 180, 0, 173, 184, 0, 170, 42, 89, 180, 0, 173]
abbrev dktX5_keeps_2 : List UInt8 := dkwX5_keeps_2 ++ dktX5_keeps_3
def dkwX5_keeps_1 : List UInt8 := [180, 0, 21, 27, 17, 0, 172, 96, 46, 79, 132, 1, 1, 167, 255, 230, 42, 89, 180, 0, 173, 4, 100]
abbrev dktX5_keeps_1 : List UInt8 := dkwX5_keeps_1 ++ dktX5_keeps_2
def dkwX5_keeps_0 : List UInt8 := [42, 180, 0, 173, 16, 12, 160, 0, 44, 3, 60, 27, 17, 7, 100, 162, 0, 25, 42, 180, 0, 21, 27, 42]
abbrev dktX5_keeps_0 : List UInt8 := dkwX5_keeps_0 ++ dktX5_keeps_1
theorem dksX5_keeps_0 : cX5_keeps.data.toList.drop 0 = dktX5_keeps_0 := by decide +kernel
theorem dksX5_keeps_1 : cX5_keeps.data.toList.drop 24 = dktX5_keeps_1 := dk_seg dksX5_keeps_0 24 rfl rfl
theorem dksX5_keeps_2 : cX5_keeps.data.toList.drop 47 = dktX5_keeps_2 := dk_seg dksX5_keeps_1 23 rfl rfl
theorem dksX5_keeps_3 : cX5_keeps.data.toList.drop 71 = dktX5_keeps_3 := dk_seg dksX5_keeps_2 24 rfl rfl
theorem dX5_keeps_0 : decode cX5_keeps 0 = .ok (.aload_n 0, 1) := dk_42 (dk_at dksX5_keeps_0 0 rfl rfl)
theorem dX5_keeps_1 : decode cX5_keeps 1 = .ok (.getfield 173, 3) := dk_180 0 173 (dk_at dksX5_keeps_0 1 rfl rfl)
theorem dX5_keeps_4 : decode cX5_keeps 4 = .ok (.bipush 12, 2) := dk_16 12 (dk_at dksX5_keeps_0 4 rfl rfl)
theorem dX5_keeps_6 : decode cX5_keeps 6 = .ok (.if_icmp .ne 44, 3) := dk_160 0 44 (dk_at dksX5_keeps_0 6 rfl rfl)
theorem dX5_keeps_9 : decode cX5_keeps 9 = .ok (.iconst 0, 1) := dk_3 (dk_at dksX5_keeps_0 9 rfl rfl)
theorem dX5_keeps_10 : decode cX5_keeps 10 = .ok (.istore_n 1, 1) := dk_60 (dk_at dksX5_keeps_0 10 rfl rfl)
theorem dX5_keeps_11 : decode cX5_keeps 11 = .ok (.iload_n 1, 1) := dk_27 (dk_at dksX5_keeps_0 11 rfl rfl)
theorem dX5_keeps_12 : decode cX5_keeps 12 = .ok (.sipush 1892, 3) := dk_17 7 100 (dk_at dksX5_keeps_0 12 rfl rfl)
theorem dX5_keeps_15 : decode cX5_keeps 15 = .ok (.if_icmp .ge 25, 3) := dk_162 0 25 (dk_at dksX5_keeps_0 15 rfl rfl)
theorem dX5_keeps_18 : decode cX5_keeps 18 = .ok (.aload_n 0, 1) := dk_42 (dk_at dksX5_keeps_0 18 rfl rfl)
theorem dX5_keeps_19 : decode cX5_keeps 19 = .ok (.getfield 21, 3) := dk_180 0 21 (dk_at dksX5_keeps_0 19 rfl rfl)
theorem dX5_keeps_22 : decode cX5_keeps 22 = .ok (.iload_n 1, 1) := dk_27 (dk_at dksX5_keeps_0 22 rfl rfl)
theorem dX5_keeps_23 : decode cX5_keeps 23 = .ok (.aload_n 0, 1) := dk_42 (dk_at dksX5_keeps_0 23 rfl rfl)
theorem dX5_keeps_24 : decode cX5_keeps 24 = .ok (.getfield 21, 3) := dk_180 0 21 (dk_at dksX5_keeps_1 0 rfl rfl)
theorem dX5_keeps_27 : decode cX5_keeps 27 = .ok (.iload_n 1, 1) := dk_27 (dk_at dksX5_keeps_1 3 rfl rfl)
theorem dX5_keeps_28 : decode cX5_keeps 28 = .ok (.sipush 172, 3) := dk_17 0 172 (dk_at dksX5_keeps_1 4 rfl rfl)
theorem dX5_keeps_31 : decode cX5_keeps 31 = .ok (.iadd, 1) := dk_96 (dk_at dksX5_keeps_1 7 rfl rfl)
theorem dX5_keeps_32 : decode cX5_keeps 32 = .ok (.iaload, 1) := dk_46 (dk_at dksX5_keeps_1 8 rfl rfl)
theorem dX5_keeps_33 : decode cX5_keeps 33 = .ok (.iastore, 1) := dk_79 (dk_at dksX5_keeps_1 9 rfl rfl)
theorem dX5_keeps_34 : decode cX5_keeps 34 = .ok (.iinc 1 1, 3) := dk_132 1 1 (dk_at dksX5_keeps_1 10 rfl rfl)
theorem dX5_keeps_37 : decode cX5_keeps 37 = .ok (.goto (-26), 3) := dk_167 255 230 (dk_at dksX5_keeps_1 13 rfl rfl)
theorem dX5_keeps_40 : decode cX5_keeps 40 = .ok (.aload_n 0, 1) := dk_42 (dk_at dksX5_keeps_1 16 rfl rfl)
theorem dX5_keeps_41 : decode cX5_keeps 41 = .ok (.dup, 1) := dk_89 (dk_at dksX5_keeps_1 17 rfl rfl)
theorem dX5_keeps_42 : decode cX5_keeps 42 = .ok (.getfield 173, 3) := dk_180 0 173 (dk_at dksX5_keeps_1 18 rfl rfl)
theorem dX5_keeps_45 : decode cX5_keeps 45 = .ok (.iconst 1, 1) := dk_4 (dk_at dksX5_keeps_1 21 rfl rfl)
theorem dX5_keeps_46 : decode cX5_keeps 46 = .ok (.isub, 1) := dk_100 (dk_at dksX5_keeps_1 22 rfl rfl)
theorem dX5_keeps_47 : decode cX5_keeps 47 = .ok (.putfield 173, 3) := dk_181 0 173 (dk_at dksX5_keeps_2 0 rfl rfl)
theorem dX5_keeps_50 : decode cX5_keeps 50 = .ok (.aload_n 0, 1) := dk_42 (dk_at dksX5_keeps_2 3 rfl rfl)
theorem dX5_keeps_51 : decode cX5_keeps 51 = .ok (.getfield 11, 3) := dk_180 0 11 (dk_at dksX5_keeps_2 4 rfl rfl)
theorem dX5_keeps_54 : decode cX5_keeps 54 = .ok (.iconst 0, 1) := dk_3 (dk_at dksX5_keeps_2 7 rfl rfl)
theorem dX5_keeps_55 : decode cX5_keeps 55 = .ok (.aload_n 0, 1) := dk_42 (dk_at dksX5_keeps_2 8 rfl rfl)
theorem dX5_keeps_56 : decode cX5_keeps 56 = .ok (.getfield 21, 3) := dk_180 0 21 (dk_at dksX5_keeps_2 9 rfl rfl)
theorem dX5_keeps_59 : decode cX5_keeps 59 = .ok (.aload_n 0, 1) := dk_42 (dk_at dksX5_keeps_2 12 rfl rfl)
theorem dX5_keeps_60 : decode cX5_keeps 60 = .ok (.getfield 173, 3) := dk_180 0 173 (dk_at dksX5_keeps_2 13 rfl rfl)
theorem dX5_keeps_63 : decode cX5_keeps 63 = .ok (.invokestatic 170, 3) := dk_184 0 170 (dk_at dksX5_keeps_2 16 rfl rfl)
theorem dX5_keeps_66 : decode cX5_keeps 66 = .ok (.aload_n 0, 1) := dk_42 (dk_at dksX5_keeps_2 19 rfl rfl)
theorem dX5_keeps_67 : decode cX5_keeps 67 = .ok (.dup, 1) := dk_89 (dk_at dksX5_keeps_2 20 rfl rfl)
theorem dX5_keeps_68 : decode cX5_keeps 68 = .ok (.getfield 173, 3) := dk_180 0 173 (dk_at dksX5_keeps_2 21 rfl rfl)
theorem dX5_keeps_71 : decode cX5_keeps 71 = .ok (.iconst 1, 1) := dk_4 (dk_at dksX5_keeps_3 0 rfl rfl)
theorem dX5_keeps_72 : decode cX5_keeps 72 = .ok (.iadd, 1) := dk_96 (dk_at dksX5_keeps_3 1 rfl rfl)
theorem dX5_keeps_73 : decode cX5_keeps 73 = .ok (.putfield 173, 3) := dk_181 0 173 (dk_at dksX5_keeps_3 2 rfl rfl)
theorem dX5_keeps_76 : decode cX5_keeps 76 = .ok (.return_, 1) := dk_177 (dk_at dksX5_keeps_3 5 rfl rfl)
abbrev cX5_addTolls : ByteArray := prog_17_method_35_code
def yX5_addTolls : MethodName := ⟨RX5, "addTolls", "(I)I"⟩
def dkwX5_addTolls_2 : List UInt8 := [96, 182, 0, 200, 96, 61, 132, 3, 1, 167, 255, 227, 28, 172]
abbrev dktX5_addTolls_2 : List UInt8 := dkwX5_addTolls_2 ++ []
def dkwX5_addTolls_1 : List UInt8 := [3, 61, 3, 62, 29, 42, 180, 0, 11, 4, 46, 162, 0, 25, 28, 42, 29, 42, 29, 7, 182, 0, 180, 27]
abbrev dktX5_addTolls_1 : List UInt8 := dkwX5_addTolls_1 ++ dktX5_addTolls_2
def dkwX5_addTolls_0 : List UInt8 := [42, 27, 17, 216, 241, 17, 39, 15, 184, 0, 81, 4, 182, 0, 176, 153, 0, 5, 3, 172, 42, 182, 0, 191]
abbrev dktX5_addTolls_0 : List UInt8 := dkwX5_addTolls_0 ++ dktX5_addTolls_1
theorem dksX5_addTolls_0 : cX5_addTolls.data.toList.drop 0 = dktX5_addTolls_0 := by decide +kernel
theorem dksX5_addTolls_1 : cX5_addTolls.data.toList.drop 24 = dktX5_addTolls_1 := dk_seg dksX5_addTolls_0 24 rfl rfl
theorem dksX5_addTolls_2 : cX5_addTolls.data.toList.drop 48 = dktX5_addTolls_2 := dk_seg dksX5_addTolls_1 24 rfl rfl
theorem dX5_addTolls_0 : decode cX5_addTolls 0 = .ok (.aload_n 0, 1) := dk_42 (dk_at dksX5_addTolls_0 0 rfl rfl)
theorem dX5_addTolls_1 : decode cX5_addTolls 1 = .ok (.iload_n 1, 1) := dk_27 (dk_at dksX5_addTolls_0 1 rfl rfl)
theorem dX5_addTolls_2 : decode cX5_addTolls 2 = .ok (.sipush (-9999), 3) := dk_17 216 241 (dk_at dksX5_addTolls_0 2 rfl rfl)
theorem dX5_addTolls_5 : decode cX5_addTolls 5 = .ok (.sipush 9999, 3) := dk_17 39 15 (dk_at dksX5_addTolls_0 5 rfl rfl)
theorem dX5_addTolls_8 : decode cX5_addTolls 8 = .ok (.invokestatic 81, 3) := dk_184 0 81 (dk_at dksX5_addTolls_0 8 rfl rfl)
theorem dX5_addTolls_11 : decode cX5_addTolls 11 = .ok (.iconst 1, 1) := dk_4 (dk_at dksX5_addTolls_0 11 rfl rfl)
theorem dX5_addTolls_12 : decode cX5_addTolls 12 = .ok (.invokevirtual 176, 3) := dk_182 0 176 (dk_at dksX5_addTolls_0 12 rfl rfl)
theorem dX5_addTolls_15 : decode cX5_addTolls 15 = .ok (.ifCond .eq 5, 3) := dk_153 0 5 (dk_at dksX5_addTolls_0 15 rfl rfl)
theorem dX5_addTolls_18 : decode cX5_addTolls 18 = .ok (.iconst 0, 1) := dk_3 (dk_at dksX5_addTolls_0 18 rfl rfl)
theorem dX5_addTolls_19 : decode cX5_addTolls 19 = .ok (.ireturn, 1) := dk_172 (dk_at dksX5_addTolls_0 19 rfl rfl)
theorem dX5_addTolls_20 : decode cX5_addTolls 20 = .ok (.aload_n 0, 1) := dk_42 (dk_at dksX5_addTolls_0 20 rfl rfl)
theorem dX5_addTolls_21 : decode cX5_addTolls 21 = .ok (.invokevirtual 191, 3) := dk_182 0 191 (dk_at dksX5_addTolls_0 21 rfl rfl)
theorem dX5_addTolls_24 : decode cX5_addTolls 24 = .ok (.iconst 0, 1) := dk_3 (dk_at dksX5_addTolls_1 0 rfl rfl)
theorem dX5_addTolls_25 : decode cX5_addTolls 25 = .ok (.istore_n 2, 1) := dk_61 (dk_at dksX5_addTolls_1 1 rfl rfl)
theorem dX5_addTolls_26 : decode cX5_addTolls 26 = .ok (.iconst 0, 1) := dk_3 (dk_at dksX5_addTolls_1 2 rfl rfl)
theorem dX5_addTolls_27 : decode cX5_addTolls 27 = .ok (.istore_n 3, 1) := dk_62 (dk_at dksX5_addTolls_1 3 rfl rfl)
theorem dX5_addTolls_28 : decode cX5_addTolls 28 = .ok (.iload_n 3, 1) := dk_29 (dk_at dksX5_addTolls_1 4 rfl rfl)
theorem dX5_addTolls_29 : decode cX5_addTolls 29 = .ok (.aload_n 0, 1) := dk_42 (dk_at dksX5_addTolls_1 5 rfl rfl)
theorem dX5_addTolls_30 : decode cX5_addTolls 30 = .ok (.getfield 11, 3) := dk_180 0 11 (dk_at dksX5_addTolls_1 6 rfl rfl)
theorem dX5_addTolls_33 : decode cX5_addTolls 33 = .ok (.iconst 1, 1) := dk_4 (dk_at dksX5_addTolls_1 9 rfl rfl)
theorem dX5_addTolls_34 : decode cX5_addTolls 34 = .ok (.iaload, 1) := dk_46 (dk_at dksX5_addTolls_1 10 rfl rfl)
theorem dX5_addTolls_35 : decode cX5_addTolls 35 = .ok (.if_icmp .ge 25, 3) := dk_162 0 25 (dk_at dksX5_addTolls_1 11 rfl rfl)
theorem dX5_addTolls_38 : decode cX5_addTolls 38 = .ok (.iload_n 2, 1) := dk_28 (dk_at dksX5_addTolls_1 14 rfl rfl)
theorem dX5_addTolls_39 : decode cX5_addTolls 39 = .ok (.aload_n 0, 1) := dk_42 (dk_at dksX5_addTolls_1 15 rfl rfl)
theorem dX5_addTolls_40 : decode cX5_addTolls 40 = .ok (.iload_n 3, 1) := dk_29 (dk_at dksX5_addTolls_1 16 rfl rfl)
theorem dX5_addTolls_41 : decode cX5_addTolls 41 = .ok (.aload_n 0, 1) := dk_42 (dk_at dksX5_addTolls_1 17 rfl rfl)
theorem dX5_addTolls_42 : decode cX5_addTolls 42 = .ok (.iload_n 3, 1) := dk_29 (dk_at dksX5_addTolls_1 18 rfl rfl)
theorem dX5_addTolls_43 : decode cX5_addTolls 43 = .ok (.iconst 4, 1) := dk_7 (dk_at dksX5_addTolls_1 19 rfl rfl)
theorem dX5_addTolls_44 : decode cX5_addTolls 44 = .ok (.invokevirtual 180, 3) := dk_182 0 180 (dk_at dksX5_addTolls_1 20 rfl rfl)
theorem dX5_addTolls_47 : decode cX5_addTolls 47 = .ok (.iload_n 1, 1) := dk_27 (dk_at dksX5_addTolls_1 23 rfl rfl)
theorem dX5_addTolls_48 : decode cX5_addTolls 48 = .ok (.iadd, 1) := dk_96 (dk_at dksX5_addTolls_2 0 rfl rfl)
theorem dX5_addTolls_49 : decode cX5_addTolls 49 = .ok (.invokevirtual 200, 3) := dk_182 0 200 (dk_at dksX5_addTolls_2 1 rfl rfl)
theorem dX5_addTolls_52 : decode cX5_addTolls 52 = .ok (.iadd, 1) := dk_96 (dk_at dksX5_addTolls_2 4 rfl rfl)
theorem dX5_addTolls_53 : decode cX5_addTolls 53 = .ok (.istore_n 2, 1) := dk_61 (dk_at dksX5_addTolls_2 5 rfl rfl)
theorem dX5_addTolls_54 : decode cX5_addTolls 54 = .ok (.iinc 3 1, 3) := dk_132 3 1 (dk_at dksX5_addTolls_2 6 rfl rfl)
theorem dX5_addTolls_57 : decode cX5_addTolls 57 = .ok (.goto (-29), 3) := dk_167 255 227 (dk_at dksX5_addTolls_2 9 rfl rfl)
theorem dX5_addTolls_60 : decode cX5_addTolls 60 = .ok (.iload_n 2, 1) := dk_28 (dk_at dksX5_addTolls_2 12 rfl rfl)
theorem dX5_addTolls_61 : decode cX5_addTolls 61 = .ok (.ireturn, 1) := dk_172 (dk_at dksX5_addTolls_2 13 rfl rfl)
abbrev cX5_becomes : ByteArray := prog_17_method_34_code
def yX5_becomes : MethodName := ⟨RX5, "becomes", "(II)I"⟩
def dkwX5_becomes_1 : List UInt8 := [184, 0, 126, 184, 0, 197, 79, 42, 27, 7, 182, 0, 180, 29, 160, 0, 7, 3, 167, 0, 4, 4, 172]
abbrev dktX5_becomes_1 : List UInt8 := dkwX5_becomes_1 ++ []
def dkwX5_becomes_0 : List UInt8 := [42, 27, 7, 182, 0, 180, 62, 42, 180, 0, 11, 27, 7, 184, 0, 77, 3, 42, 27, 6, 182, 0, 180, 28]
abbrev dktX5_becomes_0 : List UInt8 := dkwX5_becomes_0 ++ dktX5_becomes_1
theorem dksX5_becomes_0 : cX5_becomes.data.toList.drop 0 = dktX5_becomes_0 := by decide +kernel
theorem dksX5_becomes_1 : cX5_becomes.data.toList.drop 24 = dktX5_becomes_1 := dk_seg dksX5_becomes_0 24 rfl rfl
theorem dX5_becomes_0 : decode cX5_becomes 0 = .ok (.aload_n 0, 1) := dk_42 (dk_at dksX5_becomes_0 0 rfl rfl)
theorem dX5_becomes_1 : decode cX5_becomes 1 = .ok (.iload_n 1, 1) := dk_27 (dk_at dksX5_becomes_0 1 rfl rfl)
theorem dX5_becomes_2 : decode cX5_becomes 2 = .ok (.iconst 4, 1) := dk_7 (dk_at dksX5_becomes_0 2 rfl rfl)
theorem dX5_becomes_3 : decode cX5_becomes 3 = .ok (.invokevirtual 180, 3) := dk_182 0 180 (dk_at dksX5_becomes_0 3 rfl rfl)
theorem dX5_becomes_6 : decode cX5_becomes 6 = .ok (.istore_n 3, 1) := dk_62 (dk_at dksX5_becomes_0 6 rfl rfl)
theorem dX5_becomes_7 : decode cX5_becomes 7 = .ok (.aload_n 0, 1) := dk_42 (dk_at dksX5_becomes_0 7 rfl rfl)
theorem dX5_becomes_8 : decode cX5_becomes 8 = .ok (.getfield 11, 3) := dk_180 0 11 (dk_at dksX5_becomes_0 8 rfl rfl)
theorem dX5_becomes_11 : decode cX5_becomes 11 = .ok (.iload_n 1, 1) := dk_27 (dk_at dksX5_becomes_0 11 rfl rfl)
theorem dX5_becomes_12 : decode cX5_becomes 12 = .ok (.iconst 4, 1) := dk_7 (dk_at dksX5_becomes_0 12 rfl rfl)
theorem dX5_becomes_13 : decode cX5_becomes 13 = .ok (.invokestatic 77, 3) := dk_184 0 77 (dk_at dksX5_becomes_0 13 rfl rfl)
theorem dX5_becomes_16 : decode cX5_becomes 16 = .ok (.iconst 0, 1) := dk_3 (dk_at dksX5_becomes_0 16 rfl rfl)
theorem dX5_becomes_17 : decode cX5_becomes 17 = .ok (.aload_n 0, 1) := dk_42 (dk_at dksX5_becomes_0 17 rfl rfl)
theorem dX5_becomes_18 : decode cX5_becomes 18 = .ok (.iload_n 1, 1) := dk_27 (dk_at dksX5_becomes_0 18 rfl rfl)
theorem dX5_becomes_19 : decode cX5_becomes 19 = .ok (.iconst 3, 1) := dk_6 (dk_at dksX5_becomes_0 19 rfl rfl)
theorem dX5_becomes_20 : decode cX5_becomes 20 = .ok (.invokevirtual 180, 3) := dk_182 0 180 (dk_at dksX5_becomes_0 20 rfl rfl)
theorem dX5_becomes_23 : decode cX5_becomes 23 = .ok (.iload_n 2, 1) := dk_28 (dk_at dksX5_becomes_0 23 rfl rfl)
theorem dX5_becomes_24 : decode cX5_becomes 24 = .ok (.invokestatic 126, 3) := dk_184 0 126 (dk_at dksX5_becomes_1 0 rfl rfl)
theorem dX5_becomes_27 : decode cX5_becomes 27 = .ok (.invokestatic 197, 3) := dk_184 0 197 (dk_at dksX5_becomes_1 3 rfl rfl)
theorem dX5_becomes_30 : decode cX5_becomes 30 = .ok (.iastore, 1) := dk_79 (dk_at dksX5_becomes_1 6 rfl rfl)
theorem dX5_becomes_31 : decode cX5_becomes 31 = .ok (.aload_n 0, 1) := dk_42 (dk_at dksX5_becomes_1 7 rfl rfl)
theorem dX5_becomes_32 : decode cX5_becomes 32 = .ok (.iload_n 1, 1) := dk_27 (dk_at dksX5_becomes_1 8 rfl rfl)
theorem dX5_becomes_33 : decode cX5_becomes 33 = .ok (.iconst 4, 1) := dk_7 (dk_at dksX5_becomes_1 9 rfl rfl)
theorem dX5_becomes_34 : decode cX5_becomes 34 = .ok (.invokevirtual 180, 3) := dk_182 0 180 (dk_at dksX5_becomes_1 10 rfl rfl)
theorem dX5_becomes_37 : decode cX5_becomes 37 = .ok (.iload_n 3, 1) := dk_29 (dk_at dksX5_becomes_1 13 rfl rfl)
theorem dX5_becomes_38 : decode cX5_becomes 38 = .ok (.if_icmp .ne 7, 3) := dk_160 0 7 (dk_at dksX5_becomes_1 14 rfl rfl)
theorem dX5_becomes_41 : decode cX5_becomes 41 = .ok (.iconst 0, 1) := dk_3 (dk_at dksX5_becomes_1 17 rfl rfl)
theorem dX5_becomes_42 : decode cX5_becomes 42 = .ok (.goto 4, 3) := dk_167 0 4 (dk_at dksX5_becomes_1 18 rfl rfl)
theorem dX5_becomes_45 : decode cX5_becomes 45 = .ok (.iconst 1, 1) := dk_4 (dk_at dksX5_becomes_1 21 rfl rfl)
theorem dX5_becomes_46 : decode cX5_becomes 46 = .ok (.ireturn, 1) := dk_172 (dk_at dksX5_becomes_1 22 rfl rfl)
abbrev cX5_clearTolls : ByteArray := prog_17_method_36_code
def yX5_clearTolls : MethodName := ⟨RX5, "clearTolls", "()I"⟩
def dkwX5_clearTolls_1 : List UInt8 := [42, 28, 3, 182, 0, 200, 96, 60, 132, 2, 1, 167, 255, 234, 27, 172]
abbrev dktX5_clearTolls_1 : List UInt8 := dkwX5_clearTolls_1 ++ []
def dkwX5_clearTolls_0 : List UInt8 := [42, 3, 181, 0, 74, 42, 182, 0, 191, 3, 60, 3, 61, 28, 42, 180, 0, 11, 4, 46, 162, 0, 18, 27]
abbrev dktX5_clearTolls_0 : List UInt8 := dkwX5_clearTolls_0 ++ dktX5_clearTolls_1
theorem dksX5_clearTolls_0 : cX5_clearTolls.data.toList.drop 0 = dktX5_clearTolls_0 := by decide +kernel
theorem dksX5_clearTolls_1 : cX5_clearTolls.data.toList.drop 24 = dktX5_clearTolls_1 := dk_seg dksX5_clearTolls_0 24 rfl rfl
theorem dX5_clearTolls_0 : decode cX5_clearTolls 0 = .ok (.aload_n 0, 1) := dk_42 (dk_at dksX5_clearTolls_0 0 rfl rfl)
theorem dX5_clearTolls_1 : decode cX5_clearTolls 1 = .ok (.iconst 0, 1) := dk_3 (dk_at dksX5_clearTolls_0 1 rfl rfl)
theorem dX5_clearTolls_2 : decode cX5_clearTolls 2 = .ok (.putfield 74, 3) := dk_181 0 74 (dk_at dksX5_clearTolls_0 2 rfl rfl)
theorem dX5_clearTolls_5 : decode cX5_clearTolls 5 = .ok (.aload_n 0, 1) := dk_42 (dk_at dksX5_clearTolls_0 5 rfl rfl)
theorem dX5_clearTolls_6 : decode cX5_clearTolls 6 = .ok (.invokevirtual 191, 3) := dk_182 0 191 (dk_at dksX5_clearTolls_0 6 rfl rfl)
theorem dX5_clearTolls_9 : decode cX5_clearTolls 9 = .ok (.iconst 0, 1) := dk_3 (dk_at dksX5_clearTolls_0 9 rfl rfl)
theorem dX5_clearTolls_10 : decode cX5_clearTolls 10 = .ok (.istore_n 1, 1) := dk_60 (dk_at dksX5_clearTolls_0 10 rfl rfl)
theorem dX5_clearTolls_11 : decode cX5_clearTolls 11 = .ok (.iconst 0, 1) := dk_3 (dk_at dksX5_clearTolls_0 11 rfl rfl)
theorem dX5_clearTolls_12 : decode cX5_clearTolls 12 = .ok (.istore_n 2, 1) := dk_61 (dk_at dksX5_clearTolls_0 12 rfl rfl)
theorem dX5_clearTolls_13 : decode cX5_clearTolls 13 = .ok (.iload_n 2, 1) := dk_28 (dk_at dksX5_clearTolls_0 13 rfl rfl)
theorem dX5_clearTolls_14 : decode cX5_clearTolls 14 = .ok (.aload_n 0, 1) := dk_42 (dk_at dksX5_clearTolls_0 14 rfl rfl)
theorem dX5_clearTolls_15 : decode cX5_clearTolls 15 = .ok (.getfield 11, 3) := dk_180 0 11 (dk_at dksX5_clearTolls_0 15 rfl rfl)
theorem dX5_clearTolls_18 : decode cX5_clearTolls 18 = .ok (.iconst 1, 1) := dk_4 (dk_at dksX5_clearTolls_0 18 rfl rfl)
theorem dX5_clearTolls_19 : decode cX5_clearTolls 19 = .ok (.iaload, 1) := dk_46 (dk_at dksX5_clearTolls_0 19 rfl rfl)
theorem dX5_clearTolls_20 : decode cX5_clearTolls 20 = .ok (.if_icmp .ge 18, 3) := dk_162 0 18 (dk_at dksX5_clearTolls_0 20 rfl rfl)
theorem dX5_clearTolls_23 : decode cX5_clearTolls 23 = .ok (.iload_n 1, 1) := dk_27 (dk_at dksX5_clearTolls_0 23 rfl rfl)
theorem dX5_clearTolls_24 : decode cX5_clearTolls 24 = .ok (.aload_n 0, 1) := dk_42 (dk_at dksX5_clearTolls_1 0 rfl rfl)
theorem dX5_clearTolls_25 : decode cX5_clearTolls 25 = .ok (.iload_n 2, 1) := dk_28 (dk_at dksX5_clearTolls_1 1 rfl rfl)
theorem dX5_clearTolls_26 : decode cX5_clearTolls 26 = .ok (.iconst 0, 1) := dk_3 (dk_at dksX5_clearTolls_1 2 rfl rfl)
theorem dX5_clearTolls_27 : decode cX5_clearTolls 27 = .ok (.invokevirtual 200, 3) := dk_182 0 200 (dk_at dksX5_clearTolls_1 3 rfl rfl)
theorem dX5_clearTolls_30 : decode cX5_clearTolls 30 = .ok (.iadd, 1) := dk_96 (dk_at dksX5_clearTolls_1 6 rfl rfl)
theorem dX5_clearTolls_31 : decode cX5_clearTolls 31 = .ok (.istore_n 1, 1) := dk_60 (dk_at dksX5_clearTolls_1 7 rfl rfl)
theorem dX5_clearTolls_32 : decode cX5_clearTolls 32 = .ok (.iinc 2 1, 3) := dk_132 2 1 (dk_at dksX5_clearTolls_1 8 rfl rfl)
theorem dX5_clearTolls_35 : decode cX5_clearTolls 35 = .ok (.goto (-22), 3) := dk_167 255 234 (dk_at dksX5_clearTolls_1 11 rfl rfl)
theorem dX5_clearTolls_38 : decode cX5_clearTolls 38 = .ok (.iload_n 1, 1) := dk_27 (dk_at dksX5_clearTolls_1 14 rfl rfl)
theorem dX5_clearTolls_39 : decode cX5_clearTolls 39 = .ok (.ireturn, 1) := dk_172 (dk_at dksX5_clearTolls_1 15 rfl rfl)
abbrev cX5_scaleTolls : ByteArray := prog_17_method_37_code
def yX5_scaleTolls : MethodName := ⟨RX5, "scaleTolls", "(I)I"⟩
def dkwX5_scaleTolls_2 : List UInt8 := [16, 100, 108, 182, 0, 200, 96, 61, 132, 3, 1, 167, 255, 224, 28, 172]
abbrev dktX5_scaleTolls_2 : List UInt8 := dkwX5_scaleTolls_2 ++ []
def dkwX5_scaleTolls_1 : List UInt8 := [3, 62, 29, 42, 180, 0, 11, 4, 46, 162, 0, 28, 28, 42, 29, 42, 29, 7, 182, 0, 180, 27, 104]
abbrev dktX5_scaleTolls_1 : List UInt8 := dkwX5_scaleTolls_1 ++ dktX5_scaleTolls_2
def dkwX5_scaleTolls_0 : List UInt8 := [42, 27, 3, 17, 3, 232, 184, 0, 81, 4, 182, 0, 176, 153, 0, 5, 3, 172, 42, 182, 0, 191, 3, 61]
abbrev dktX5_scaleTolls_0 : List UInt8 := dkwX5_scaleTolls_0 ++ dktX5_scaleTolls_1
theorem dksX5_scaleTolls_0 : cX5_scaleTolls.data.toList.drop 0 = dktX5_scaleTolls_0 := by decide +kernel
theorem dksX5_scaleTolls_1 : cX5_scaleTolls.data.toList.drop 24 = dktX5_scaleTolls_1 := dk_seg dksX5_scaleTolls_0 24 rfl rfl
theorem dksX5_scaleTolls_2 : cX5_scaleTolls.data.toList.drop 47 = dktX5_scaleTolls_2 := dk_seg dksX5_scaleTolls_1 23 rfl rfl
theorem dX5_scaleTolls_0 : decode cX5_scaleTolls 0 = .ok (.aload_n 0, 1) := dk_42 (dk_at dksX5_scaleTolls_0 0 rfl rfl)
theorem dX5_scaleTolls_1 : decode cX5_scaleTolls 1 = .ok (.iload_n 1, 1) := dk_27 (dk_at dksX5_scaleTolls_0 1 rfl rfl)
theorem dX5_scaleTolls_2 : decode cX5_scaleTolls 2 = .ok (.iconst 0, 1) := dk_3 (dk_at dksX5_scaleTolls_0 2 rfl rfl)
theorem dX5_scaleTolls_3 : decode cX5_scaleTolls 3 = .ok (.sipush 1000, 3) := dk_17 3 232 (dk_at dksX5_scaleTolls_0 3 rfl rfl)
theorem dX5_scaleTolls_6 : decode cX5_scaleTolls 6 = .ok (.invokestatic 81, 3) := dk_184 0 81 (dk_at dksX5_scaleTolls_0 6 rfl rfl)
theorem dX5_scaleTolls_9 : decode cX5_scaleTolls 9 = .ok (.iconst 1, 1) := dk_4 (dk_at dksX5_scaleTolls_0 9 rfl rfl)
theorem dX5_scaleTolls_10 : decode cX5_scaleTolls 10 = .ok (.invokevirtual 176, 3) := dk_182 0 176 (dk_at dksX5_scaleTolls_0 10 rfl rfl)
theorem dX5_scaleTolls_13 : decode cX5_scaleTolls 13 = .ok (.ifCond .eq 5, 3) := dk_153 0 5 (dk_at dksX5_scaleTolls_0 13 rfl rfl)
theorem dX5_scaleTolls_16 : decode cX5_scaleTolls 16 = .ok (.iconst 0, 1) := dk_3 (dk_at dksX5_scaleTolls_0 16 rfl rfl)
theorem dX5_scaleTolls_17 : decode cX5_scaleTolls 17 = .ok (.ireturn, 1) := dk_172 (dk_at dksX5_scaleTolls_0 17 rfl rfl)
theorem dX5_scaleTolls_18 : decode cX5_scaleTolls 18 = .ok (.aload_n 0, 1) := dk_42 (dk_at dksX5_scaleTolls_0 18 rfl rfl)
theorem dX5_scaleTolls_19 : decode cX5_scaleTolls 19 = .ok (.invokevirtual 191, 3) := dk_182 0 191 (dk_at dksX5_scaleTolls_0 19 rfl rfl)
theorem dX5_scaleTolls_22 : decode cX5_scaleTolls 22 = .ok (.iconst 0, 1) := dk_3 (dk_at dksX5_scaleTolls_0 22 rfl rfl)
theorem dX5_scaleTolls_23 : decode cX5_scaleTolls 23 = .ok (.istore_n 2, 1) := dk_61 (dk_at dksX5_scaleTolls_0 23 rfl rfl)
theorem dX5_scaleTolls_24 : decode cX5_scaleTolls 24 = .ok (.iconst 0, 1) := dk_3 (dk_at dksX5_scaleTolls_1 0 rfl rfl)
theorem dX5_scaleTolls_25 : decode cX5_scaleTolls 25 = .ok (.istore_n 3, 1) := dk_62 (dk_at dksX5_scaleTolls_1 1 rfl rfl)
theorem dX5_scaleTolls_26 : decode cX5_scaleTolls 26 = .ok (.iload_n 3, 1) := dk_29 (dk_at dksX5_scaleTolls_1 2 rfl rfl)
theorem dX5_scaleTolls_27 : decode cX5_scaleTolls 27 = .ok (.aload_n 0, 1) := dk_42 (dk_at dksX5_scaleTolls_1 3 rfl rfl)
theorem dX5_scaleTolls_28 : decode cX5_scaleTolls 28 = .ok (.getfield 11, 3) := dk_180 0 11 (dk_at dksX5_scaleTolls_1 4 rfl rfl)
theorem dX5_scaleTolls_31 : decode cX5_scaleTolls 31 = .ok (.iconst 1, 1) := dk_4 (dk_at dksX5_scaleTolls_1 7 rfl rfl)
theorem dX5_scaleTolls_32 : decode cX5_scaleTolls 32 = .ok (.iaload, 1) := dk_46 (dk_at dksX5_scaleTolls_1 8 rfl rfl)
theorem dX5_scaleTolls_33 : decode cX5_scaleTolls 33 = .ok (.if_icmp .ge 28, 3) := dk_162 0 28 (dk_at dksX5_scaleTolls_1 9 rfl rfl)
theorem dX5_scaleTolls_36 : decode cX5_scaleTolls 36 = .ok (.iload_n 2, 1) := dk_28 (dk_at dksX5_scaleTolls_1 12 rfl rfl)
theorem dX5_scaleTolls_37 : decode cX5_scaleTolls 37 = .ok (.aload_n 0, 1) := dk_42 (dk_at dksX5_scaleTolls_1 13 rfl rfl)
theorem dX5_scaleTolls_38 : decode cX5_scaleTolls 38 = .ok (.iload_n 3, 1) := dk_29 (dk_at dksX5_scaleTolls_1 14 rfl rfl)
theorem dX5_scaleTolls_39 : decode cX5_scaleTolls 39 = .ok (.aload_n 0, 1) := dk_42 (dk_at dksX5_scaleTolls_1 15 rfl rfl)
theorem dX5_scaleTolls_40 : decode cX5_scaleTolls 40 = .ok (.iload_n 3, 1) := dk_29 (dk_at dksX5_scaleTolls_1 16 rfl rfl)
theorem dX5_scaleTolls_41 : decode cX5_scaleTolls 41 = .ok (.iconst 4, 1) := dk_7 (dk_at dksX5_scaleTolls_1 17 rfl rfl)
theorem dX5_scaleTolls_42 : decode cX5_scaleTolls 42 = .ok (.invokevirtual 180, 3) := dk_182 0 180 (dk_at dksX5_scaleTolls_1 18 rfl rfl)
theorem dX5_scaleTolls_45 : decode cX5_scaleTolls 45 = .ok (.iload_n 1, 1) := dk_27 (dk_at dksX5_scaleTolls_1 21 rfl rfl)
theorem dX5_scaleTolls_46 : decode cX5_scaleTolls 46 = .ok (.imul, 1) := dk_104 (dk_at dksX5_scaleTolls_1 22 rfl rfl)
theorem dX5_scaleTolls_47 : decode cX5_scaleTolls 47 = .ok (.bipush 100, 2) := dk_16 100 (dk_at dksX5_scaleTolls_2 0 rfl rfl)
theorem dX5_scaleTolls_49 : decode cX5_scaleTolls 49 = .ok (.idiv, 1) := dk_108 (dk_at dksX5_scaleTolls_2 2 rfl rfl)
theorem dX5_scaleTolls_50 : decode cX5_scaleTolls 50 = .ok (.invokevirtual 200, 3) := dk_182 0 200 (dk_at dksX5_scaleTolls_2 3 rfl rfl)
theorem dX5_scaleTolls_53 : decode cX5_scaleTolls 53 = .ok (.iadd, 1) := dk_96 (dk_at dksX5_scaleTolls_2 6 rfl rfl)
theorem dX5_scaleTolls_54 : decode cX5_scaleTolls 54 = .ok (.istore_n 2, 1) := dk_61 (dk_at dksX5_scaleTolls_2 7 rfl rfl)
theorem dX5_scaleTolls_55 : decode cX5_scaleTolls 55 = .ok (.iinc 3 1, 3) := dk_132 3 1 (dk_at dksX5_scaleTolls_2 8 rfl rfl)
theorem dX5_scaleTolls_58 : decode cX5_scaleTolls 58 = .ok (.goto (-32), 3) := dk_167 255 224 (dk_at dksX5_scaleTolls_2 11 rfl rfl)
theorem dX5_scaleTolls_61 : decode cX5_scaleTolls 61 = .ok (.iload_n 2, 1) := dk_28 (dk_at dksX5_scaleTolls_2 14 rfl rfl)
theorem dX5_scaleTolls_62 : decode cX5_scaleTolls 62 = .ok (.ireturn, 1) := dk_172 (dk_at dksX5_scaleTolls_2 15 rfl rfl)
abbrev cX5_swapTolls : ByteArray := prog_17_method_38_code
def yX5_swapTolls : MethodName := ⟨RX5, "swapTolls", "(II)Z"⟩
def dkwX5_swapTolls_4 : List UInt8 := [29, 79, 4, 172]
abbrev dktX5_swapTolls_4 : List UInt8 := dkwX5_swapTolls_4 ++ []
def dkwX5_swapTolls_3 : List UInt8 := [182, 0, 191, 42, 180, 0, 11, 27, 7, 184, 0, 77, 21, 4, 79, 42, 180, 0, 11, 28, 7, 184, 0, 77]
abbrev dktX5_swapTolls_3 : List UInt8 := dkwX5_swapTolls_3 ++ dktX5_swapTolls_4
def dkwX5_swapTolls_2 : List UInt8 := [21, 4, 42, 27, 6, 182, 0, 180, 163, 0, 13, 29, 42, 28, 6, 182, 0, 180, 164, 0, 5, 3, 172, 42]
abbrev dktX5_swapTolls_2 : List UInt8 := dkwX5_swapTolls_2 ++ dktX5_swapTolls_3
def dkwX5_swapTolls_1 : List UInt8 := [182, 0, 176, 153, 0, 5, 3, 172, 42, 27, 7, 182, 0, 180, 62, 42, 28, 7, 182, 0, 180, 54, 4]
abbrev dktX5_swapTolls_1 : List UInt8 := dkwX5_swapTolls_1 ++ dktX5_swapTolls_2
def dkwX5_swapTolls_0 : List UInt8 := [42, 42, 27, 182, 0, 182, 153, 0, 15, 42, 28, 182, 0, 182, 153, 0, 7, 4, 167, 0, 4, 3, 4]
abbrev dktX5_swapTolls_0 : List UInt8 := dkwX5_swapTolls_0 ++ dktX5_swapTolls_1
theorem dksX5_swapTolls_0 : cX5_swapTolls.data.toList.drop 0 = dktX5_swapTolls_0 := by decide +kernel
theorem dksX5_swapTolls_1 : cX5_swapTolls.data.toList.drop 23 = dktX5_swapTolls_1 := dk_seg dksX5_swapTolls_0 23 rfl rfl
theorem dksX5_swapTolls_2 : cX5_swapTolls.data.toList.drop 46 = dktX5_swapTolls_2 := dk_seg dksX5_swapTolls_1 23 rfl rfl
theorem dksX5_swapTolls_3 : cX5_swapTolls.data.toList.drop 70 = dktX5_swapTolls_3 := dk_seg dksX5_swapTolls_2 24 rfl rfl
theorem dksX5_swapTolls_4 : cX5_swapTolls.data.toList.drop 94 = dktX5_swapTolls_4 := dk_seg dksX5_swapTolls_3 24 rfl rfl
theorem dX5_swapTolls_0 : decode cX5_swapTolls 0 = .ok (.aload_n 0, 1) := dk_42 (dk_at dksX5_swapTolls_0 0 rfl rfl)
theorem dX5_swapTolls_1 : decode cX5_swapTolls 1 = .ok (.aload_n 0, 1) := dk_42 (dk_at dksX5_swapTolls_0 1 rfl rfl)
theorem dX5_swapTolls_2 : decode cX5_swapTolls 2 = .ok (.iload_n 1, 1) := dk_27 (dk_at dksX5_swapTolls_0 2 rfl rfl)
theorem dX5_swapTolls_3 : decode cX5_swapTolls 3 = .ok (.invokevirtual 182, 3) := dk_182 0 182 (dk_at dksX5_swapTolls_0 3 rfl rfl)
theorem dX5_swapTolls_6 : decode cX5_swapTolls 6 = .ok (.ifCond .eq 15, 3) := dk_153 0 15 (dk_at dksX5_swapTolls_0 6 rfl rfl)
theorem dX5_swapTolls_9 : decode cX5_swapTolls 9 = .ok (.aload_n 0, 1) := dk_42 (dk_at dksX5_swapTolls_0 9 rfl rfl)
theorem dX5_swapTolls_10 : decode cX5_swapTolls 10 = .ok (.iload_n 2, 1) := dk_28 (dk_at dksX5_swapTolls_0 10 rfl rfl)
theorem dX5_swapTolls_11 : decode cX5_swapTolls 11 = .ok (.invokevirtual 182, 3) := dk_182 0 182 (dk_at dksX5_swapTolls_0 11 rfl rfl)
theorem dX5_swapTolls_14 : decode cX5_swapTolls 14 = .ok (.ifCond .eq 7, 3) := dk_153 0 7 (dk_at dksX5_swapTolls_0 14 rfl rfl)
theorem dX5_swapTolls_17 : decode cX5_swapTolls 17 = .ok (.iconst 1, 1) := dk_4 (dk_at dksX5_swapTolls_0 17 rfl rfl)
theorem dX5_swapTolls_18 : decode cX5_swapTolls 18 = .ok (.goto 4, 3) := dk_167 0 4 (dk_at dksX5_swapTolls_0 18 rfl rfl)
theorem dX5_swapTolls_21 : decode cX5_swapTolls 21 = .ok (.iconst 0, 1) := dk_3 (dk_at dksX5_swapTolls_0 21 rfl rfl)
theorem dX5_swapTolls_22 : decode cX5_swapTolls 22 = .ok (.iconst 1, 1) := dk_4 (dk_at dksX5_swapTolls_0 22 rfl rfl)
theorem dX5_swapTolls_23 : decode cX5_swapTolls 23 = .ok (.invokevirtual 176, 3) := dk_182 0 176 (dk_at dksX5_swapTolls_1 0 rfl rfl)
theorem dX5_swapTolls_26 : decode cX5_swapTolls 26 = .ok (.ifCond .eq 5, 3) := dk_153 0 5 (dk_at dksX5_swapTolls_1 3 rfl rfl)
theorem dX5_swapTolls_29 : decode cX5_swapTolls 29 = .ok (.iconst 0, 1) := dk_3 (dk_at dksX5_swapTolls_1 6 rfl rfl)
theorem dX5_swapTolls_30 : decode cX5_swapTolls 30 = .ok (.ireturn, 1) := dk_172 (dk_at dksX5_swapTolls_1 7 rfl rfl)
theorem dX5_swapTolls_31 : decode cX5_swapTolls 31 = .ok (.aload_n 0, 1) := dk_42 (dk_at dksX5_swapTolls_1 8 rfl rfl)
theorem dX5_swapTolls_32 : decode cX5_swapTolls 32 = .ok (.iload_n 1, 1) := dk_27 (dk_at dksX5_swapTolls_1 9 rfl rfl)
theorem dX5_swapTolls_33 : decode cX5_swapTolls 33 = .ok (.iconst 4, 1) := dk_7 (dk_at dksX5_swapTolls_1 10 rfl rfl)
theorem dX5_swapTolls_34 : decode cX5_swapTolls 34 = .ok (.invokevirtual 180, 3) := dk_182 0 180 (dk_at dksX5_swapTolls_1 11 rfl rfl)
theorem dX5_swapTolls_37 : decode cX5_swapTolls 37 = .ok (.istore_n 3, 1) := dk_62 (dk_at dksX5_swapTolls_1 14 rfl rfl)
theorem dX5_swapTolls_38 : decode cX5_swapTolls 38 = .ok (.aload_n 0, 1) := dk_42 (dk_at dksX5_swapTolls_1 15 rfl rfl)
theorem dX5_swapTolls_39 : decode cX5_swapTolls 39 = .ok (.iload_n 2, 1) := dk_28 (dk_at dksX5_swapTolls_1 16 rfl rfl)
theorem dX5_swapTolls_40 : decode cX5_swapTolls 40 = .ok (.iconst 4, 1) := dk_7 (dk_at dksX5_swapTolls_1 17 rfl rfl)
theorem dX5_swapTolls_41 : decode cX5_swapTolls 41 = .ok (.invokevirtual 180, 3) := dk_182 0 180 (dk_at dksX5_swapTolls_1 18 rfl rfl)
theorem dX5_swapTolls_44 : decode cX5_swapTolls 44 = .ok (.istore 4, 2) := dk_54 4 (dk_at dksX5_swapTolls_1 21 rfl rfl)
theorem dX5_swapTolls_46 : decode cX5_swapTolls 46 = .ok (.iload 4, 2) := dk_21 4 (dk_at dksX5_swapTolls_2 0 rfl rfl)
theorem dX5_swapTolls_48 : decode cX5_swapTolls 48 = .ok (.aload_n 0, 1) := dk_42 (dk_at dksX5_swapTolls_2 2 rfl rfl)
theorem dX5_swapTolls_49 : decode cX5_swapTolls 49 = .ok (.iload_n 1, 1) := dk_27 (dk_at dksX5_swapTolls_2 3 rfl rfl)
theorem dX5_swapTolls_50 : decode cX5_swapTolls 50 = .ok (.iconst 3, 1) := dk_6 (dk_at dksX5_swapTolls_2 4 rfl rfl)
theorem dX5_swapTolls_51 : decode cX5_swapTolls 51 = .ok (.invokevirtual 180, 3) := dk_182 0 180 (dk_at dksX5_swapTolls_2 5 rfl rfl)
theorem dX5_swapTolls_54 : decode cX5_swapTolls 54 = .ok (.if_icmp .gt 13, 3) := dk_163 0 13 (dk_at dksX5_swapTolls_2 8 rfl rfl)
theorem dX5_swapTolls_57 : decode cX5_swapTolls 57 = .ok (.iload_n 3, 1) := dk_29 (dk_at dksX5_swapTolls_2 11 rfl rfl)
theorem dX5_swapTolls_58 : decode cX5_swapTolls 58 = .ok (.aload_n 0, 1) := dk_42 (dk_at dksX5_swapTolls_2 12 rfl rfl)
theorem dX5_swapTolls_59 : decode cX5_swapTolls 59 = .ok (.iload_n 2, 1) := dk_28 (dk_at dksX5_swapTolls_2 13 rfl rfl)
theorem dX5_swapTolls_60 : decode cX5_swapTolls 60 = .ok (.iconst 3, 1) := dk_6 (dk_at dksX5_swapTolls_2 14 rfl rfl)
theorem dX5_swapTolls_61 : decode cX5_swapTolls 61 = .ok (.invokevirtual 180, 3) := dk_182 0 180 (dk_at dksX5_swapTolls_2 15 rfl rfl)
theorem dX5_swapTolls_64 : decode cX5_swapTolls 64 = .ok (.if_icmp .le 5, 3) := dk_164 0 5 (dk_at dksX5_swapTolls_2 18 rfl rfl)
theorem dX5_swapTolls_67 : decode cX5_swapTolls 67 = .ok (.iconst 0, 1) := dk_3 (dk_at dksX5_swapTolls_2 21 rfl rfl)
theorem dX5_swapTolls_68 : decode cX5_swapTolls 68 = .ok (.ireturn, 1) := dk_172 (dk_at dksX5_swapTolls_2 22 rfl rfl)
theorem dX5_swapTolls_69 : decode cX5_swapTolls 69 = .ok (.aload_n 0, 1) := dk_42 (dk_at dksX5_swapTolls_2 23 rfl rfl)
theorem dX5_swapTolls_70 : decode cX5_swapTolls 70 = .ok (.invokevirtual 191, 3) := dk_182 0 191 (dk_at dksX5_swapTolls_3 0 rfl rfl)
theorem dX5_swapTolls_73 : decode cX5_swapTolls 73 = .ok (.aload_n 0, 1) := dk_42 (dk_at dksX5_swapTolls_3 3 rfl rfl)
theorem dX5_swapTolls_74 : decode cX5_swapTolls 74 = .ok (.getfield 11, 3) := dk_180 0 11 (dk_at dksX5_swapTolls_3 4 rfl rfl)
theorem dX5_swapTolls_77 : decode cX5_swapTolls 77 = .ok (.iload_n 1, 1) := dk_27 (dk_at dksX5_swapTolls_3 7 rfl rfl)
theorem dX5_swapTolls_78 : decode cX5_swapTolls 78 = .ok (.iconst 4, 1) := dk_7 (dk_at dksX5_swapTolls_3 8 rfl rfl)
theorem dX5_swapTolls_79 : decode cX5_swapTolls 79 = .ok (.invokestatic 77, 3) := dk_184 0 77 (dk_at dksX5_swapTolls_3 9 rfl rfl)
theorem dX5_swapTolls_82 : decode cX5_swapTolls 82 = .ok (.iload 4, 2) := dk_21 4 (dk_at dksX5_swapTolls_3 12 rfl rfl)
theorem dX5_swapTolls_84 : decode cX5_swapTolls 84 = .ok (.iastore, 1) := dk_79 (dk_at dksX5_swapTolls_3 14 rfl rfl)
theorem dX5_swapTolls_85 : decode cX5_swapTolls 85 = .ok (.aload_n 0, 1) := dk_42 (dk_at dksX5_swapTolls_3 15 rfl rfl)
theorem dX5_swapTolls_86 : decode cX5_swapTolls 86 = .ok (.getfield 11, 3) := dk_180 0 11 (dk_at dksX5_swapTolls_3 16 rfl rfl)
theorem dX5_swapTolls_89 : decode cX5_swapTolls 89 = .ok (.iload_n 2, 1) := dk_28 (dk_at dksX5_swapTolls_3 19 rfl rfl)
theorem dX5_swapTolls_90 : decode cX5_swapTolls 90 = .ok (.iconst 4, 1) := dk_7 (dk_at dksX5_swapTolls_3 20 rfl rfl)
theorem dX5_swapTolls_91 : decode cX5_swapTolls 91 = .ok (.invokestatic 77, 3) := dk_184 0 77 (dk_at dksX5_swapTolls_3 21 rfl rfl)
theorem dX5_swapTolls_94 : decode cX5_swapTolls 94 = .ok (.iload_n 3, 1) := dk_29 (dk_at dksX5_swapTolls_4 0 rfl rfl)
theorem dX5_swapTolls_95 : decode cX5_swapTolls 95 = .ok (.iastore, 1) := dk_79 (dk_at dksX5_swapTolls_4 1 rfl rfl)
theorem dX5_swapTolls_96 : decode cX5_swapTolls 96 = .ok (.iconst 1, 1) := dk_4 (dk_at dksX5_swapTolls_4 2 rfl rfl)
theorem dX5_swapTolls_97 : decode cX5_swapTolls 97 = .ok (.ireturn, 1) := dk_172 (dk_at dksX5_swapTolls_4 3 rfl rfl)
abbrev cX5_setDemand : ByteArray := prog_17_method_39_code
def yX5_setDemand : MethodName := ⟨RX5, "setDemand", "(II)I"⟩
def dkwX5_setDemand_1 : List UInt8 := [182, 0, 176, 153, 0, 5, 3, 172, 42, 17, 0, 148, 7, 27, 104, 96, 5, 96, 28, 182, 0, 194, 172]
abbrev dktX5_setDemand_1 : List UInt8 := dkwX5_setDemand_1 ++ []
def dkwX5_setDemand_0 : List UInt8 := [42, 42, 27, 182, 0, 186, 4, 182, 0, 176, 154, 0, 19, 42, 28, 3, 17, 3, 231, 184, 0, 81, 5]
abbrev dktX5_setDemand_0 : List UInt8 := dkwX5_setDemand_0 ++ dktX5_setDemand_1
theorem dksX5_setDemand_0 : cX5_setDemand.data.toList.drop 0 = dktX5_setDemand_0 := by decide +kernel
theorem dksX5_setDemand_1 : cX5_setDemand.data.toList.drop 23 = dktX5_setDemand_1 := dk_seg dksX5_setDemand_0 23 rfl rfl
theorem dX5_setDemand_0 : decode cX5_setDemand 0 = .ok (.aload_n 0, 1) := dk_42 (dk_at dksX5_setDemand_0 0 rfl rfl)
theorem dX5_setDemand_1 : decode cX5_setDemand 1 = .ok (.aload_n 0, 1) := dk_42 (dk_at dksX5_setDemand_0 1 rfl rfl)
theorem dX5_setDemand_2 : decode cX5_setDemand 2 = .ok (.iload_n 1, 1) := dk_27 (dk_at dksX5_setDemand_0 2 rfl rfl)
theorem dX5_setDemand_3 : decode cX5_setDemand 3 = .ok (.invokevirtual 186, 3) := dk_182 0 186 (dk_at dksX5_setDemand_0 3 rfl rfl)
theorem dX5_setDemand_6 : decode cX5_setDemand 6 = .ok (.iconst 1, 1) := dk_4 (dk_at dksX5_setDemand_0 6 rfl rfl)
theorem dX5_setDemand_7 : decode cX5_setDemand 7 = .ok (.invokevirtual 176, 3) := dk_182 0 176 (dk_at dksX5_setDemand_0 7 rfl rfl)
theorem dX5_setDemand_10 : decode cX5_setDemand 10 = .ok (.ifCond .ne 19, 3) := dk_154 0 19 (dk_at dksX5_setDemand_0 10 rfl rfl)
theorem dX5_setDemand_13 : decode cX5_setDemand 13 = .ok (.aload_n 0, 1) := dk_42 (dk_at dksX5_setDemand_0 13 rfl rfl)
theorem dX5_setDemand_14 : decode cX5_setDemand 14 = .ok (.iload_n 2, 1) := dk_28 (dk_at dksX5_setDemand_0 14 rfl rfl)
theorem dX5_setDemand_15 : decode cX5_setDemand 15 = .ok (.iconst 0, 1) := dk_3 (dk_at dksX5_setDemand_0 15 rfl rfl)
theorem dX5_setDemand_16 : decode cX5_setDemand 16 = .ok (.sipush 999, 3) := dk_17 3 231 (dk_at dksX5_setDemand_0 16 rfl rfl)
theorem dX5_setDemand_19 : decode cX5_setDemand 19 = .ok (.invokestatic 81, 3) := dk_184 0 81 (dk_at dksX5_setDemand_0 19 rfl rfl)
theorem dX5_setDemand_22 : decode cX5_setDemand 22 = .ok (.iconst 2, 1) := dk_5 (dk_at dksX5_setDemand_0 22 rfl rfl)
theorem dX5_setDemand_23 : decode cX5_setDemand 23 = .ok (.invokevirtual 176, 3) := dk_182 0 176 (dk_at dksX5_setDemand_1 0 rfl rfl)
theorem dX5_setDemand_26 : decode cX5_setDemand 26 = .ok (.ifCond .eq 5, 3) := dk_153 0 5 (dk_at dksX5_setDemand_1 3 rfl rfl)
theorem dX5_setDemand_29 : decode cX5_setDemand 29 = .ok (.iconst 0, 1) := dk_3 (dk_at dksX5_setDemand_1 6 rfl rfl)
theorem dX5_setDemand_30 : decode cX5_setDemand 30 = .ok (.ireturn, 1) := dk_172 (dk_at dksX5_setDemand_1 7 rfl rfl)
theorem dX5_setDemand_31 : decode cX5_setDemand 31 = .ok (.aload_n 0, 1) := dk_42 (dk_at dksX5_setDemand_1 8 rfl rfl)
theorem dX5_setDemand_32 : decode cX5_setDemand 32 = .ok (.sipush 148, 3) := dk_17 0 148 (dk_at dksX5_setDemand_1 9 rfl rfl)
theorem dX5_setDemand_35 : decode cX5_setDemand 35 = .ok (.iconst 4, 1) := dk_7 (dk_at dksX5_setDemand_1 12 rfl rfl)
theorem dX5_setDemand_36 : decode cX5_setDemand 36 = .ok (.iload_n 1, 1) := dk_27 (dk_at dksX5_setDemand_1 13 rfl rfl)
theorem dX5_setDemand_37 : decode cX5_setDemand 37 = .ok (.imul, 1) := dk_104 (dk_at dksX5_setDemand_1 14 rfl rfl)
theorem dX5_setDemand_38 : decode cX5_setDemand 38 = .ok (.iadd, 1) := dk_96 (dk_at dksX5_setDemand_1 15 rfl rfl)
theorem dX5_setDemand_39 : decode cX5_setDemand 39 = .ok (.iconst 2, 1) := dk_5 (dk_at dksX5_setDemand_1 16 rfl rfl)
theorem dX5_setDemand_40 : decode cX5_setDemand 40 = .ok (.iadd, 1) := dk_96 (dk_at dksX5_setDemand_1 17 rfl rfl)
theorem dX5_setDemand_41 : decode cX5_setDemand 41 = .ok (.iload_n 2, 1) := dk_28 (dk_at dksX5_setDemand_1 18 rfl rfl)
theorem dX5_setDemand_42 : decode cX5_setDemand 42 = .ok (.invokevirtual 194, 3) := dk_182 0 194 (dk_at dksX5_setDemand_1 19 rfl rfl)
theorem dX5_setDemand_45 : decode cX5_setDemand 45 = .ok (.ireturn, 1) := dk_172 (dk_at dksX5_setDemand_1 22 rfl rfl)
abbrev cX5_close : ByteArray := prog_17_method_40_code
def yX5_close : MethodName := ⟨RX5, "close", "(IZ)Z"⟩
def dkwX5_close_1 : List UInt8 := [167, 0, 4, 3, 182, 0, 194, 4, 160, 0, 7, 4, 167, 0, 4, 3, 172]
abbrev dktX5_close_1 : List UInt8 := dkwX5_close_1 ++ []
def dkwX5_close_0 : List UInt8 := [42, 42, 27, 182, 0, 182, 4, 182, 0, 176, 154, 0, 29, 42, 27, 8, 184, 0, 77, 28, 153, 0, 7, 4]
abbrev dktX5_close_0 : List UInt8 := dkwX5_close_0 ++ dktX5_close_1
theorem dksX5_close_0 : cX5_close.data.toList.drop 0 = dktX5_close_0 := by decide +kernel
theorem dksX5_close_1 : cX5_close.data.toList.drop 24 = dktX5_close_1 := dk_seg dksX5_close_0 24 rfl rfl
theorem dX5_close_0 : decode cX5_close 0 = .ok (.aload_n 0, 1) := dk_42 (dk_at dksX5_close_0 0 rfl rfl)
theorem dX5_close_1 : decode cX5_close 1 = .ok (.aload_n 0, 1) := dk_42 (dk_at dksX5_close_0 1 rfl rfl)
theorem dX5_close_2 : decode cX5_close 2 = .ok (.iload_n 1, 1) := dk_27 (dk_at dksX5_close_0 2 rfl rfl)
theorem dX5_close_3 : decode cX5_close 3 = .ok (.invokevirtual 182, 3) := dk_182 0 182 (dk_at dksX5_close_0 3 rfl rfl)
theorem dX5_close_6 : decode cX5_close 6 = .ok (.iconst 1, 1) := dk_4 (dk_at dksX5_close_0 6 rfl rfl)
theorem dX5_close_7 : decode cX5_close 7 = .ok (.invokevirtual 176, 3) := dk_182 0 176 (dk_at dksX5_close_0 7 rfl rfl)
theorem dX5_close_10 : decode cX5_close 10 = .ok (.ifCond .ne 29, 3) := dk_154 0 29 (dk_at dksX5_close_0 10 rfl rfl)
theorem dX5_close_13 : decode cX5_close 13 = .ok (.aload_n 0, 1) := dk_42 (dk_at dksX5_close_0 13 rfl rfl)
theorem dX5_close_14 : decode cX5_close 14 = .ok (.iload_n 1, 1) := dk_27 (dk_at dksX5_close_0 14 rfl rfl)
theorem dX5_close_15 : decode cX5_close 15 = .ok (.iconst 5, 1) := dk_8 (dk_at dksX5_close_0 15 rfl rfl)
theorem dX5_close_16 : decode cX5_close 16 = .ok (.invokestatic 77, 3) := dk_184 0 77 (dk_at dksX5_close_0 16 rfl rfl)
theorem dX5_close_19 : decode cX5_close 19 = .ok (.iload_n 2, 1) := dk_28 (dk_at dksX5_close_0 19 rfl rfl)
theorem dX5_close_20 : decode cX5_close 20 = .ok (.ifCond .eq 7, 3) := dk_153 0 7 (dk_at dksX5_close_0 20 rfl rfl)
theorem dX5_close_23 : decode cX5_close 23 = .ok (.iconst 1, 1) := dk_4 (dk_at dksX5_close_0 23 rfl rfl)
theorem dX5_close_24 : decode cX5_close 24 = .ok (.goto 4, 3) := dk_167 0 4 (dk_at dksX5_close_1 0 rfl rfl)
theorem dX5_close_27 : decode cX5_close 27 = .ok (.iconst 0, 1) := dk_3 (dk_at dksX5_close_1 3 rfl rfl)
theorem dX5_close_28 : decode cX5_close 28 = .ok (.invokevirtual 194, 3) := dk_182 0 194 (dk_at dksX5_close_1 4 rfl rfl)
theorem dX5_close_31 : decode cX5_close 31 = .ok (.iconst 1, 1) := dk_4 (dk_at dksX5_close_1 7 rfl rfl)
theorem dX5_close_32 : decode cX5_close 32 = .ok (.if_icmp .ne 7, 3) := dk_160 0 7 (dk_at dksX5_close_1 8 rfl rfl)
theorem dX5_close_35 : decode cX5_close 35 = .ok (.iconst 1, 1) := dk_4 (dk_at dksX5_close_1 11 rfl rfl)
theorem dX5_close_36 : decode cX5_close 36 = .ok (.goto 4, 3) := dk_167 0 4 (dk_at dksX5_close_1 12 rfl rfl)
theorem dX5_close_39 : decode cX5_close 39 = .ok (.iconst 0, 1) := dk_3 (dk_at dksX5_close_1 15 rfl rfl)
theorem dX5_close_40 : decode cX5_close 40 = .ok (.ireturn, 1) := dk_172 (dk_at dksX5_close_1 16 rfl rfl)
abbrev cX5_setTies : ByteArray := prog_17_method_41_code
def yX5_setTies : MethodName := ⟨RX5, "setTies", "(Z)Z"⟩
def dkwX5_setTies_1 : List UInt8 := [167, 0, 4, 3, 172]
abbrev dktX5_setTies_1 : List UInt8 := dkwX5_setTies_1 ++ []
def dkwX5_setTies_0 : List UInt8 := [42, 3, 181, 0, 74, 42, 6, 27, 153, 0, 7, 4, 167, 0, 4, 3, 182, 0, 194, 4, 160, 0, 7, 4]
abbrev dktX5_setTies_0 : List UInt8 := dkwX5_setTies_0 ++ dktX5_setTies_1
theorem dksX5_setTies_0 : cX5_setTies.data.toList.drop 0 = dktX5_setTies_0 := by decide +kernel
theorem dksX5_setTies_1 : cX5_setTies.data.toList.drop 24 = dktX5_setTies_1 := dk_seg dksX5_setTies_0 24 rfl rfl
theorem dX5_setTies_0 : decode cX5_setTies 0 = .ok (.aload_n 0, 1) := dk_42 (dk_at dksX5_setTies_0 0 rfl rfl)
theorem dX5_setTies_1 : decode cX5_setTies 1 = .ok (.iconst 0, 1) := dk_3 (dk_at dksX5_setTies_0 1 rfl rfl)
theorem dX5_setTies_2 : decode cX5_setTies 2 = .ok (.putfield 74, 3) := dk_181 0 74 (dk_at dksX5_setTies_0 2 rfl rfl)
theorem dX5_setTies_5 : decode cX5_setTies 5 = .ok (.aload_n 0, 1) := dk_42 (dk_at dksX5_setTies_0 5 rfl rfl)
theorem dX5_setTies_6 : decode cX5_setTies 6 = .ok (.iconst 3, 1) := dk_6 (dk_at dksX5_setTies_0 6 rfl rfl)
theorem dX5_setTies_7 : decode cX5_setTies 7 = .ok (.iload_n 1, 1) := dk_27 (dk_at dksX5_setTies_0 7 rfl rfl)
theorem dX5_setTies_8 : decode cX5_setTies 8 = .ok (.ifCond .eq 7, 3) := dk_153 0 7 (dk_at dksX5_setTies_0 8 rfl rfl)
theorem dX5_setTies_11 : decode cX5_setTies 11 = .ok (.iconst 1, 1) := dk_4 (dk_at dksX5_setTies_0 11 rfl rfl)
theorem dX5_setTies_12 : decode cX5_setTies 12 = .ok (.goto 4, 3) := dk_167 0 4 (dk_at dksX5_setTies_0 12 rfl rfl)
theorem dX5_setTies_15 : decode cX5_setTies 15 = .ok (.iconst 0, 1) := dk_3 (dk_at dksX5_setTies_0 15 rfl rfl)
theorem dX5_setTies_16 : decode cX5_setTies 16 = .ok (.invokevirtual 194, 3) := dk_182 0 194 (dk_at dksX5_setTies_0 16 rfl rfl)
theorem dX5_setTies_19 : decode cX5_setTies 19 = .ok (.iconst 1, 1) := dk_4 (dk_at dksX5_setTies_0 19 rfl rfl)
theorem dX5_setTies_20 : decode cX5_setTies 20 = .ok (.if_icmp .ne 7, 3) := dk_160 0 7 (dk_at dksX5_setTies_0 20 rfl rfl)
theorem dX5_setTies_23 : decode cX5_setTies 23 = .ok (.iconst 1, 1) := dk_4 (dk_at dksX5_setTies_0 23 rfl rfl)
theorem dX5_setTies_24 : decode cX5_setTies 24 = .ok (.goto 4, 3) := dk_167 0 4 (dk_at dksX5_setTies_1 0 rfl rfl)
theorem dX5_setTies_27 : decode cX5_setTies 27 = .ok (.iconst 0, 1) := dk_3 (dk_at dksX5_setTies_1 3 rfl rfl)
theorem dX5_setTies_28 : decode cX5_setTies 28 = .ok (.ireturn, 1) := dk_172 (dk_at dksX5_setTies_1 4 rfl rfl)
abbrev cX5_tiesForLeader : ByteArray := prog_17_method_42_code
def yX5_tiesForLeader : MethodName := ⟨RX5, "tiesForLeader", "()Z"⟩
def dkwX5_tiesForLeader_0 : List UInt8 := [42, 3, 181, 0, 74, 42, 180, 0, 11, 6, 46, 4, 160, 0, 7, 4, 167, 0, 4, 3, 172]
abbrev dktX5_tiesForLeader_0 : List UInt8 := dkwX5_tiesForLeader_0 ++ []
theorem dksX5_tiesForLeader_0 : cX5_tiesForLeader.data.toList.drop 0 = dktX5_tiesForLeader_0 := by decide +kernel
theorem dX5_tiesForLeader_0 : decode cX5_tiesForLeader 0 = .ok (.aload_n 0, 1) := dk_42 (dk_at dksX5_tiesForLeader_0 0 rfl rfl)
theorem dX5_tiesForLeader_1 : decode cX5_tiesForLeader 1 = .ok (.iconst 0, 1) := dk_3 (dk_at dksX5_tiesForLeader_0 1 rfl rfl)
theorem dX5_tiesForLeader_2 : decode cX5_tiesForLeader 2 = .ok (.putfield 74, 3) := dk_181 0 74 (dk_at dksX5_tiesForLeader_0 2 rfl rfl)
theorem dX5_tiesForLeader_5 : decode cX5_tiesForLeader 5 = .ok (.aload_n 0, 1) := dk_42 (dk_at dksX5_tiesForLeader_0 5 rfl rfl)
theorem dX5_tiesForLeader_6 : decode cX5_tiesForLeader 6 = .ok (.getfield 11, 3) := dk_180 0 11 (dk_at dksX5_tiesForLeader_0 6 rfl rfl)
theorem dX5_tiesForLeader_9 : decode cX5_tiesForLeader 9 = .ok (.iconst 3, 1) := dk_6 (dk_at dksX5_tiesForLeader_0 9 rfl rfl)
theorem dX5_tiesForLeader_10 : decode cX5_tiesForLeader 10 = .ok (.iaload, 1) := dk_46 (dk_at dksX5_tiesForLeader_0 10 rfl rfl)
theorem dX5_tiesForLeader_11 : decode cX5_tiesForLeader 11 = .ok (.iconst 1, 1) := dk_4 (dk_at dksX5_tiesForLeader_0 11 rfl rfl)
theorem dX5_tiesForLeader_12 : decode cX5_tiesForLeader 12 = .ok (.if_icmp .ne 7, 3) := dk_160 0 7 (dk_at dksX5_tiesForLeader_0 12 rfl rfl)
theorem dX5_tiesForLeader_15 : decode cX5_tiesForLeader 15 = .ok (.iconst 1, 1) := dk_4 (dk_at dksX5_tiesForLeader_0 15 rfl rfl)
theorem dX5_tiesForLeader_16 : decode cX5_tiesForLeader 16 = .ok (.goto 4, 3) := dk_167 0 4 (dk_at dksX5_tiesForLeader_0 16 rfl rfl)
theorem dX5_tiesForLeader_19 : decode cX5_tiesForLeader 19 = .ok (.iconst 0, 1) := dk_3 (dk_at dksX5_tiesForLeader_0 19 rfl rfl)
theorem dX5_tiesForLeader_20 : decode cX5_tiesForLeader 20 = .ok (.ireturn, 1) := dk_172 (dk_at dksX5_tiesForLeader_0 20 rfl rfl)
abbrev cX5_undo : ByteArray := prog_17_method_43_code
def yX5_undo : MethodName := ⟨RX5, "undo", "()I"⟩
def dkwX5_undo_1 : List UInt8 := [42, 180, 0, 21, 42, 180, 0, 173, 42, 180, 0, 11, 3, 184, 0, 170, 42, 180, 0, 173, 172]
abbrev dktX5_undo_1 : List UInt8 := dkwX5_undo_1 ++ []
def dkwX5_undo_0 : List UInt8 := [42, 3, 181, 0, 74, 42, 180, 0, 173, 154, 0, 5, 2, 172, 42, 89, 180, 0, 173, 4, 100, 181, 0, 173]
abbrev dktX5_undo_0 : List UInt8 := dkwX5_undo_0 ++ dktX5_undo_1
theorem dksX5_undo_0 : cX5_undo.data.toList.drop 0 = dktX5_undo_0 := by decide +kernel
theorem dksX5_undo_1 : cX5_undo.data.toList.drop 24 = dktX5_undo_1 := dk_seg dksX5_undo_0 24 rfl rfl
theorem dX5_undo_0 : decode cX5_undo 0 = .ok (.aload_n 0, 1) := dk_42 (dk_at dksX5_undo_0 0 rfl rfl)
theorem dX5_undo_1 : decode cX5_undo 1 = .ok (.iconst 0, 1) := dk_3 (dk_at dksX5_undo_0 1 rfl rfl)
theorem dX5_undo_2 : decode cX5_undo 2 = .ok (.putfield 74, 3) := dk_181 0 74 (dk_at dksX5_undo_0 2 rfl rfl)
theorem dX5_undo_5 : decode cX5_undo 5 = .ok (.aload_n 0, 1) := dk_42 (dk_at dksX5_undo_0 5 rfl rfl)
theorem dX5_undo_6 : decode cX5_undo 6 = .ok (.getfield 173, 3) := dk_180 0 173 (dk_at dksX5_undo_0 6 rfl rfl)
theorem dX5_undo_9 : decode cX5_undo 9 = .ok (.ifCond .ne 5, 3) := dk_154 0 5 (dk_at dksX5_undo_0 9 rfl rfl)
theorem dX5_undo_12 : decode cX5_undo 12 = .ok (.iconst (-1), 1) := dk_2 (dk_at dksX5_undo_0 12 rfl rfl)
theorem dX5_undo_13 : decode cX5_undo 13 = .ok (.ireturn, 1) := dk_172 (dk_at dksX5_undo_0 13 rfl rfl)
theorem dX5_undo_14 : decode cX5_undo 14 = .ok (.aload_n 0, 1) := dk_42 (dk_at dksX5_undo_0 14 rfl rfl)
theorem dX5_undo_15 : decode cX5_undo 15 = .ok (.dup, 1) := dk_89 (dk_at dksX5_undo_0 15 rfl rfl)
theorem dX5_undo_16 : decode cX5_undo 16 = .ok (.getfield 173, 3) := dk_180 0 173 (dk_at dksX5_undo_0 16 rfl rfl)
theorem dX5_undo_19 : decode cX5_undo 19 = .ok (.iconst 1, 1) := dk_4 (dk_at dksX5_undo_0 19 rfl rfl)
theorem dX5_undo_20 : decode cX5_undo 20 = .ok (.isub, 1) := dk_100 (dk_at dksX5_undo_0 20 rfl rfl)
theorem dX5_undo_21 : decode cX5_undo 21 = .ok (.putfield 173, 3) := dk_181 0 173 (dk_at dksX5_undo_0 21 rfl rfl)
theorem dX5_undo_24 : decode cX5_undo 24 = .ok (.aload_n 0, 1) := dk_42 (dk_at dksX5_undo_1 0 rfl rfl)
theorem dX5_undo_25 : decode cX5_undo 25 = .ok (.getfield 21, 3) := dk_180 0 21 (dk_at dksX5_undo_1 1 rfl rfl)
theorem dX5_undo_28 : decode cX5_undo 28 = .ok (.aload_n 0, 1) := dk_42 (dk_at dksX5_undo_1 4 rfl rfl)
theorem dX5_undo_29 : decode cX5_undo 29 = .ok (.getfield 173, 3) := dk_180 0 173 (dk_at dksX5_undo_1 5 rfl rfl)
theorem dX5_undo_32 : decode cX5_undo 32 = .ok (.aload_n 0, 1) := dk_42 (dk_at dksX5_undo_1 8 rfl rfl)
theorem dX5_undo_33 : decode cX5_undo 33 = .ok (.getfield 11, 3) := dk_180 0 11 (dk_at dksX5_undo_1 9 rfl rfl)
theorem dX5_undo_36 : decode cX5_undo 36 = .ok (.iconst 0, 1) := dk_3 (dk_at dksX5_undo_1 12 rfl rfl)
theorem dX5_undo_37 : decode cX5_undo 37 = .ok (.invokestatic 170, 3) := dk_184 0 170 (dk_at dksX5_undo_1 13 rfl rfl)
theorem dX5_undo_40 : decode cX5_undo 40 = .ok (.aload_n 0, 1) := dk_42 (dk_at dksX5_undo_1 16 rfl rfl)
theorem dX5_undo_41 : decode cX5_undo 41 = .ok (.getfield 173, 3) := dk_180 0 173 (dk_at dksX5_undo_1 17 rfl rfl)
theorem dX5_undo_44 : decode cX5_undo 44 = .ok (.ireturn, 1) := dk_172 (dk_at dksX5_undo_1 20 rfl rfl)
abbrev cX5_undoCount : ByteArray := prog_17_method_44_code
def yX5_undoCount : MethodName := ⟨RX5, "undoCount", "()I"⟩
def dkwX5_undoCount_0 : List UInt8 := [42, 3, 181, 0, 74, 42, 180, 0, 173, 172]
abbrev dktX5_undoCount_0 : List UInt8 := dkwX5_undoCount_0 ++ []
theorem dksX5_undoCount_0 : cX5_undoCount.data.toList.drop 0 = dktX5_undoCount_0 := by decide +kernel
theorem dX5_undoCount_0 : decode cX5_undoCount 0 = .ok (.aload_n 0, 1) := dk_42 (dk_at dksX5_undoCount_0 0 rfl rfl)
theorem dX5_undoCount_1 : decode cX5_undoCount 1 = .ok (.iconst 0, 1) := dk_3 (dk_at dksX5_undoCount_0 1 rfl rfl)
theorem dX5_undoCount_2 : decode cX5_undoCount 2 = .ok (.putfield 74, 3) := dk_181 0 74 (dk_at dksX5_undoCount_0 2 rfl rfl)
theorem dX5_undoCount_5 : decode cX5_undoCount 5 = .ok (.aload_n 0, 1) := dk_42 (dk_at dksX5_undoCount_0 5 rfl rfl)
theorem dX5_undoCount_6 : decode cX5_undoCount 6 = .ok (.getfield 173, 3) := dk_180 0 173 (dk_at dksX5_undoCount_0 6 rfl rfl)
theorem dX5_undoCount_9 : decode cX5_undoCount 9 = .ok (.ireturn, 1) := dk_172 (dk_at dksX5_undoCount_0 9 rfl rfl)
abbrev cX5_hasPath : ByteArray := prog_17_method_57_code
def yX5_hasPath : MethodName := ⟨RX5, "hasPath", "(I)Z"⟩
def dkwX5_hasPath_1 : List UInt8 := [167, 0, 4, 3, 172]
abbrev dktX5_hasPath_1 : List UInt8 := dkwX5_hasPath_1 ++ []
def dkwX5_hasPath_0 : List UInt8 := [42, 42, 27, 182, 0, 186, 4, 182, 0, 176, 154, 0, 15, 42, 27, 182, 0, 249, 153, 0, 7, 4]
abbrev dktX5_hasPath_0 : List UInt8 := dkwX5_hasPath_0 ++ dktX5_hasPath_1
theorem dksX5_hasPath_0 : cX5_hasPath.data.toList.drop 0 = dktX5_hasPath_0 := by decide +kernel
theorem dksX5_hasPath_1 : cX5_hasPath.data.toList.drop 22 = dktX5_hasPath_1 := dk_seg dksX5_hasPath_0 22 rfl rfl
theorem dX5_hasPath_0 : decode cX5_hasPath 0 = .ok (.aload_n 0, 1) := dk_42 (dk_at dksX5_hasPath_0 0 rfl rfl)
theorem dX5_hasPath_1 : decode cX5_hasPath 1 = .ok (.aload_n 0, 1) := dk_42 (dk_at dksX5_hasPath_0 1 rfl rfl)
theorem dX5_hasPath_2 : decode cX5_hasPath 2 = .ok (.iload_n 1, 1) := dk_27 (dk_at dksX5_hasPath_0 2 rfl rfl)
theorem dX5_hasPath_3 : decode cX5_hasPath 3 = .ok (.invokevirtual 186, 3) := dk_182 0 186 (dk_at dksX5_hasPath_0 3 rfl rfl)
theorem dX5_hasPath_6 : decode cX5_hasPath 6 = .ok (.iconst 1, 1) := dk_4 (dk_at dksX5_hasPath_0 6 rfl rfl)
theorem dX5_hasPath_7 : decode cX5_hasPath 7 = .ok (.invokevirtual 176, 3) := dk_182 0 176 (dk_at dksX5_hasPath_0 7 rfl rfl)
theorem dX5_hasPath_10 : decode cX5_hasPath 10 = .ok (.ifCond .ne 15, 3) := dk_154 0 15 (dk_at dksX5_hasPath_0 10 rfl rfl)
theorem dX5_hasPath_13 : decode cX5_hasPath 13 = .ok (.aload_n 0, 1) := dk_42 (dk_at dksX5_hasPath_0 13 rfl rfl)
theorem dX5_hasPath_14 : decode cX5_hasPath 14 = .ok (.iload_n 1, 1) := dk_27 (dk_at dksX5_hasPath_0 14 rfl rfl)
theorem dX5_hasPath_15 : decode cX5_hasPath 15 = .ok (.invokevirtual 249, 3) := dk_182 0 249 (dk_at dksX5_hasPath_0 15 rfl rfl)
theorem dX5_hasPath_18 : decode cX5_hasPath 18 = .ok (.ifCond .eq 7, 3) := dk_153 0 7 (dk_at dksX5_hasPath_0 18 rfl rfl)
theorem dX5_hasPath_21 : decode cX5_hasPath 21 = .ok (.iconst 1, 1) := dk_4 (dk_at dksX5_hasPath_0 21 rfl rfl)
theorem dX5_hasPath_22 : decode cX5_hasPath 22 = .ok (.goto 4, 3) := dk_167 0 4 (dk_at dksX5_hasPath_1 0 rfl rfl)
theorem dX5_hasPath_25 : decode cX5_hasPath 25 = .ok (.iconst 0, 1) := dk_3 (dk_at dksX5_hasPath_1 3 rfl rfl)
theorem dX5_hasPath_26 : decode cX5_hasPath 26 = .ok (.ireturn, 1) := dk_172 (dk_at dksX5_hasPath_1 4 rfl rfl)
abbrev cX5_laysPath : ByteArray := prog_17_method_51_code
def yX5_laysPath : MethodName := ⟨RX5, "laysPath", "(I)Z"⟩
def dkwX5_laysPath_3 : List UInt8 := [4, 96, 181, 0, 235, 42, 29, 4, 182, 0, 180, 61, 167, 255, 201, 4, 172]
abbrev dktX5_laysPath_3 : List UInt8 := dkwX5_laysPath_3 ++ []
def dkwX5_laysPath_2 : List UInt8 := [154, 0, 9, 132, 3, 1, 167, 255, 243, 42, 180, 0, 43, 42, 180, 0, 235, 29, 79, 42, 89, 180, 0, 235]
abbrev dktX5_laysPath_2 : List UInt8 := dkwX5_laysPath_2 ++ dktX5_laysPath_3
def dkwX5_laysPath_1 : List UInt8 := [182, 0, 189, 61, 28, 42, 27, 4, 182, 0, 189, 159, 0, 51, 3, 62, 42, 27, 29, 28, 182, 0, 242]
abbrev dktX5_laysPath_1 : List UInt8 := dkwX5_laysPath_1 ++ dktX5_laysPath_2
def dkwX5_laysPath_0 : List UInt8 := [42, 3, 181, 0, 235, 42, 27, 182, 0, 238, 20, 0, 223, 148, 155, 0, 5, 3, 172, 42, 27, 3]
abbrev dktX5_laysPath_0 : List UInt8 := dkwX5_laysPath_0 ++ dktX5_laysPath_1
theorem dksX5_laysPath_0 : cX5_laysPath.data.toList.drop 0 = dktX5_laysPath_0 := by decide +kernel
theorem dksX5_laysPath_1 : cX5_laysPath.data.toList.drop 22 = dktX5_laysPath_1 := dk_seg dksX5_laysPath_0 22 rfl rfl
theorem dksX5_laysPath_2 : cX5_laysPath.data.toList.drop 45 = dktX5_laysPath_2 := dk_seg dksX5_laysPath_1 23 rfl rfl
theorem dksX5_laysPath_3 : cX5_laysPath.data.toList.drop 69 = dktX5_laysPath_3 := dk_seg dksX5_laysPath_2 24 rfl rfl
theorem dX5_laysPath_0 : decode cX5_laysPath 0 = .ok (.aload_n 0, 1) := dk_42 (dk_at dksX5_laysPath_0 0 rfl rfl)
theorem dX5_laysPath_1 : decode cX5_laysPath 1 = .ok (.iconst 0, 1) := dk_3 (dk_at dksX5_laysPath_0 1 rfl rfl)
theorem dX5_laysPath_2 : decode cX5_laysPath 2 = .ok (.putfield 235, 3) := dk_181 0 235 (dk_at dksX5_laysPath_0 2 rfl rfl)
theorem dX5_laysPath_5 : decode cX5_laysPath 5 = .ok (.aload_n 0, 1) := dk_42 (dk_at dksX5_laysPath_0 5 rfl rfl)
theorem dX5_laysPath_6 : decode cX5_laysPath 6 = .ok (.iload_n 1, 1) := dk_27 (dk_at dksX5_laysPath_0 6 rfl rfl)
theorem dX5_laysPath_7 : decode cX5_laysPath 7 = .ok (.invokevirtual 238, 3) := dk_182 0 238 (dk_at dksX5_laysPath_0 7 rfl rfl)
theorem dX5_laysPath_10 : decode cX5_laysPath 10 = .ok (.ldc2_w 223, 3) := dk_20 0 223 (dk_at dksX5_laysPath_0 10 rfl rfl)
theorem dX5_laysPath_13 : decode cX5_laysPath 13 = .ok (.lcmp, 1) := dk_148 (dk_at dksX5_laysPath_0 13 rfl rfl)
theorem dX5_laysPath_14 : decode cX5_laysPath 14 = .ok (.ifCond .lt 5, 3) := dk_155 0 5 (dk_at dksX5_laysPath_0 14 rfl rfl)
theorem dX5_laysPath_17 : decode cX5_laysPath 17 = .ok (.iconst 0, 1) := dk_3 (dk_at dksX5_laysPath_0 17 rfl rfl)
theorem dX5_laysPath_18 : decode cX5_laysPath 18 = .ok (.ireturn, 1) := dk_172 (dk_at dksX5_laysPath_0 18 rfl rfl)
theorem dX5_laysPath_19 : decode cX5_laysPath 19 = .ok (.aload_n 0, 1) := dk_42 (dk_at dksX5_laysPath_0 19 rfl rfl)
theorem dX5_laysPath_20 : decode cX5_laysPath 20 = .ok (.iload_n 1, 1) := dk_27 (dk_at dksX5_laysPath_0 20 rfl rfl)
theorem dX5_laysPath_21 : decode cX5_laysPath 21 = .ok (.iconst 0, 1) := dk_3 (dk_at dksX5_laysPath_0 21 rfl rfl)
theorem dX5_laysPath_22 : decode cX5_laysPath 22 = .ok (.invokevirtual 189, 3) := dk_182 0 189 (dk_at dksX5_laysPath_1 0 rfl rfl)
theorem dX5_laysPath_25 : decode cX5_laysPath 25 = .ok (.istore_n 2, 1) := dk_61 (dk_at dksX5_laysPath_1 3 rfl rfl)
theorem dX5_laysPath_26 : decode cX5_laysPath 26 = .ok (.iload_n 2, 1) := dk_28 (dk_at dksX5_laysPath_1 4 rfl rfl)
theorem dX5_laysPath_27 : decode cX5_laysPath 27 = .ok (.aload_n 0, 1) := dk_42 (dk_at dksX5_laysPath_1 5 rfl rfl)
theorem dX5_laysPath_28 : decode cX5_laysPath 28 = .ok (.iload_n 1, 1) := dk_27 (dk_at dksX5_laysPath_1 6 rfl rfl)
theorem dX5_laysPath_29 : decode cX5_laysPath 29 = .ok (.iconst 1, 1) := dk_4 (dk_at dksX5_laysPath_1 7 rfl rfl)
theorem dX5_laysPath_30 : decode cX5_laysPath 30 = .ok (.invokevirtual 189, 3) := dk_182 0 189 (dk_at dksX5_laysPath_1 8 rfl rfl)
theorem dX5_laysPath_33 : decode cX5_laysPath 33 = .ok (.if_icmp .eq 51, 3) := dk_159 0 51 (dk_at dksX5_laysPath_1 11 rfl rfl)
theorem dX5_laysPath_36 : decode cX5_laysPath 36 = .ok (.iconst 0, 1) := dk_3 (dk_at dksX5_laysPath_1 14 rfl rfl)
theorem dX5_laysPath_37 : decode cX5_laysPath 37 = .ok (.istore_n 3, 1) := dk_62 (dk_at dksX5_laysPath_1 15 rfl rfl)
theorem dX5_laysPath_38 : decode cX5_laysPath 38 = .ok (.aload_n 0, 1) := dk_42 (dk_at dksX5_laysPath_1 16 rfl rfl)
theorem dX5_laysPath_39 : decode cX5_laysPath 39 = .ok (.iload_n 1, 1) := dk_27 (dk_at dksX5_laysPath_1 17 rfl rfl)
theorem dX5_laysPath_40 : decode cX5_laysPath 40 = .ok (.iload_n 3, 1) := dk_29 (dk_at dksX5_laysPath_1 18 rfl rfl)
theorem dX5_laysPath_41 : decode cX5_laysPath 41 = .ok (.iload_n 2, 1) := dk_28 (dk_at dksX5_laysPath_1 19 rfl rfl)
theorem dX5_laysPath_42 : decode cX5_laysPath 42 = .ok (.invokevirtual 242, 3) := dk_182 0 242 (dk_at dksX5_laysPath_1 20 rfl rfl)
theorem dX5_laysPath_45 : decode cX5_laysPath 45 = .ok (.ifCond .ne 9, 3) := dk_154 0 9 (dk_at dksX5_laysPath_2 0 rfl rfl)
theorem dX5_laysPath_48 : decode cX5_laysPath 48 = .ok (.iinc 3 1, 3) := dk_132 3 1 (dk_at dksX5_laysPath_2 3 rfl rfl)
theorem dX5_laysPath_51 : decode cX5_laysPath 51 = .ok (.goto (-13), 3) := dk_167 255 243 (dk_at dksX5_laysPath_2 6 rfl rfl)
theorem dX5_laysPath_54 : decode cX5_laysPath 54 = .ok (.aload_n 0, 1) := dk_42 (dk_at dksX5_laysPath_2 9 rfl rfl)
theorem dX5_laysPath_55 : decode cX5_laysPath 55 = .ok (.getfield 43, 3) := dk_180 0 43 (dk_at dksX5_laysPath_2 10 rfl rfl)
theorem dX5_laysPath_58 : decode cX5_laysPath 58 = .ok (.aload_n 0, 1) := dk_42 (dk_at dksX5_laysPath_2 13 rfl rfl)
theorem dX5_laysPath_59 : decode cX5_laysPath 59 = .ok (.getfield 235, 3) := dk_180 0 235 (dk_at dksX5_laysPath_2 14 rfl rfl)
theorem dX5_laysPath_62 : decode cX5_laysPath 62 = .ok (.iload_n 3, 1) := dk_29 (dk_at dksX5_laysPath_2 17 rfl rfl)
theorem dX5_laysPath_63 : decode cX5_laysPath 63 = .ok (.iastore, 1) := dk_79 (dk_at dksX5_laysPath_2 18 rfl rfl)
theorem dX5_laysPath_64 : decode cX5_laysPath 64 = .ok (.aload_n 0, 1) := dk_42 (dk_at dksX5_laysPath_2 19 rfl rfl)
theorem dX5_laysPath_65 : decode cX5_laysPath 65 = .ok (.dup, 1) := dk_89 (dk_at dksX5_laysPath_2 20 rfl rfl)
theorem dX5_laysPath_66 : decode cX5_laysPath 66 = .ok (.getfield 235, 3) := dk_180 0 235 (dk_at dksX5_laysPath_2 21 rfl rfl)
theorem dX5_laysPath_69 : decode cX5_laysPath 69 = .ok (.iconst 1, 1) := dk_4 (dk_at dksX5_laysPath_3 0 rfl rfl)
theorem dX5_laysPath_70 : decode cX5_laysPath 70 = .ok (.iadd, 1) := dk_96 (dk_at dksX5_laysPath_3 1 rfl rfl)
theorem dX5_laysPath_71 : decode cX5_laysPath 71 = .ok (.putfield 235, 3) := dk_181 0 235 (dk_at dksX5_laysPath_3 2 rfl rfl)
theorem dX5_laysPath_74 : decode cX5_laysPath 74 = .ok (.aload_n 0, 1) := dk_42 (dk_at dksX5_laysPath_3 5 rfl rfl)
theorem dX5_laysPath_75 : decode cX5_laysPath 75 = .ok (.iload_n 3, 1) := dk_29 (dk_at dksX5_laysPath_3 6 rfl rfl)
theorem dX5_laysPath_76 : decode cX5_laysPath 76 = .ok (.iconst 1, 1) := dk_4 (dk_at dksX5_laysPath_3 7 rfl rfl)
theorem dX5_laysPath_77 : decode cX5_laysPath 77 = .ok (.invokevirtual 180, 3) := dk_182 0 180 (dk_at dksX5_laysPath_3 8 rfl rfl)
theorem dX5_laysPath_80 : decode cX5_laysPath 80 = .ok (.istore_n 2, 1) := dk_61 (dk_at dksX5_laysPath_3 11 rfl rfl)
theorem dX5_laysPath_81 : decode cX5_laysPath 81 = .ok (.goto (-55), 3) := dk_167 255 201 (dk_at dksX5_laysPath_3 12 rfl rfl)
theorem dX5_laysPath_84 : decode cX5_laysPath 84 = .ok (.iconst 1, 1) := dk_4 (dk_at dksX5_laysPath_3 15 rfl rfl)
theorem dX5_laysPath_85 : decode cX5_laysPath 85 = .ok (.ireturn, 1) := dk_172 (dk_at dksX5_laysPath_3 16 rfl rfl)
abbrev cX5_best : ByteArray := prog_17_method_50_code
def yX5_best : MethodName := ⟨RX5, "best", "(I)J"⟩
def dkwX5_best_0 : List UInt8 := [42, 27, 182, 0, 232, 42, 180, 0, 36, 42, 27, 3, 182, 0, 189, 47, 173]
abbrev dktX5_best_0 : List UInt8 := dkwX5_best_0 ++ []
theorem dksX5_best_0 : cX5_best.data.toList.drop 0 = dktX5_best_0 := by decide +kernel
theorem dX5_best_0 : decode cX5_best 0 = .ok (.aload_n 0, 1) := dk_42 (dk_at dksX5_best_0 0 rfl rfl)
theorem dX5_best_1 : decode cX5_best 1 = .ok (.iload_n 1, 1) := dk_27 (dk_at dksX5_best_0 1 rfl rfl)
theorem dX5_best_2 : decode cX5_best 2 = .ok (.invokevirtual 232, 3) := dk_182 0 232 (dk_at dksX5_best_0 2 rfl rfl)
theorem dX5_best_5 : decode cX5_best 5 = .ok (.aload_n 0, 1) := dk_42 (dk_at dksX5_best_0 5 rfl rfl)
theorem dX5_best_6 : decode cX5_best 6 = .ok (.getfield 36, 3) := dk_180 0 36 (dk_at dksX5_best_0 6 rfl rfl)
theorem dX5_best_9 : decode cX5_best 9 = .ok (.aload_n 0, 1) := dk_42 (dk_at dksX5_best_0 9 rfl rfl)
theorem dX5_best_10 : decode cX5_best 10 = .ok (.iload_n 1, 1) := dk_27 (dk_at dksX5_best_0 10 rfl rfl)
theorem dX5_best_11 : decode cX5_best 11 = .ok (.iconst 0, 1) := dk_3 (dk_at dksX5_best_0 11 rfl rfl)
theorem dX5_best_12 : decode cX5_best 12 = .ok (.invokevirtual 189, 3) := dk_182 0 189 (dk_at dksX5_best_0 12 rfl rfl)
theorem dX5_best_15 : decode cX5_best 15 = .ok (.laload, 1) := dk_47 (dk_at dksX5_best_0 15 rfl rfl)
theorem dX5_best_16 : decode cX5_best 16 = .ok (.lreturn, 1) := dk_173 (dk_at dksX5_best_0 16 rfl rfl)
abbrev cX5_laysFar : ByteArray := prog_17_method_49_code
def yX5_laysFar : MethodName := ⟨RX5, "laysFar", "(I)V"⟩
def dkwX5_laysFar_6 : List UInt8 := [80, 4, 61, 132, 3, 1, 167, 255, 153, 167, 255, 142, 177]
abbrev dktX5_laysFar_6 : List UInt8 := dkwX5_laysFar_6 ++ []
def dkwX5_laysFar_5 : List UInt8 := [42, 29, 3, 182, 0, 180, 42, 180, 0, 36, 42, 29, 4, 182, 0, 180, 47, 42, 27, 29, 182, 0, 228, 97]
abbrev dktX5_laysFar_5 : List UInt8 := dkwX5_laysFar_5 ++ dktX5_laysFar_6
def dkwX5_laysFar_4 : List UInt8 := [29, 182, 0, 228, 97, 42, 180, 0, 36, 42, 29, 3, 182, 0, 180, 47, 148, 156, 0, 34, 42, 180, 0, 36]
abbrev dktX5_laysFar_4 : List UInt8 := dkwX5_laysFar_4 ++ dktX5_laysFar_5
def dkwX5_laysFar_3 : List UInt8 := [182, 0, 180, 47, 20, 0, 223, 148, 156, 0, 67, 42, 180, 0, 36, 42, 29, 4, 182, 0, 180, 47, 42, 27]
abbrev dktX5_laysFar_3 : List UInt8 := dkwX5_laysFar_3 ++ dktX5_laysFar_4
def dkwX5_laysFar_2 : List UInt8 := [180, 0, 11, 4, 46, 162, 0, 99, 42, 29, 182, 0, 225, 153, 0, 85, 42, 180, 0, 36, 42, 29, 4]
abbrev dktX5_laysFar_2 : List UInt8 := dkwX5_laysFar_2 ++ dktX5_laysFar_3
def dkwX5_laysFar_1 : List UInt8 := [180, 0, 36, 42, 27, 4, 182, 0, 189, 9, 80, 4, 61, 28, 153, 0, 116, 3, 61, 3, 62, 29, 42]
abbrev dktX5_laysFar_1 : List UInt8 := dkwX5_laysFar_1 ++ dktX5_laysFar_2
def dkwX5_laysFar_0 : List UInt8 := [3, 61, 28, 16, 10, 162, 0, 18, 42, 180, 0, 36, 28, 20, 0, 223, 80, 132, 2, 1, 167, 255, 238, 42]
abbrev dktX5_laysFar_0 : List UInt8 := dkwX5_laysFar_0 ++ dktX5_laysFar_1
theorem dksX5_laysFar_0 : cX5_laysFar.data.toList.drop 0 = dktX5_laysFar_0 := by decide +kernel
theorem dksX5_laysFar_1 : cX5_laysFar.data.toList.drop 24 = dktX5_laysFar_1 := dk_seg dksX5_laysFar_0 24 rfl rfl
theorem dksX5_laysFar_2 : cX5_laysFar.data.toList.drop 47 = dktX5_laysFar_2 := dk_seg dksX5_laysFar_1 23 rfl rfl
theorem dksX5_laysFar_3 : cX5_laysFar.data.toList.drop 70 = dktX5_laysFar_3 := dk_seg dksX5_laysFar_2 23 rfl rfl
theorem dksX5_laysFar_4 : cX5_laysFar.data.toList.drop 94 = dktX5_laysFar_4 := dk_seg dksX5_laysFar_3 24 rfl rfl
theorem dksX5_laysFar_5 : cX5_laysFar.data.toList.drop 118 = dktX5_laysFar_5 := dk_seg dksX5_laysFar_4 24 rfl rfl
theorem dksX5_laysFar_6 : cX5_laysFar.data.toList.drop 142 = dktX5_laysFar_6 := dk_seg dksX5_laysFar_5 24 rfl rfl
theorem dX5_laysFar_0 : decode cX5_laysFar 0 = .ok (.iconst 0, 1) := dk_3 (dk_at dksX5_laysFar_0 0 rfl rfl)
theorem dX5_laysFar_1 : decode cX5_laysFar 1 = .ok (.istore_n 2, 1) := dk_61 (dk_at dksX5_laysFar_0 1 rfl rfl)
theorem dX5_laysFar_2 : decode cX5_laysFar 2 = .ok (.iload_n 2, 1) := dk_28 (dk_at dksX5_laysFar_0 2 rfl rfl)
theorem dX5_laysFar_3 : decode cX5_laysFar 3 = .ok (.bipush 10, 2) := dk_16 10 (dk_at dksX5_laysFar_0 3 rfl rfl)
theorem dX5_laysFar_5 : decode cX5_laysFar 5 = .ok (.if_icmp .ge 18, 3) := dk_162 0 18 (dk_at dksX5_laysFar_0 5 rfl rfl)
theorem dX5_laysFar_8 : decode cX5_laysFar 8 = .ok (.aload_n 0, 1) := dk_42 (dk_at dksX5_laysFar_0 8 rfl rfl)
theorem dX5_laysFar_9 : decode cX5_laysFar 9 = .ok (.getfield 36, 3) := dk_180 0 36 (dk_at dksX5_laysFar_0 9 rfl rfl)
theorem dX5_laysFar_12 : decode cX5_laysFar 12 = .ok (.iload_n 2, 1) := dk_28 (dk_at dksX5_laysFar_0 12 rfl rfl)
theorem dX5_laysFar_13 : decode cX5_laysFar 13 = .ok (.ldc2_w 223, 3) := dk_20 0 223 (dk_at dksX5_laysFar_0 13 rfl rfl)
theorem dX5_laysFar_16 : decode cX5_laysFar 16 = .ok (.lastore, 1) := dk_80 (dk_at dksX5_laysFar_0 16 rfl rfl)
theorem dX5_laysFar_17 : decode cX5_laysFar 17 = .ok (.iinc 2 1, 3) := dk_132 2 1 (dk_at dksX5_laysFar_0 17 rfl rfl)
theorem dX5_laysFar_20 : decode cX5_laysFar 20 = .ok (.goto (-18), 3) := dk_167 255 238 (dk_at dksX5_laysFar_0 20 rfl rfl)
theorem dX5_laysFar_23 : decode cX5_laysFar 23 = .ok (.aload_n 0, 1) := dk_42 (dk_at dksX5_laysFar_0 23 rfl rfl)
theorem dX5_laysFar_24 : decode cX5_laysFar 24 = .ok (.getfield 36, 3) := dk_180 0 36 (dk_at dksX5_laysFar_1 0 rfl rfl)
theorem dX5_laysFar_27 : decode cX5_laysFar 27 = .ok (.aload_n 0, 1) := dk_42 (dk_at dksX5_laysFar_1 3 rfl rfl)
theorem dX5_laysFar_28 : decode cX5_laysFar 28 = .ok (.iload_n 1, 1) := dk_27 (dk_at dksX5_laysFar_1 4 rfl rfl)
theorem dX5_laysFar_29 : decode cX5_laysFar 29 = .ok (.iconst 1, 1) := dk_4 (dk_at dksX5_laysFar_1 5 rfl rfl)
theorem dX5_laysFar_30 : decode cX5_laysFar 30 = .ok (.invokevirtual 189, 3) := dk_182 0 189 (dk_at dksX5_laysFar_1 6 rfl rfl)
theorem dX5_laysFar_33 : decode cX5_laysFar 33 = .ok (.lconst 0, 1) := dk_9 (dk_at dksX5_laysFar_1 9 rfl rfl)
theorem dX5_laysFar_34 : decode cX5_laysFar 34 = .ok (.lastore, 1) := dk_80 (dk_at dksX5_laysFar_1 10 rfl rfl)
theorem dX5_laysFar_35 : decode cX5_laysFar 35 = .ok (.iconst 1, 1) := dk_4 (dk_at dksX5_laysFar_1 11 rfl rfl)
theorem dX5_laysFar_36 : decode cX5_laysFar 36 = .ok (.istore_n 2, 1) := dk_61 (dk_at dksX5_laysFar_1 12 rfl rfl)
theorem dX5_laysFar_37 : decode cX5_laysFar 37 = .ok (.iload_n 2, 1) := dk_28 (dk_at dksX5_laysFar_1 13 rfl rfl)
theorem dX5_laysFar_38 : decode cX5_laysFar 38 = .ok (.ifCond .eq 116, 3) := dk_153 0 116 (dk_at dksX5_laysFar_1 14 rfl rfl)
theorem dX5_laysFar_41 : decode cX5_laysFar 41 = .ok (.iconst 0, 1) := dk_3 (dk_at dksX5_laysFar_1 17 rfl rfl)
theorem dX5_laysFar_42 : decode cX5_laysFar 42 = .ok (.istore_n 2, 1) := dk_61 (dk_at dksX5_laysFar_1 18 rfl rfl)
theorem dX5_laysFar_43 : decode cX5_laysFar 43 = .ok (.iconst 0, 1) := dk_3 (dk_at dksX5_laysFar_1 19 rfl rfl)
theorem dX5_laysFar_44 : decode cX5_laysFar 44 = .ok (.istore_n 3, 1) := dk_62 (dk_at dksX5_laysFar_1 20 rfl rfl)
theorem dX5_laysFar_45 : decode cX5_laysFar 45 = .ok (.iload_n 3, 1) := dk_29 (dk_at dksX5_laysFar_1 21 rfl rfl)
theorem dX5_laysFar_46 : decode cX5_laysFar 46 = .ok (.aload_n 0, 1) := dk_42 (dk_at dksX5_laysFar_1 22 rfl rfl)
theorem dX5_laysFar_47 : decode cX5_laysFar 47 = .ok (.getfield 11, 3) := dk_180 0 11 (dk_at dksX5_laysFar_2 0 rfl rfl)
theorem dX5_laysFar_50 : decode cX5_laysFar 50 = .ok (.iconst 1, 1) := dk_4 (dk_at dksX5_laysFar_2 3 rfl rfl)
theorem dX5_laysFar_51 : decode cX5_laysFar 51 = .ok (.iaload, 1) := dk_46 (dk_at dksX5_laysFar_2 4 rfl rfl)
theorem dX5_laysFar_52 : decode cX5_laysFar 52 = .ok (.if_icmp .ge 99, 3) := dk_162 0 99 (dk_at dksX5_laysFar_2 5 rfl rfl)
theorem dX5_laysFar_55 : decode cX5_laysFar 55 = .ok (.aload_n 0, 1) := dk_42 (dk_at dksX5_laysFar_2 8 rfl rfl)
theorem dX5_laysFar_56 : decode cX5_laysFar 56 = .ok (.iload_n 3, 1) := dk_29 (dk_at dksX5_laysFar_2 9 rfl rfl)
theorem dX5_laysFar_57 : decode cX5_laysFar 57 = .ok (.invokevirtual 225, 3) := dk_182 0 225 (dk_at dksX5_laysFar_2 10 rfl rfl)
theorem dX5_laysFar_60 : decode cX5_laysFar 60 = .ok (.ifCond .eq 85, 3) := dk_153 0 85 (dk_at dksX5_laysFar_2 13 rfl rfl)
theorem dX5_laysFar_63 : decode cX5_laysFar 63 = .ok (.aload_n 0, 1) := dk_42 (dk_at dksX5_laysFar_2 16 rfl rfl)
theorem dX5_laysFar_64 : decode cX5_laysFar 64 = .ok (.getfield 36, 3) := dk_180 0 36 (dk_at dksX5_laysFar_2 17 rfl rfl)
theorem dX5_laysFar_67 : decode cX5_laysFar 67 = .ok (.aload_n 0, 1) := dk_42 (dk_at dksX5_laysFar_2 20 rfl rfl)
theorem dX5_laysFar_68 : decode cX5_laysFar 68 = .ok (.iload_n 3, 1) := dk_29 (dk_at dksX5_laysFar_2 21 rfl rfl)
theorem dX5_laysFar_69 : decode cX5_laysFar 69 = .ok (.iconst 1, 1) := dk_4 (dk_at dksX5_laysFar_2 22 rfl rfl)
theorem dX5_laysFar_70 : decode cX5_laysFar 70 = .ok (.invokevirtual 180, 3) := dk_182 0 180 (dk_at dksX5_laysFar_3 0 rfl rfl)
theorem dX5_laysFar_73 : decode cX5_laysFar 73 = .ok (.laload, 1) := dk_47 (dk_at dksX5_laysFar_3 3 rfl rfl)
theorem dX5_laysFar_74 : decode cX5_laysFar 74 = .ok (.ldc2_w 223, 3) := dk_20 0 223 (dk_at dksX5_laysFar_3 4 rfl rfl)
theorem dX5_laysFar_77 : decode cX5_laysFar 77 = .ok (.lcmp, 1) := dk_148 (dk_at dksX5_laysFar_3 7 rfl rfl)
theorem dX5_laysFar_78 : decode cX5_laysFar 78 = .ok (.ifCond .ge 67, 3) := dk_156 0 67 (dk_at dksX5_laysFar_3 8 rfl rfl)
theorem dX5_laysFar_81 : decode cX5_laysFar 81 = .ok (.aload_n 0, 1) := dk_42 (dk_at dksX5_laysFar_3 11 rfl rfl)
theorem dX5_laysFar_82 : decode cX5_laysFar 82 = .ok (.getfield 36, 3) := dk_180 0 36 (dk_at dksX5_laysFar_3 12 rfl rfl)
theorem dX5_laysFar_85 : decode cX5_laysFar 85 = .ok (.aload_n 0, 1) := dk_42 (dk_at dksX5_laysFar_3 15 rfl rfl)
theorem dX5_laysFar_86 : decode cX5_laysFar 86 = .ok (.iload_n 3, 1) := dk_29 (dk_at dksX5_laysFar_3 16 rfl rfl)
theorem dX5_laysFar_87 : decode cX5_laysFar 87 = .ok (.iconst 1, 1) := dk_4 (dk_at dksX5_laysFar_3 17 rfl rfl)
theorem dX5_laysFar_88 : decode cX5_laysFar 88 = .ok (.invokevirtual 180, 3) := dk_182 0 180 (dk_at dksX5_laysFar_3 18 rfl rfl)
theorem dX5_laysFar_91 : decode cX5_laysFar 91 = .ok (.laload, 1) := dk_47 (dk_at dksX5_laysFar_3 21 rfl rfl)
theorem dX5_laysFar_92 : decode cX5_laysFar 92 = .ok (.aload_n 0, 1) := dk_42 (dk_at dksX5_laysFar_3 22 rfl rfl)
theorem dX5_laysFar_93 : decode cX5_laysFar 93 = .ok (.iload_n 1, 1) := dk_27 (dk_at dksX5_laysFar_3 23 rfl rfl)
theorem dX5_laysFar_94 : decode cX5_laysFar 94 = .ok (.iload_n 3, 1) := dk_29 (dk_at dksX5_laysFar_4 0 rfl rfl)
theorem dX5_laysFar_95 : decode cX5_laysFar 95 = .ok (.invokevirtual 228, 3) := dk_182 0 228 (dk_at dksX5_laysFar_4 1 rfl rfl)
theorem dX5_laysFar_98 : decode cX5_laysFar 98 = .ok (.ladd, 1) := dk_97 (dk_at dksX5_laysFar_4 4 rfl rfl)
theorem dX5_laysFar_99 : decode cX5_laysFar 99 = .ok (.aload_n 0, 1) := dk_42 (dk_at dksX5_laysFar_4 5 rfl rfl)
theorem dX5_laysFar_100 : decode cX5_laysFar 100 = .ok (.getfield 36, 3) := dk_180 0 36 (dk_at dksX5_laysFar_4 6 rfl rfl)
theorem dX5_laysFar_103 : decode cX5_laysFar 103 = .ok (.aload_n 0, 1) := dk_42 (dk_at dksX5_laysFar_4 9 rfl rfl)
theorem dX5_laysFar_104 : decode cX5_laysFar 104 = .ok (.iload_n 3, 1) := dk_29 (dk_at dksX5_laysFar_4 10 rfl rfl)
theorem dX5_laysFar_105 : decode cX5_laysFar 105 = .ok (.iconst 0, 1) := dk_3 (dk_at dksX5_laysFar_4 11 rfl rfl)
theorem dX5_laysFar_106 : decode cX5_laysFar 106 = .ok (.invokevirtual 180, 3) := dk_182 0 180 (dk_at dksX5_laysFar_4 12 rfl rfl)
theorem dX5_laysFar_109 : decode cX5_laysFar 109 = .ok (.laload, 1) := dk_47 (dk_at dksX5_laysFar_4 15 rfl rfl)
theorem dX5_laysFar_110 : decode cX5_laysFar 110 = .ok (.lcmp, 1) := dk_148 (dk_at dksX5_laysFar_4 16 rfl rfl)
theorem dX5_laysFar_111 : decode cX5_laysFar 111 = .ok (.ifCond .ge 34, 3) := dk_156 0 34 (dk_at dksX5_laysFar_4 17 rfl rfl)
theorem dX5_laysFar_114 : decode cX5_laysFar 114 = .ok (.aload_n 0, 1) := dk_42 (dk_at dksX5_laysFar_4 20 rfl rfl)
theorem dX5_laysFar_115 : decode cX5_laysFar 115 = .ok (.getfield 36, 3) := dk_180 0 36 (dk_at dksX5_laysFar_4 21 rfl rfl)
theorem dX5_laysFar_118 : decode cX5_laysFar 118 = .ok (.aload_n 0, 1) := dk_42 (dk_at dksX5_laysFar_5 0 rfl rfl)
theorem dX5_laysFar_119 : decode cX5_laysFar 119 = .ok (.iload_n 3, 1) := dk_29 (dk_at dksX5_laysFar_5 1 rfl rfl)
theorem dX5_laysFar_120 : decode cX5_laysFar 120 = .ok (.iconst 0, 1) := dk_3 (dk_at dksX5_laysFar_5 2 rfl rfl)
theorem dX5_laysFar_121 : decode cX5_laysFar 121 = .ok (.invokevirtual 180, 3) := dk_182 0 180 (dk_at dksX5_laysFar_5 3 rfl rfl)
theorem dX5_laysFar_124 : decode cX5_laysFar 124 = .ok (.aload_n 0, 1) := dk_42 (dk_at dksX5_laysFar_5 6 rfl rfl)
theorem dX5_laysFar_125 : decode cX5_laysFar 125 = .ok (.getfield 36, 3) := dk_180 0 36 (dk_at dksX5_laysFar_5 7 rfl rfl)
theorem dX5_laysFar_128 : decode cX5_laysFar 128 = .ok (.aload_n 0, 1) := dk_42 (dk_at dksX5_laysFar_5 10 rfl rfl)
theorem dX5_laysFar_129 : decode cX5_laysFar 129 = .ok (.iload_n 3, 1) := dk_29 (dk_at dksX5_laysFar_5 11 rfl rfl)
theorem dX5_laysFar_130 : decode cX5_laysFar 130 = .ok (.iconst 1, 1) := dk_4 (dk_at dksX5_laysFar_5 12 rfl rfl)
theorem dX5_laysFar_131 : decode cX5_laysFar 131 = .ok (.invokevirtual 180, 3) := dk_182 0 180 (dk_at dksX5_laysFar_5 13 rfl rfl)
theorem dX5_laysFar_134 : decode cX5_laysFar 134 = .ok (.laload, 1) := dk_47 (dk_at dksX5_laysFar_5 16 rfl rfl)
theorem dX5_laysFar_135 : decode cX5_laysFar 135 = .ok (.aload_n 0, 1) := dk_42 (dk_at dksX5_laysFar_5 17 rfl rfl)
theorem dX5_laysFar_136 : decode cX5_laysFar 136 = .ok (.iload_n 1, 1) := dk_27 (dk_at dksX5_laysFar_5 18 rfl rfl)
theorem dX5_laysFar_137 : decode cX5_laysFar 137 = .ok (.iload_n 3, 1) := dk_29 (dk_at dksX5_laysFar_5 19 rfl rfl)
theorem dX5_laysFar_138 : decode cX5_laysFar 138 = .ok (.invokevirtual 228, 3) := dk_182 0 228 (dk_at dksX5_laysFar_5 20 rfl rfl)
theorem dX5_laysFar_141 : decode cX5_laysFar 141 = .ok (.ladd, 1) := dk_97 (dk_at dksX5_laysFar_5 23 rfl rfl)
theorem dX5_laysFar_142 : decode cX5_laysFar 142 = .ok (.lastore, 1) := dk_80 (dk_at dksX5_laysFar_6 0 rfl rfl)
theorem dX5_laysFar_143 : decode cX5_laysFar 143 = .ok (.iconst 1, 1) := dk_4 (dk_at dksX5_laysFar_6 1 rfl rfl)
theorem dX5_laysFar_144 : decode cX5_laysFar 144 = .ok (.istore_n 2, 1) := dk_61 (dk_at dksX5_laysFar_6 2 rfl rfl)
theorem dX5_laysFar_145 : decode cX5_laysFar 145 = .ok (.iinc 3 1, 3) := dk_132 3 1 (dk_at dksX5_laysFar_6 3 rfl rfl)
theorem dX5_laysFar_148 : decode cX5_laysFar 148 = .ok (.goto (-103), 3) := dk_167 255 153 (dk_at dksX5_laysFar_6 6 rfl rfl)
theorem dX5_laysFar_151 : decode cX5_laysFar 151 = .ok (.goto (-114), 3) := dk_167 255 142 (dk_at dksX5_laysFar_6 9 rfl rfl)
theorem dX5_laysFar_154 : decode cX5_laysFar 154 = .ok (.return_, 1) := dk_177 (dk_at dksX5_laysFar_6 12 rfl rfl)
abbrev cX5_isOpen : ByteArray := prog_17_method_46_code
def yX5_isOpen : MethodName := ⟨RX5, "isOpen", "(I)Z"⟩
def dkwX5_isOpen_3 : List UInt8 := [182, 0, 180, 157, 0, 7, 4, 167, 0, 4, 3, 172]
abbrev dktX5_isOpen_3 : List UInt8 := dkwX5_isOpen_3 ++ []
def dkwX5_isOpen_2 : List UInt8 := [153, 0, 32, 42, 27, 8, 182, 0, 180, 154, 0, 23, 42, 180, 0, 210, 153, 0, 12, 42, 27, 6]
abbrev dktX5_isOpen_2 : List UInt8 := dkwX5_isOpen_2 ++ dktX5_isOpen_3
def dkwX5_isOpen_1 : List UInt8 := [42, 180, 0, 203, 42, 27, 4, 182, 0, 180, 184, 0, 206, 154, 0, 7, 4, 167, 0, 4, 3, 61, 28]
abbrev dktX5_isOpen_1 : List UInt8 := dkwX5_isOpen_1 ++ dktX5_isOpen_2
def dkwX5_isOpen_0 : List UInt8 := [27, 42, 180, 0, 40, 159, 0, 39, 42, 180, 0, 203, 42, 27, 3, 182, 0, 180, 184, 0, 206, 154, 0, 23]
abbrev dktX5_isOpen_0 : List UInt8 := dkwX5_isOpen_0 ++ dktX5_isOpen_1
theorem dksX5_isOpen_0 : cX5_isOpen.data.toList.drop 0 = dktX5_isOpen_0 := by decide +kernel
theorem dksX5_isOpen_1 : cX5_isOpen.data.toList.drop 24 = dktX5_isOpen_1 := dk_seg dksX5_isOpen_0 24 rfl rfl
theorem dksX5_isOpen_2 : cX5_isOpen.data.toList.drop 47 = dktX5_isOpen_2 := dk_seg dksX5_isOpen_1 23 rfl rfl
theorem dksX5_isOpen_3 : cX5_isOpen.data.toList.drop 69 = dktX5_isOpen_3 := dk_seg dksX5_isOpen_2 22 rfl rfl
theorem dX5_isOpen_0 : decode cX5_isOpen 0 = .ok (.iload_n 1, 1) := dk_27 (dk_at dksX5_isOpen_0 0 rfl rfl)
theorem dX5_isOpen_1 : decode cX5_isOpen 1 = .ok (.aload_n 0, 1) := dk_42 (dk_at dksX5_isOpen_0 1 rfl rfl)
theorem dX5_isOpen_2 : decode cX5_isOpen 2 = .ok (.getfield 40, 3) := dk_180 0 40 (dk_at dksX5_isOpen_0 2 rfl rfl)
theorem dX5_isOpen_5 : decode cX5_isOpen 5 = .ok (.if_icmp .eq 39, 3) := dk_159 0 39 (dk_at dksX5_isOpen_0 5 rfl rfl)
theorem dX5_isOpen_8 : decode cX5_isOpen 8 = .ok (.aload_n 0, 1) := dk_42 (dk_at dksX5_isOpen_0 8 rfl rfl)
theorem dX5_isOpen_9 : decode cX5_isOpen 9 = .ok (.getfield 203, 3) := dk_180 0 203 (dk_at dksX5_isOpen_0 9 rfl rfl)
theorem dX5_isOpen_12 : decode cX5_isOpen 12 = .ok (.aload_n 0, 1) := dk_42 (dk_at dksX5_isOpen_0 12 rfl rfl)
theorem dX5_isOpen_13 : decode cX5_isOpen 13 = .ok (.iload_n 1, 1) := dk_27 (dk_at dksX5_isOpen_0 13 rfl rfl)
theorem dX5_isOpen_14 : decode cX5_isOpen 14 = .ok (.iconst 0, 1) := dk_3 (dk_at dksX5_isOpen_0 14 rfl rfl)
theorem dX5_isOpen_15 : decode cX5_isOpen 15 = .ok (.invokevirtual 180, 3) := dk_182 0 180 (dk_at dksX5_isOpen_0 15 rfl rfl)
theorem dX5_isOpen_18 : decode cX5_isOpen 18 = .ok (.invokestatic 206, 3) := dk_184 0 206 (dk_at dksX5_isOpen_0 18 rfl rfl)
theorem dX5_isOpen_21 : decode cX5_isOpen 21 = .ok (.ifCond .ne 23, 3) := dk_154 0 23 (dk_at dksX5_isOpen_0 21 rfl rfl)
theorem dX5_isOpen_24 : decode cX5_isOpen 24 = .ok (.aload_n 0, 1) := dk_42 (dk_at dksX5_isOpen_1 0 rfl rfl)
theorem dX5_isOpen_25 : decode cX5_isOpen 25 = .ok (.getfield 203, 3) := dk_180 0 203 (dk_at dksX5_isOpen_1 1 rfl rfl)
theorem dX5_isOpen_28 : decode cX5_isOpen 28 = .ok (.aload_n 0, 1) := dk_42 (dk_at dksX5_isOpen_1 4 rfl rfl)
theorem dX5_isOpen_29 : decode cX5_isOpen 29 = .ok (.iload_n 1, 1) := dk_27 (dk_at dksX5_isOpen_1 5 rfl rfl)
theorem dX5_isOpen_30 : decode cX5_isOpen 30 = .ok (.iconst 1, 1) := dk_4 (dk_at dksX5_isOpen_1 6 rfl rfl)
theorem dX5_isOpen_31 : decode cX5_isOpen 31 = .ok (.invokevirtual 180, 3) := dk_182 0 180 (dk_at dksX5_isOpen_1 7 rfl rfl)
theorem dX5_isOpen_34 : decode cX5_isOpen 34 = .ok (.invokestatic 206, 3) := dk_184 0 206 (dk_at dksX5_isOpen_1 10 rfl rfl)
theorem dX5_isOpen_37 : decode cX5_isOpen 37 = .ok (.ifCond .ne 7, 3) := dk_154 0 7 (dk_at dksX5_isOpen_1 13 rfl rfl)
theorem dX5_isOpen_40 : decode cX5_isOpen 40 = .ok (.iconst 1, 1) := dk_4 (dk_at dksX5_isOpen_1 16 rfl rfl)
theorem dX5_isOpen_41 : decode cX5_isOpen 41 = .ok (.goto 4, 3) := dk_167 0 4 (dk_at dksX5_isOpen_1 17 rfl rfl)
theorem dX5_isOpen_44 : decode cX5_isOpen 44 = .ok (.iconst 0, 1) := dk_3 (dk_at dksX5_isOpen_1 20 rfl rfl)
theorem dX5_isOpen_45 : decode cX5_isOpen 45 = .ok (.istore_n 2, 1) := dk_61 (dk_at dksX5_isOpen_1 21 rfl rfl)
theorem dX5_isOpen_46 : decode cX5_isOpen 46 = .ok (.iload_n 2, 1) := dk_28 (dk_at dksX5_isOpen_1 22 rfl rfl)
theorem dX5_isOpen_47 : decode cX5_isOpen 47 = .ok (.ifCond .eq 32, 3) := dk_153 0 32 (dk_at dksX5_isOpen_2 0 rfl rfl)
theorem dX5_isOpen_50 : decode cX5_isOpen 50 = .ok (.aload_n 0, 1) := dk_42 (dk_at dksX5_isOpen_2 3 rfl rfl)
theorem dX5_isOpen_51 : decode cX5_isOpen 51 = .ok (.iload_n 1, 1) := dk_27 (dk_at dksX5_isOpen_2 4 rfl rfl)
theorem dX5_isOpen_52 : decode cX5_isOpen 52 = .ok (.iconst 5, 1) := dk_8 (dk_at dksX5_isOpen_2 5 rfl rfl)
theorem dX5_isOpen_53 : decode cX5_isOpen 53 = .ok (.invokevirtual 180, 3) := dk_182 0 180 (dk_at dksX5_isOpen_2 6 rfl rfl)
theorem dX5_isOpen_56 : decode cX5_isOpen 56 = .ok (.ifCond .ne 23, 3) := dk_154 0 23 (dk_at dksX5_isOpen_2 9 rfl rfl)
theorem dX5_isOpen_59 : decode cX5_isOpen 59 = .ok (.aload_n 0, 1) := dk_42 (dk_at dksX5_isOpen_2 12 rfl rfl)
theorem dX5_isOpen_60 : decode cX5_isOpen 60 = .ok (.getfield 210, 3) := dk_180 0 210 (dk_at dksX5_isOpen_2 13 rfl rfl)
theorem dX5_isOpen_63 : decode cX5_isOpen 63 = .ok (.ifCond .eq 12, 3) := dk_153 0 12 (dk_at dksX5_isOpen_2 16 rfl rfl)
theorem dX5_isOpen_66 : decode cX5_isOpen 66 = .ok (.aload_n 0, 1) := dk_42 (dk_at dksX5_isOpen_2 19 rfl rfl)
theorem dX5_isOpen_67 : decode cX5_isOpen 67 = .ok (.iload_n 1, 1) := dk_27 (dk_at dksX5_isOpen_2 20 rfl rfl)
theorem dX5_isOpen_68 : decode cX5_isOpen 68 = .ok (.iconst 3, 1) := dk_6 (dk_at dksX5_isOpen_2 21 rfl rfl)
theorem dX5_isOpen_69 : decode cX5_isOpen 69 = .ok (.invokevirtual 180, 3) := dk_182 0 180 (dk_at dksX5_isOpen_3 0 rfl rfl)
theorem dX5_isOpen_72 : decode cX5_isOpen 72 = .ok (.ifCond .gt 7, 3) := dk_157 0 7 (dk_at dksX5_isOpen_3 3 rfl rfl)
theorem dX5_isOpen_75 : decode cX5_isOpen 75 = .ok (.iconst 1, 1) := dk_4 (dk_at dksX5_isOpen_3 6 rfl rfl)
theorem dX5_isOpen_76 : decode cX5_isOpen 76 = .ok (.goto 4, 3) := dk_167 0 4 (dk_at dksX5_isOpen_3 7 rfl rfl)
theorem dX5_isOpen_79 : decode cX5_isOpen 79 = .ok (.iconst 0, 1) := dk_3 (dk_at dksX5_isOpen_3 10 rfl rfl)
theorem dX5_isOpen_80 : decode cX5_isOpen 80 = .ok (.ireturn, 1) := dk_172 (dk_at dksX5_isOpen_3 11 rfl rfl)
abbrev cX5_has : ByteArray := prog_17_method_45_code
def yX5_has : MethodName := ⟨RX5, "has", "(II)Z"⟩
def dkwX5_has_0 : List UInt8 := [26, 27, 122, 4, 126, 4, 160, 0, 7, 4, 167, 0, 4, 3, 172]
abbrev dktX5_has_0 : List UInt8 := dkwX5_has_0 ++ []
theorem dksX5_has_0 : cX5_has.data.toList.drop 0 = dktX5_has_0 := by decide +kernel
theorem dX5_has_0 : decode cX5_has 0 = .ok (.iload_n 0, 1) := dk_26 (dk_at dksX5_has_0 0 rfl rfl)
theorem dX5_has_1 : decode cX5_has 1 = .ok (.iload_n 1, 1) := dk_27 (dk_at dksX5_has_0 1 rfl rfl)
theorem dX5_has_2 : decode cX5_has 2 = .ok (.ishr, 1) := dk_122 (dk_at dksX5_has_0 2 rfl rfl)
theorem dX5_has_3 : decode cX5_has 3 = .ok (.iconst 1, 1) := dk_4 (dk_at dksX5_has_0 3 rfl rfl)
theorem dX5_has_4 : decode cX5_has 4 = .ok (.iand, 1) := dk_126 (dk_at dksX5_has_0 4 rfl rfl)
theorem dX5_has_5 : decode cX5_has 5 = .ok (.iconst 1, 1) := dk_4 (dk_at dksX5_has_0 5 rfl rfl)
theorem dX5_has_6 : decode cX5_has 6 = .ok (.if_icmp .ne 7, 3) := dk_160 0 7 (dk_at dksX5_has_0 6 rfl rfl)
theorem dX5_has_9 : decode cX5_has 9 = .ok (.iconst 1, 1) := dk_4 (dk_at dksX5_has_0 9 rfl rfl)
theorem dX5_has_10 : decode cX5_has 10 = .ok (.goto 4, 3) := dk_167 0 4 (dk_at dksX5_has_0 10 rfl rfl)
theorem dX5_has_13 : decode cX5_has 13 = .ok (.iconst 0, 1) := dk_3 (dk_at dksX5_has_0 13 rfl rfl)
theorem dX5_has_14 : decode cX5_has 14 = .ok (.ireturn, 1) := dk_172 (dk_at dksX5_has_0 14 rfl rfl)
abbrev cX5_weight : ByteArray := prog_17_method_48_code
def yX5_weight : MethodName := ⟨RX5, "weight", "(II)J"⟩
def dkwX5_weight_1 : List UInt8 := [46, 4, 160, 0, 9, 20, 0, 219, 167, 0, 6, 20, 0, 221, 33, 105, 97, 10, 97, 173]
abbrev dktX5_weight_1 : List UInt8 := dkwX5_weight_1 ++ []
def dkwX5_weight_0 : List UInt8 := [42, 28, 7, 182, 0, 180, 133, 66, 20, 0, 214, 42, 27, 28, 182, 0, 216, 133, 105, 42, 180, 0, 11, 6]
abbrev dktX5_weight_0 : List UInt8 := dkwX5_weight_0 ++ dktX5_weight_1
theorem dksX5_weight_0 : cX5_weight.data.toList.drop 0 = dktX5_weight_0 := by decide +kernel
theorem dksX5_weight_1 : cX5_weight.data.toList.drop 24 = dktX5_weight_1 := dk_seg dksX5_weight_0 24 rfl rfl
theorem dX5_weight_0 : decode cX5_weight 0 = .ok (.aload_n 0, 1) := dk_42 (dk_at dksX5_weight_0 0 rfl rfl)
theorem dX5_weight_1 : decode cX5_weight 1 = .ok (.iload_n 2, 1) := dk_28 (dk_at dksX5_weight_0 1 rfl rfl)
theorem dX5_weight_2 : decode cX5_weight 2 = .ok (.iconst 4, 1) := dk_7 (dk_at dksX5_weight_0 2 rfl rfl)
theorem dX5_weight_3 : decode cX5_weight 3 = .ok (.invokevirtual 180, 3) := dk_182 0 180 (dk_at dksX5_weight_0 3 rfl rfl)
theorem dX5_weight_6 : decode cX5_weight 6 = .ok (.i2l, 1) := dk_133 (dk_at dksX5_weight_0 6 rfl rfl)
theorem dX5_weight_7 : decode cX5_weight 7 = .ok (.lstore_n 3, 1) := dk_66 (dk_at dksX5_weight_0 7 rfl rfl)
theorem dX5_weight_8 : decode cX5_weight 8 = .ok (.ldc2_w 214, 3) := dk_20 0 214 (dk_at dksX5_weight_0 8 rfl rfl)
theorem dX5_weight_11 : decode cX5_weight 11 = .ok (.aload_n 0, 1) := dk_42 (dk_at dksX5_weight_0 11 rfl rfl)
theorem dX5_weight_12 : decode cX5_weight 12 = .ok (.iload_n 1, 1) := dk_27 (dk_at dksX5_weight_0 12 rfl rfl)
theorem dX5_weight_13 : decode cX5_weight 13 = .ok (.iload_n 2, 1) := dk_28 (dk_at dksX5_weight_0 13 rfl rfl)
theorem dX5_weight_14 : decode cX5_weight 14 = .ok (.invokevirtual 216, 3) := dk_182 0 216 (dk_at dksX5_weight_0 14 rfl rfl)
theorem dX5_weight_17 : decode cX5_weight 17 = .ok (.i2l, 1) := dk_133 (dk_at dksX5_weight_0 17 rfl rfl)
theorem dX5_weight_18 : decode cX5_weight 18 = .ok (.lmul, 1) := dk_105 (dk_at dksX5_weight_0 18 rfl rfl)
theorem dX5_weight_19 : decode cX5_weight 19 = .ok (.aload_n 0, 1) := dk_42 (dk_at dksX5_weight_0 19 rfl rfl)
theorem dX5_weight_20 : decode cX5_weight 20 = .ok (.getfield 11, 3) := dk_180 0 11 (dk_at dksX5_weight_0 20 rfl rfl)
theorem dX5_weight_23 : decode cX5_weight 23 = .ok (.iconst 3, 1) := dk_6 (dk_at dksX5_weight_0 23 rfl rfl)
theorem dX5_weight_24 : decode cX5_weight 24 = .ok (.iaload, 1) := dk_46 (dk_at dksX5_weight_1 0 rfl rfl)
theorem dX5_weight_25 : decode cX5_weight 25 = .ok (.iconst 1, 1) := dk_4 (dk_at dksX5_weight_1 1 rfl rfl)
theorem dX5_weight_26 : decode cX5_weight 26 = .ok (.if_icmp .ne 9, 3) := dk_160 0 9 (dk_at dksX5_weight_1 2 rfl rfl)
theorem dX5_weight_29 : decode cX5_weight 29 = .ok (.ldc2_w 219, 3) := dk_20 0 219 (dk_at dksX5_weight_1 5 rfl rfl)
theorem dX5_weight_32 : decode cX5_weight 32 = .ok (.goto 6, 3) := dk_167 0 6 (dk_at dksX5_weight_1 8 rfl rfl)
theorem dX5_weight_35 : decode cX5_weight 35 = .ok (.ldc2_w 221, 3) := dk_20 0 221 (dk_at dksX5_weight_1 11 rfl rfl)
theorem dX5_weight_38 : decode cX5_weight 38 = .ok (.lload_n 3, 1) := dk_33 (dk_at dksX5_weight_1 14 rfl rfl)
theorem dX5_weight_39 : decode cX5_weight 39 = .ok (.lmul, 1) := dk_105 (dk_at dksX5_weight_1 15 rfl rfl)
theorem dX5_weight_40 : decode cX5_weight 40 = .ok (.ladd, 1) := dk_97 (dk_at dksX5_weight_1 16 rfl rfl)
theorem dX5_weight_41 : decode cX5_weight 41 = .ok (.lconst 1, 1) := dk_10 (dk_at dksX5_weight_1 17 rfl rfl)
theorem dX5_weight_42 : decode cX5_weight 42 = .ok (.ladd, 1) := dk_97 (dk_at dksX5_weight_1 18 rfl rfl)
theorem dX5_weight_43 : decode cX5_weight 43 = .ok (.lreturn, 1) := dk_173 (dk_at dksX5_weight_1 19 rfl rfl)
abbrev cX5_feltOn : ByteArray := prog_17_method_47_code
def yX5_feltOn : MethodName := ⟨RX5, "feltOn", "(II)I"⟩
def dkwX5_feltOn_0 : List UInt8 := [42, 27, 6, 182, 0, 189, 42, 28, 5, 182, 0, 180, 104, 42, 28, 7, 182, 0, 180, 96, 172]
abbrev dktX5_feltOn_0 : List UInt8 := dkwX5_feltOn_0 ++ []
theorem dksX5_feltOn_0 : cX5_feltOn.data.toList.drop 0 = dktX5_feltOn_0 := by decide +kernel
theorem dX5_feltOn_0 : decode cX5_feltOn 0 = .ok (.aload_n 0, 1) := dk_42 (dk_at dksX5_feltOn_0 0 rfl rfl)
theorem dX5_feltOn_1 : decode cX5_feltOn 1 = .ok (.iload_n 1, 1) := dk_27 (dk_at dksX5_feltOn_0 1 rfl rfl)
theorem dX5_feltOn_2 : decode cX5_feltOn 2 = .ok (.iconst 3, 1) := dk_6 (dk_at dksX5_feltOn_0 2 rfl rfl)
theorem dX5_feltOn_3 : decode cX5_feltOn 3 = .ok (.invokevirtual 189, 3) := dk_182 0 189 (dk_at dksX5_feltOn_0 3 rfl rfl)
theorem dX5_feltOn_6 : decode cX5_feltOn 6 = .ok (.aload_n 0, 1) := dk_42 (dk_at dksX5_feltOn_0 6 rfl rfl)
theorem dX5_feltOn_7 : decode cX5_feltOn 7 = .ok (.iload_n 2, 1) := dk_28 (dk_at dksX5_feltOn_0 7 rfl rfl)
theorem dX5_feltOn_8 : decode cX5_feltOn 8 = .ok (.iconst 2, 1) := dk_5 (dk_at dksX5_feltOn_0 8 rfl rfl)
theorem dX5_feltOn_9 : decode cX5_feltOn 9 = .ok (.invokevirtual 180, 3) := dk_182 0 180 (dk_at dksX5_feltOn_0 9 rfl rfl)
theorem dX5_feltOn_12 : decode cX5_feltOn 12 = .ok (.imul, 1) := dk_104 (dk_at dksX5_feltOn_0 12 rfl rfl)
theorem dX5_feltOn_13 : decode cX5_feltOn 13 = .ok (.aload_n 0, 1) := dk_42 (dk_at dksX5_feltOn_0 13 rfl rfl)
theorem dX5_feltOn_14 : decode cX5_feltOn 14 = .ok (.iload_n 2, 1) := dk_28 (dk_at dksX5_feltOn_0 14 rfl rfl)
theorem dX5_feltOn_15 : decode cX5_feltOn 15 = .ok (.iconst 4, 1) := dk_7 (dk_at dksX5_feltOn_0 15 rfl rfl)
theorem dX5_feltOn_16 : decode cX5_feltOn 16 = .ok (.invokevirtual 180, 3) := dk_182 0 180 (dk_at dksX5_feltOn_0 16 rfl rfl)
theorem dX5_feltOn_19 : decode cX5_feltOn 19 = .ok (.iadd, 1) := dk_96 (dk_at dksX5_feltOn_0 19 rfl rfl)
theorem dX5_feltOn_20 : decode cX5_feltOn 20 = .ok (.ireturn, 1) := dk_172 (dk_at dksX5_feltOn_0 20 rfl rfl)
abbrev cX5_isBestFrom : ByteArray := prog_17_method_52_code
def yX5_isBestFrom : MethodName := ⟨RX5, "isBestFrom", "(III)Z"⟩
def dkwX5_isBestFrom_2 : List UInt8 := [27, 28, 182, 0, 228, 97, 42, 180, 0, 36, 29, 47, 148, 154, 0, 7, 4, 167, 0, 4, 3, 172]
abbrev dktX5_isBestFrom_2 : List UInt8 := dkwX5_isBestFrom_2 ++ []
def dkwX5_isBestFrom_1 : List UInt8 := [4, 182, 0, 180, 47, 20, 0, 223, 148, 156, 0, 35, 42, 180, 0, 36, 42, 28, 4, 182, 0, 180, 47, 42]
abbrev dktX5_isBestFrom_1 : List UInt8 := dkwX5_isBestFrom_1 ++ dktX5_isBestFrom_2
def dkwX5_isBestFrom_0 : List UInt8 := [42, 28, 182, 0, 225, 153, 0, 63, 42, 28, 3, 182, 0, 180, 29, 160, 0, 53, 42, 180, 0, 36, 42, 28]
abbrev dktX5_isBestFrom_0 : List UInt8 := dkwX5_isBestFrom_0 ++ dktX5_isBestFrom_1
theorem dksX5_isBestFrom_0 : cX5_isBestFrom.data.toList.drop 0 = dktX5_isBestFrom_0 := by decide +kernel
theorem dksX5_isBestFrom_1 : cX5_isBestFrom.data.toList.drop 24 = dktX5_isBestFrom_1 := dk_seg dksX5_isBestFrom_0 24 rfl rfl
theorem dksX5_isBestFrom_2 : cX5_isBestFrom.data.toList.drop 48 = dktX5_isBestFrom_2 := dk_seg dksX5_isBestFrom_1 24 rfl rfl
theorem dX5_isBestFrom_0 : decode cX5_isBestFrom 0 = .ok (.aload_n 0, 1) := dk_42 (dk_at dksX5_isBestFrom_0 0 rfl rfl)
theorem dX5_isBestFrom_1 : decode cX5_isBestFrom 1 = .ok (.iload_n 2, 1) := dk_28 (dk_at dksX5_isBestFrom_0 1 rfl rfl)
theorem dX5_isBestFrom_2 : decode cX5_isBestFrom 2 = .ok (.invokevirtual 225, 3) := dk_182 0 225 (dk_at dksX5_isBestFrom_0 2 rfl rfl)
theorem dX5_isBestFrom_5 : decode cX5_isBestFrom 5 = .ok (.ifCond .eq 63, 3) := dk_153 0 63 (dk_at dksX5_isBestFrom_0 5 rfl rfl)
theorem dX5_isBestFrom_8 : decode cX5_isBestFrom 8 = .ok (.aload_n 0, 1) := dk_42 (dk_at dksX5_isBestFrom_0 8 rfl rfl)
theorem dX5_isBestFrom_9 : decode cX5_isBestFrom 9 = .ok (.iload_n 2, 1) := dk_28 (dk_at dksX5_isBestFrom_0 9 rfl rfl)
theorem dX5_isBestFrom_10 : decode cX5_isBestFrom 10 = .ok (.iconst 0, 1) := dk_3 (dk_at dksX5_isBestFrom_0 10 rfl rfl)
theorem dX5_isBestFrom_11 : decode cX5_isBestFrom 11 = .ok (.invokevirtual 180, 3) := dk_182 0 180 (dk_at dksX5_isBestFrom_0 11 rfl rfl)
theorem dX5_isBestFrom_14 : decode cX5_isBestFrom 14 = .ok (.iload_n 3, 1) := dk_29 (dk_at dksX5_isBestFrom_0 14 rfl rfl)
theorem dX5_isBestFrom_15 : decode cX5_isBestFrom 15 = .ok (.if_icmp .ne 53, 3) := dk_160 0 53 (dk_at dksX5_isBestFrom_0 15 rfl rfl)
theorem dX5_isBestFrom_18 : decode cX5_isBestFrom 18 = .ok (.aload_n 0, 1) := dk_42 (dk_at dksX5_isBestFrom_0 18 rfl rfl)
theorem dX5_isBestFrom_19 : decode cX5_isBestFrom 19 = .ok (.getfield 36, 3) := dk_180 0 36 (dk_at dksX5_isBestFrom_0 19 rfl rfl)
theorem dX5_isBestFrom_22 : decode cX5_isBestFrom 22 = .ok (.aload_n 0, 1) := dk_42 (dk_at dksX5_isBestFrom_0 22 rfl rfl)
theorem dX5_isBestFrom_23 : decode cX5_isBestFrom 23 = .ok (.iload_n 2, 1) := dk_28 (dk_at dksX5_isBestFrom_0 23 rfl rfl)
theorem dX5_isBestFrom_24 : decode cX5_isBestFrom 24 = .ok (.iconst 1, 1) := dk_4 (dk_at dksX5_isBestFrom_1 0 rfl rfl)
theorem dX5_isBestFrom_25 : decode cX5_isBestFrom 25 = .ok (.invokevirtual 180, 3) := dk_182 0 180 (dk_at dksX5_isBestFrom_1 1 rfl rfl)
theorem dX5_isBestFrom_28 : decode cX5_isBestFrom 28 = .ok (.laload, 1) := dk_47 (dk_at dksX5_isBestFrom_1 4 rfl rfl)
theorem dX5_isBestFrom_29 : decode cX5_isBestFrom 29 = .ok (.ldc2_w 223, 3) := dk_20 0 223 (dk_at dksX5_isBestFrom_1 5 rfl rfl)
theorem dX5_isBestFrom_32 : decode cX5_isBestFrom 32 = .ok (.lcmp, 1) := dk_148 (dk_at dksX5_isBestFrom_1 8 rfl rfl)
theorem dX5_isBestFrom_33 : decode cX5_isBestFrom 33 = .ok (.ifCond .ge 35, 3) := dk_156 0 35 (dk_at dksX5_isBestFrom_1 9 rfl rfl)
theorem dX5_isBestFrom_36 : decode cX5_isBestFrom 36 = .ok (.aload_n 0, 1) := dk_42 (dk_at dksX5_isBestFrom_1 12 rfl rfl)
theorem dX5_isBestFrom_37 : decode cX5_isBestFrom 37 = .ok (.getfield 36, 3) := dk_180 0 36 (dk_at dksX5_isBestFrom_1 13 rfl rfl)
theorem dX5_isBestFrom_40 : decode cX5_isBestFrom 40 = .ok (.aload_n 0, 1) := dk_42 (dk_at dksX5_isBestFrom_1 16 rfl rfl)
theorem dX5_isBestFrom_41 : decode cX5_isBestFrom 41 = .ok (.iload_n 2, 1) := dk_28 (dk_at dksX5_isBestFrom_1 17 rfl rfl)
theorem dX5_isBestFrom_42 : decode cX5_isBestFrom 42 = .ok (.iconst 1, 1) := dk_4 (dk_at dksX5_isBestFrom_1 18 rfl rfl)
theorem dX5_isBestFrom_43 : decode cX5_isBestFrom 43 = .ok (.invokevirtual 180, 3) := dk_182 0 180 (dk_at dksX5_isBestFrom_1 19 rfl rfl)
theorem dX5_isBestFrom_46 : decode cX5_isBestFrom 46 = .ok (.laload, 1) := dk_47 (dk_at dksX5_isBestFrom_1 22 rfl rfl)
theorem dX5_isBestFrom_47 : decode cX5_isBestFrom 47 = .ok (.aload_n 0, 1) := dk_42 (dk_at dksX5_isBestFrom_1 23 rfl rfl)
theorem dX5_isBestFrom_48 : decode cX5_isBestFrom 48 = .ok (.iload_n 1, 1) := dk_27 (dk_at dksX5_isBestFrom_2 0 rfl rfl)
theorem dX5_isBestFrom_49 : decode cX5_isBestFrom 49 = .ok (.iload_n 2, 1) := dk_28 (dk_at dksX5_isBestFrom_2 1 rfl rfl)
theorem dX5_isBestFrom_50 : decode cX5_isBestFrom 50 = .ok (.invokevirtual 228, 3) := dk_182 0 228 (dk_at dksX5_isBestFrom_2 2 rfl rfl)
theorem dX5_isBestFrom_53 : decode cX5_isBestFrom 53 = .ok (.ladd, 1) := dk_97 (dk_at dksX5_isBestFrom_2 5 rfl rfl)
theorem dX5_isBestFrom_54 : decode cX5_isBestFrom 54 = .ok (.aload_n 0, 1) := dk_42 (dk_at dksX5_isBestFrom_2 6 rfl rfl)
theorem dX5_isBestFrom_55 : decode cX5_isBestFrom 55 = .ok (.getfield 36, 3) := dk_180 0 36 (dk_at dksX5_isBestFrom_2 7 rfl rfl)
theorem dX5_isBestFrom_58 : decode cX5_isBestFrom 58 = .ok (.iload_n 3, 1) := dk_29 (dk_at dksX5_isBestFrom_2 10 rfl rfl)
theorem dX5_isBestFrom_59 : decode cX5_isBestFrom 59 = .ok (.laload, 1) := dk_47 (dk_at dksX5_isBestFrom_2 11 rfl rfl)
theorem dX5_isBestFrom_60 : decode cX5_isBestFrom 60 = .ok (.lcmp, 1) := dk_148 (dk_at dksX5_isBestFrom_2 12 rfl rfl)
theorem dX5_isBestFrom_61 : decode cX5_isBestFrom 61 = .ok (.ifCond .ne 7, 3) := dk_154 0 7 (dk_at dksX5_isBestFrom_2 13 rfl rfl)
theorem dX5_isBestFrom_64 : decode cX5_isBestFrom 64 = .ok (.iconst 1, 1) := dk_4 (dk_at dksX5_isBestFrom_2 16 rfl rfl)
theorem dX5_isBestFrom_65 : decode cX5_isBestFrom 65 = .ok (.goto 4, 3) := dk_167 0 4 (dk_at dksX5_isBestFrom_2 17 rfl rfl)
theorem dX5_isBestFrom_68 : decode cX5_isBestFrom 68 = .ok (.iconst 0, 1) := dk_3 (dk_at dksX5_isBestFrom_2 20 rfl rfl)
theorem dX5_isBestFrom_69 : decode cX5_isBestFrom 69 = .ok (.ireturn, 1) := dk_172 (dk_at dksX5_isBestFrom_2 21 rfl rfl)
abbrev cX5_pathLength : ByteArray := prog_17_method_58_code
def yX5_pathLength : MethodName := ⟨RX5, "pathLength", "(I)I"⟩
def dkwX5_pathLength_1 : List UInt8 := [180, 0, 235, 167, 0, 4, 2, 172]
abbrev dktX5_pathLength_1 : List UInt8 := dkwX5_pathLength_1 ++ []
def dkwX5_pathLength_0 : List UInt8 := [42, 42, 27, 182, 0, 186, 4, 182, 0, 176, 153, 0, 5, 3, 172, 42, 27, 182, 0, 249, 153, 0, 10, 42]
abbrev dktX5_pathLength_0 : List UInt8 := dkwX5_pathLength_0 ++ dktX5_pathLength_1
theorem dksX5_pathLength_0 : cX5_pathLength.data.toList.drop 0 = dktX5_pathLength_0 := by decide +kernel
theorem dksX5_pathLength_1 : cX5_pathLength.data.toList.drop 24 = dktX5_pathLength_1 := dk_seg dksX5_pathLength_0 24 rfl rfl
theorem dX5_pathLength_0 : decode cX5_pathLength 0 = .ok (.aload_n 0, 1) := dk_42 (dk_at dksX5_pathLength_0 0 rfl rfl)
theorem dX5_pathLength_1 : decode cX5_pathLength 1 = .ok (.aload_n 0, 1) := dk_42 (dk_at dksX5_pathLength_0 1 rfl rfl)
theorem dX5_pathLength_2 : decode cX5_pathLength 2 = .ok (.iload_n 1, 1) := dk_27 (dk_at dksX5_pathLength_0 2 rfl rfl)
theorem dX5_pathLength_3 : decode cX5_pathLength 3 = .ok (.invokevirtual 186, 3) := dk_182 0 186 (dk_at dksX5_pathLength_0 3 rfl rfl)
theorem dX5_pathLength_6 : decode cX5_pathLength 6 = .ok (.iconst 1, 1) := dk_4 (dk_at dksX5_pathLength_0 6 rfl rfl)
theorem dX5_pathLength_7 : decode cX5_pathLength 7 = .ok (.invokevirtual 176, 3) := dk_182 0 176 (dk_at dksX5_pathLength_0 7 rfl rfl)
theorem dX5_pathLength_10 : decode cX5_pathLength 10 = .ok (.ifCond .eq 5, 3) := dk_153 0 5 (dk_at dksX5_pathLength_0 10 rfl rfl)
theorem dX5_pathLength_13 : decode cX5_pathLength 13 = .ok (.iconst 0, 1) := dk_3 (dk_at dksX5_pathLength_0 13 rfl rfl)
theorem dX5_pathLength_14 : decode cX5_pathLength 14 = .ok (.ireturn, 1) := dk_172 (dk_at dksX5_pathLength_0 14 rfl rfl)
theorem dX5_pathLength_15 : decode cX5_pathLength 15 = .ok (.aload_n 0, 1) := dk_42 (dk_at dksX5_pathLength_0 15 rfl rfl)
theorem dX5_pathLength_16 : decode cX5_pathLength 16 = .ok (.iload_n 1, 1) := dk_27 (dk_at dksX5_pathLength_0 16 rfl rfl)
theorem dX5_pathLength_17 : decode cX5_pathLength 17 = .ok (.invokevirtual 249, 3) := dk_182 0 249 (dk_at dksX5_pathLength_0 17 rfl rfl)
theorem dX5_pathLength_20 : decode cX5_pathLength 20 = .ok (.ifCond .eq 10, 3) := dk_153 0 10 (dk_at dksX5_pathLength_0 20 rfl rfl)
theorem dX5_pathLength_23 : decode cX5_pathLength 23 = .ok (.aload_n 0, 1) := dk_42 (dk_at dksX5_pathLength_0 23 rfl rfl)
theorem dX5_pathLength_24 : decode cX5_pathLength 24 = .ok (.getfield 235, 3) := dk_180 0 235 (dk_at dksX5_pathLength_1 0 rfl rfl)
theorem dX5_pathLength_27 : decode cX5_pathLength 27 = .ok (.goto 4, 3) := dk_167 0 4 (dk_at dksX5_pathLength_1 3 rfl rfl)
theorem dX5_pathLength_30 : decode cX5_pathLength 30 = .ok (.iconst (-1), 1) := dk_2 (dk_at dksX5_pathLength_1 6 rfl rfl)
theorem dX5_pathLength_31 : decode cX5_pathLength 31 = .ok (.ireturn, 1) := dk_172 (dk_at dksX5_pathLength_1 7 rfl rfl)
abbrev cX5_pathArc : ByteArray := prog_17_method_59_code
def yX5_pathArc : MethodName := ⟨RX5, "pathArc", "(II)I"⟩
def dkwX5_pathArc_1 : List UInt8 := [3, 42, 180, 0, 235, 4, 100, 184, 0, 81, 153, 0, 12, 42, 180, 0, 43, 28, 46, 167, 0, 4, 2, 172]
abbrev dktX5_pathArc_1 : List UInt8 := dkwX5_pathArc_1 ++ []
def dkwX5_pathArc_0 : List UInt8 := [42, 42, 27, 182, 0, 186, 4, 182, 0, 176, 153, 0, 5, 3, 172, 42, 27, 182, 0, 249, 153, 0, 26, 28]
abbrev dktX5_pathArc_0 : List UInt8 := dkwX5_pathArc_0 ++ dktX5_pathArc_1
theorem dksX5_pathArc_0 : cX5_pathArc.data.toList.drop 0 = dktX5_pathArc_0 := by decide +kernel
theorem dksX5_pathArc_1 : cX5_pathArc.data.toList.drop 24 = dktX5_pathArc_1 := dk_seg dksX5_pathArc_0 24 rfl rfl
theorem dX5_pathArc_0 : decode cX5_pathArc 0 = .ok (.aload_n 0, 1) := dk_42 (dk_at dksX5_pathArc_0 0 rfl rfl)
theorem dX5_pathArc_1 : decode cX5_pathArc 1 = .ok (.aload_n 0, 1) := dk_42 (dk_at dksX5_pathArc_0 1 rfl rfl)
theorem dX5_pathArc_2 : decode cX5_pathArc 2 = .ok (.iload_n 1, 1) := dk_27 (dk_at dksX5_pathArc_0 2 rfl rfl)
theorem dX5_pathArc_3 : decode cX5_pathArc 3 = .ok (.invokevirtual 186, 3) := dk_182 0 186 (dk_at dksX5_pathArc_0 3 rfl rfl)
theorem dX5_pathArc_6 : decode cX5_pathArc 6 = .ok (.iconst 1, 1) := dk_4 (dk_at dksX5_pathArc_0 6 rfl rfl)
theorem dX5_pathArc_7 : decode cX5_pathArc 7 = .ok (.invokevirtual 176, 3) := dk_182 0 176 (dk_at dksX5_pathArc_0 7 rfl rfl)
theorem dX5_pathArc_10 : decode cX5_pathArc 10 = .ok (.ifCond .eq 5, 3) := dk_153 0 5 (dk_at dksX5_pathArc_0 10 rfl rfl)
theorem dX5_pathArc_13 : decode cX5_pathArc 13 = .ok (.iconst 0, 1) := dk_3 (dk_at dksX5_pathArc_0 13 rfl rfl)
theorem dX5_pathArc_14 : decode cX5_pathArc 14 = .ok (.ireturn, 1) := dk_172 (dk_at dksX5_pathArc_0 14 rfl rfl)
theorem dX5_pathArc_15 : decode cX5_pathArc 15 = .ok (.aload_n 0, 1) := dk_42 (dk_at dksX5_pathArc_0 15 rfl rfl)
theorem dX5_pathArc_16 : decode cX5_pathArc 16 = .ok (.iload_n 1, 1) := dk_27 (dk_at dksX5_pathArc_0 16 rfl rfl)
theorem dX5_pathArc_17 : decode cX5_pathArc 17 = .ok (.invokevirtual 249, 3) := dk_182 0 249 (dk_at dksX5_pathArc_0 17 rfl rfl)
theorem dX5_pathArc_20 : decode cX5_pathArc 20 = .ok (.ifCond .eq 26, 3) := dk_153 0 26 (dk_at dksX5_pathArc_0 20 rfl rfl)
theorem dX5_pathArc_23 : decode cX5_pathArc 23 = .ok (.iload_n 2, 1) := dk_28 (dk_at dksX5_pathArc_0 23 rfl rfl)
theorem dX5_pathArc_24 : decode cX5_pathArc 24 = .ok (.iconst 0, 1) := dk_3 (dk_at dksX5_pathArc_1 0 rfl rfl)
theorem dX5_pathArc_25 : decode cX5_pathArc 25 = .ok (.aload_n 0, 1) := dk_42 (dk_at dksX5_pathArc_1 1 rfl rfl)
theorem dX5_pathArc_26 : decode cX5_pathArc 26 = .ok (.getfield 235, 3) := dk_180 0 235 (dk_at dksX5_pathArc_1 2 rfl rfl)
theorem dX5_pathArc_29 : decode cX5_pathArc 29 = .ok (.iconst 1, 1) := dk_4 (dk_at dksX5_pathArc_1 5 rfl rfl)
theorem dX5_pathArc_30 : decode cX5_pathArc 30 = .ok (.isub, 1) := dk_100 (dk_at dksX5_pathArc_1 6 rfl rfl)
theorem dX5_pathArc_31 : decode cX5_pathArc 31 = .ok (.invokestatic 81, 3) := dk_184 0 81 (dk_at dksX5_pathArc_1 7 rfl rfl)
theorem dX5_pathArc_34 : decode cX5_pathArc 34 = .ok (.ifCond .eq 12, 3) := dk_153 0 12 (dk_at dksX5_pathArc_1 10 rfl rfl)
theorem dX5_pathArc_37 : decode cX5_pathArc 37 = .ok (.aload_n 0, 1) := dk_42 (dk_at dksX5_pathArc_1 13 rfl rfl)
theorem dX5_pathArc_38 : decode cX5_pathArc 38 = .ok (.getfield 43, 3) := dk_180 0 43 (dk_at dksX5_pathArc_1 14 rfl rfl)
theorem dX5_pathArc_41 : decode cX5_pathArc 41 = .ok (.iload_n 2, 1) := dk_28 (dk_at dksX5_pathArc_1 17 rfl rfl)
theorem dX5_pathArc_42 : decode cX5_pathArc 42 = .ok (.iaload, 1) := dk_46 (dk_at dksX5_pathArc_1 18 rfl rfl)
theorem dX5_pathArc_43 : decode cX5_pathArc 43 = .ok (.goto 4, 3) := dk_167 0 4 (dk_at dksX5_pathArc_1 19 rfl rfl)
theorem dX5_pathArc_46 : decode cX5_pathArc 46 = .ok (.iconst (-1), 1) := dk_2 (dk_at dksX5_pathArc_1 22 rfl rfl)
theorem dX5_pathArc_47 : decode cX5_pathArc 47 = .ok (.ireturn, 1) := dk_172 (dk_at dksX5_pathArc_1 23 rfl rfl)
abbrev cX5_pathCost : ByteArray := prog_17_method_60_code
def yX5_pathCost : MethodName := ⟨RX5, "pathCost", "(I)I"⟩
def dkwX5_pathCost_1 : List UInt8 := [5, 182, 0, 245, 167, 0, 4, 2, 172]
abbrev dktX5_pathCost_1 : List UInt8 := dkwX5_pathCost_1 ++ []
def dkwX5_pathCost_0 : List UInt8 := [42, 42, 27, 182, 0, 186, 4, 182, 0, 176, 153, 0, 5, 3, 172, 42, 27, 182, 0, 249, 153, 0, 11, 42]
abbrev dktX5_pathCost_0 : List UInt8 := dkwX5_pathCost_0 ++ dktX5_pathCost_1
theorem dksX5_pathCost_0 : cX5_pathCost.data.toList.drop 0 = dktX5_pathCost_0 := by decide +kernel
theorem dksX5_pathCost_1 : cX5_pathCost.data.toList.drop 24 = dktX5_pathCost_1 := dk_seg dksX5_pathCost_0 24 rfl rfl
theorem dX5_pathCost_0 : decode cX5_pathCost 0 = .ok (.aload_n 0, 1) := dk_42 (dk_at dksX5_pathCost_0 0 rfl rfl)
theorem dX5_pathCost_1 : decode cX5_pathCost 1 = .ok (.aload_n 0, 1) := dk_42 (dk_at dksX5_pathCost_0 1 rfl rfl)
theorem dX5_pathCost_2 : decode cX5_pathCost 2 = .ok (.iload_n 1, 1) := dk_27 (dk_at dksX5_pathCost_0 2 rfl rfl)
theorem dX5_pathCost_3 : decode cX5_pathCost 3 = .ok (.invokevirtual 186, 3) := dk_182 0 186 (dk_at dksX5_pathCost_0 3 rfl rfl)
theorem dX5_pathCost_6 : decode cX5_pathCost 6 = .ok (.iconst 1, 1) := dk_4 (dk_at dksX5_pathCost_0 6 rfl rfl)
theorem dX5_pathCost_7 : decode cX5_pathCost 7 = .ok (.invokevirtual 176, 3) := dk_182 0 176 (dk_at dksX5_pathCost_0 7 rfl rfl)
theorem dX5_pathCost_10 : decode cX5_pathCost 10 = .ok (.ifCond .eq 5, 3) := dk_153 0 5 (dk_at dksX5_pathCost_0 10 rfl rfl)
theorem dX5_pathCost_13 : decode cX5_pathCost 13 = .ok (.iconst 0, 1) := dk_3 (dk_at dksX5_pathCost_0 13 rfl rfl)
theorem dX5_pathCost_14 : decode cX5_pathCost 14 = .ok (.ireturn, 1) := dk_172 (dk_at dksX5_pathCost_0 14 rfl rfl)
theorem dX5_pathCost_15 : decode cX5_pathCost 15 = .ok (.aload_n 0, 1) := dk_42 (dk_at dksX5_pathCost_0 15 rfl rfl)
theorem dX5_pathCost_16 : decode cX5_pathCost 16 = .ok (.iload_n 1, 1) := dk_27 (dk_at dksX5_pathCost_0 16 rfl rfl)
theorem dX5_pathCost_17 : decode cX5_pathCost 17 = .ok (.invokevirtual 249, 3) := dk_182 0 249 (dk_at dksX5_pathCost_0 17 rfl rfl)
theorem dX5_pathCost_20 : decode cX5_pathCost 20 = .ok (.ifCond .eq 11, 3) := dk_153 0 11 (dk_at dksX5_pathCost_0 20 rfl rfl)
theorem dX5_pathCost_23 : decode cX5_pathCost 23 = .ok (.aload_n 0, 1) := dk_42 (dk_at dksX5_pathCost_0 23 rfl rfl)
theorem dX5_pathCost_24 : decode cX5_pathCost 24 = .ok (.iconst 2, 1) := dk_5 (dk_at dksX5_pathCost_1 0 rfl rfl)
theorem dX5_pathCost_25 : decode cX5_pathCost 25 = .ok (.invokevirtual 245, 3) := dk_182 0 245 (dk_at dksX5_pathCost_1 1 rfl rfl)
theorem dX5_pathCost_28 : decode cX5_pathCost 28 = .ok (.goto 4, 3) := dk_167 0 4 (dk_at dksX5_pathCost_1 4 rfl rfl)
theorem dX5_pathCost_31 : decode cX5_pathCost 31 = .ok (.iconst (-1), 1) := dk_2 (dk_at dksX5_pathCost_1 7 rfl rfl)
theorem dX5_pathCost_32 : decode cX5_pathCost 32 = .ok (.ireturn, 1) := dk_172 (dk_at dksX5_pathCost_1 8 rfl rfl)
abbrev cX5_sumOf : ByteArray := prog_17_method_53_code
def yX5_sumOf : MethodName := ⟨RX5, "sumOf", "(I)I"⟩
def dkwX5_sumOf_1 : List UInt8 := [96, 61, 132, 3, 1, 167, 255, 231, 28, 172]
abbrev dktX5_sumOf_1 : List UInt8 := dkwX5_sumOf_1 ++ []
def dkwX5_sumOf_0 : List UInt8 := [3, 61, 3, 62, 29, 42, 180, 0, 235, 162, 0, 23, 28, 42, 42, 180, 0, 43, 29, 46, 27, 182, 0, 180]
abbrev dktX5_sumOf_0 : List UInt8 := dkwX5_sumOf_0 ++ dktX5_sumOf_1
theorem dksX5_sumOf_0 : cX5_sumOf.data.toList.drop 0 = dktX5_sumOf_0 := by decide +kernel
theorem dksX5_sumOf_1 : cX5_sumOf.data.toList.drop 24 = dktX5_sumOf_1 := dk_seg dksX5_sumOf_0 24 rfl rfl
theorem dX5_sumOf_0 : decode cX5_sumOf 0 = .ok (.iconst 0, 1) := dk_3 (dk_at dksX5_sumOf_0 0 rfl rfl)
theorem dX5_sumOf_1 : decode cX5_sumOf 1 = .ok (.istore_n 2, 1) := dk_61 (dk_at dksX5_sumOf_0 1 rfl rfl)
theorem dX5_sumOf_2 : decode cX5_sumOf 2 = .ok (.iconst 0, 1) := dk_3 (dk_at dksX5_sumOf_0 2 rfl rfl)
theorem dX5_sumOf_3 : decode cX5_sumOf 3 = .ok (.istore_n 3, 1) := dk_62 (dk_at dksX5_sumOf_0 3 rfl rfl)
theorem dX5_sumOf_4 : decode cX5_sumOf 4 = .ok (.iload_n 3, 1) := dk_29 (dk_at dksX5_sumOf_0 4 rfl rfl)
theorem dX5_sumOf_5 : decode cX5_sumOf 5 = .ok (.aload_n 0, 1) := dk_42 (dk_at dksX5_sumOf_0 5 rfl rfl)
theorem dX5_sumOf_6 : decode cX5_sumOf 6 = .ok (.getfield 235, 3) := dk_180 0 235 (dk_at dksX5_sumOf_0 6 rfl rfl)
theorem dX5_sumOf_9 : decode cX5_sumOf 9 = .ok (.if_icmp .ge 23, 3) := dk_162 0 23 (dk_at dksX5_sumOf_0 9 rfl rfl)
theorem dX5_sumOf_12 : decode cX5_sumOf 12 = .ok (.iload_n 2, 1) := dk_28 (dk_at dksX5_sumOf_0 12 rfl rfl)
theorem dX5_sumOf_13 : decode cX5_sumOf 13 = .ok (.aload_n 0, 1) := dk_42 (dk_at dksX5_sumOf_0 13 rfl rfl)
theorem dX5_sumOf_14 : decode cX5_sumOf 14 = .ok (.aload_n 0, 1) := dk_42 (dk_at dksX5_sumOf_0 14 rfl rfl)
theorem dX5_sumOf_15 : decode cX5_sumOf 15 = .ok (.getfield 43, 3) := dk_180 0 43 (dk_at dksX5_sumOf_0 15 rfl rfl)
theorem dX5_sumOf_18 : decode cX5_sumOf 18 = .ok (.iload_n 3, 1) := dk_29 (dk_at dksX5_sumOf_0 18 rfl rfl)
theorem dX5_sumOf_19 : decode cX5_sumOf 19 = .ok (.iaload, 1) := dk_46 (dk_at dksX5_sumOf_0 19 rfl rfl)
theorem dX5_sumOf_20 : decode cX5_sumOf 20 = .ok (.iload_n 1, 1) := dk_27 (dk_at dksX5_sumOf_0 20 rfl rfl)
theorem dX5_sumOf_21 : decode cX5_sumOf 21 = .ok (.invokevirtual 180, 3) := dk_182 0 180 (dk_at dksX5_sumOf_0 21 rfl rfl)
theorem dX5_sumOf_24 : decode cX5_sumOf 24 = .ok (.iadd, 1) := dk_96 (dk_at dksX5_sumOf_1 0 rfl rfl)
theorem dX5_sumOf_25 : decode cX5_sumOf 25 = .ok (.istore_n 2, 1) := dk_61 (dk_at dksX5_sumOf_1 1 rfl rfl)
theorem dX5_sumOf_26 : decode cX5_sumOf 26 = .ok (.iinc 3 1, 3) := dk_132 3 1 (dk_at dksX5_sumOf_1 2 rfl rfl)
theorem dX5_sumOf_29 : decode cX5_sumOf 29 = .ok (.goto (-25), 3) := dk_167 255 231 (dk_at dksX5_sumOf_1 5 rfl rfl)
theorem dX5_sumOf_32 : decode cX5_sumOf 32 = .ok (.iload_n 2, 1) := dk_28 (dk_at dksX5_sumOf_1 8 rfl rfl)
theorem dX5_sumOf_33 : decode cX5_sumOf 33 = .ok (.ireturn, 1) := dk_172 (dk_at dksX5_sumOf_1 9 rfl rfl)
abbrev cX5_pathToll : ByteArray := prog_17_method_61_code
def yX5_pathToll : MethodName := ⟨RX5, "pathToll", "(I)I"⟩
def dkwX5_pathToll_1 : List UInt8 := [7, 182, 0, 245, 167, 0, 4, 2, 172]
abbrev dktX5_pathToll_1 : List UInt8 := dkwX5_pathToll_1 ++ []
def dkwX5_pathToll_0 : List UInt8 := [42, 42, 27, 182, 0, 186, 4, 182, 0, 176, 153, 0, 5, 3, 172, 42, 27, 182, 0, 249, 153, 0, 11, 42]
abbrev dktX5_pathToll_0 : List UInt8 := dkwX5_pathToll_0 ++ dktX5_pathToll_1
theorem dksX5_pathToll_0 : cX5_pathToll.data.toList.drop 0 = dktX5_pathToll_0 := by decide +kernel
theorem dksX5_pathToll_1 : cX5_pathToll.data.toList.drop 24 = dktX5_pathToll_1 := dk_seg dksX5_pathToll_0 24 rfl rfl
theorem dX5_pathToll_0 : decode cX5_pathToll 0 = .ok (.aload_n 0, 1) := dk_42 (dk_at dksX5_pathToll_0 0 rfl rfl)
theorem dX5_pathToll_1 : decode cX5_pathToll 1 = .ok (.aload_n 0, 1) := dk_42 (dk_at dksX5_pathToll_0 1 rfl rfl)
theorem dX5_pathToll_2 : decode cX5_pathToll 2 = .ok (.iload_n 1, 1) := dk_27 (dk_at dksX5_pathToll_0 2 rfl rfl)
theorem dX5_pathToll_3 : decode cX5_pathToll 3 = .ok (.invokevirtual 186, 3) := dk_182 0 186 (dk_at dksX5_pathToll_0 3 rfl rfl)
theorem dX5_pathToll_6 : decode cX5_pathToll 6 = .ok (.iconst 1, 1) := dk_4 (dk_at dksX5_pathToll_0 6 rfl rfl)
theorem dX5_pathToll_7 : decode cX5_pathToll 7 = .ok (.invokevirtual 176, 3) := dk_182 0 176 (dk_at dksX5_pathToll_0 7 rfl rfl)
theorem dX5_pathToll_10 : decode cX5_pathToll 10 = .ok (.ifCond .eq 5, 3) := dk_153 0 5 (dk_at dksX5_pathToll_0 10 rfl rfl)
theorem dX5_pathToll_13 : decode cX5_pathToll 13 = .ok (.iconst 0, 1) := dk_3 (dk_at dksX5_pathToll_0 13 rfl rfl)
theorem dX5_pathToll_14 : decode cX5_pathToll 14 = .ok (.ireturn, 1) := dk_172 (dk_at dksX5_pathToll_0 14 rfl rfl)
theorem dX5_pathToll_15 : decode cX5_pathToll 15 = .ok (.aload_n 0, 1) := dk_42 (dk_at dksX5_pathToll_0 15 rfl rfl)
theorem dX5_pathToll_16 : decode cX5_pathToll 16 = .ok (.iload_n 1, 1) := dk_27 (dk_at dksX5_pathToll_0 16 rfl rfl)
theorem dX5_pathToll_17 : decode cX5_pathToll 17 = .ok (.invokevirtual 249, 3) := dk_182 0 249 (dk_at dksX5_pathToll_0 17 rfl rfl)
theorem dX5_pathToll_20 : decode cX5_pathToll 20 = .ok (.ifCond .eq 11, 3) := dk_153 0 11 (dk_at dksX5_pathToll_0 20 rfl rfl)
theorem dX5_pathToll_23 : decode cX5_pathToll 23 = .ok (.aload_n 0, 1) := dk_42 (dk_at dksX5_pathToll_0 23 rfl rfl)
theorem dX5_pathToll_24 : decode cX5_pathToll 24 = .ok (.iconst 4, 1) := dk_7 (dk_at dksX5_pathToll_1 0 rfl rfl)
theorem dX5_pathToll_25 : decode cX5_pathToll 25 = .ok (.invokevirtual 245, 3) := dk_182 0 245 (dk_at dksX5_pathToll_1 1 rfl rfl)
theorem dX5_pathToll_28 : decode cX5_pathToll 28 = .ok (.goto 4, 3) := dk_167 0 4 (dk_at dksX5_pathToll_1 4 rfl rfl)
theorem dX5_pathToll_31 : decode cX5_pathToll 31 = .ok (.iconst (-1), 1) := dk_2 (dk_at dksX5_pathToll_1 7 rfl rfl)
theorem dX5_pathToll_32 : decode cX5_pathToll 32 = .ok (.ireturn, 1) := dk_172 (dk_at dksX5_pathToll_1 8 rfl rfl)
abbrev cX5_felt : ByteArray := prog_17_method_62_code
def yX5_felt : MethodName := ⟨RX5, "felt", "(I)I"⟩
def dkwX5_felt_0 : List UInt8 := [42, 42, 27, 182, 0, 186, 4, 182, 0, 176, 153, 0, 7, 3, 167, 0, 8, 42, 27, 182, 0, 255, 172]
abbrev dktX5_felt_0 : List UInt8 := dkwX5_felt_0 ++ []
theorem dksX5_felt_0 : cX5_felt.data.toList.drop 0 = dktX5_felt_0 := by decide +kernel
theorem dX5_felt_0 : decode cX5_felt 0 = .ok (.aload_n 0, 1) := dk_42 (dk_at dksX5_felt_0 0 rfl rfl)
theorem dX5_felt_1 : decode cX5_felt 1 = .ok (.aload_n 0, 1) := dk_42 (dk_at dksX5_felt_0 1 rfl rfl)
theorem dX5_felt_2 : decode cX5_felt 2 = .ok (.iload_n 1, 1) := dk_27 (dk_at dksX5_felt_0 2 rfl rfl)
theorem dX5_felt_3 : decode cX5_felt 3 = .ok (.invokevirtual 186, 3) := dk_182 0 186 (dk_at dksX5_felt_0 3 rfl rfl)
theorem dX5_felt_6 : decode cX5_felt 6 = .ok (.iconst 1, 1) := dk_4 (dk_at dksX5_felt_0 6 rfl rfl)
theorem dX5_felt_7 : decode cX5_felt 7 = .ok (.invokevirtual 176, 3) := dk_182 0 176 (dk_at dksX5_felt_0 7 rfl rfl)
theorem dX5_felt_10 : decode cX5_felt 10 = .ok (.ifCond .eq 7, 3) := dk_153 0 7 (dk_at dksX5_felt_0 10 rfl rfl)
theorem dX5_felt_13 : decode cX5_felt 13 = .ok (.iconst 0, 1) := dk_3 (dk_at dksX5_felt_0 13 rfl rfl)
theorem dX5_felt_14 : decode cX5_felt 14 = .ok (.goto 8, 3) := dk_167 0 8 (dk_at dksX5_felt_0 14 rfl rfl)
theorem dX5_felt_17 : decode cX5_felt 17 = .ok (.aload_n 0, 1) := dk_42 (dk_at dksX5_felt_0 17 rfl rfl)
theorem dX5_felt_18 : decode cX5_felt 18 = .ok (.iload_n 1, 1) := dk_27 (dk_at dksX5_felt_0 18 rfl rfl)
theorem dX5_felt_19 : decode cX5_felt 19 = .ok (.invokevirtual 255, 3) := dk_182 0 255 (dk_at dksX5_felt_0 19 rfl rfl)
theorem dX5_felt_22 : decode cX5_felt 22 = .ok (.ireturn, 1) := dk_172 (dk_at dksX5_felt_0 22 rfl rfl)
abbrev cX5_felts : ByteArray := prog_17_method_56_code
def yX5_felts : MethodName := ⟨RX5, "felts", "(I)I"⟩
def dkwX5_felts_0 : List UInt8 := [42, 27, 182, 0, 249, 153, 0, 11, 42, 27, 182, 0, 252, 167, 0, 4, 2, 172]
abbrev dktX5_felts_0 : List UInt8 := dkwX5_felts_0 ++ []
theorem dksX5_felts_0 : cX5_felts.data.toList.drop 0 = dktX5_felts_0 := by decide +kernel
theorem dX5_felts_0 : decode cX5_felts 0 = .ok (.aload_n 0, 1) := dk_42 (dk_at dksX5_felts_0 0 rfl rfl)
theorem dX5_felts_1 : decode cX5_felts 1 = .ok (.iload_n 1, 1) := dk_27 (dk_at dksX5_felts_0 1 rfl rfl)
theorem dX5_felts_2 : decode cX5_felts 2 = .ok (.invokevirtual 249, 3) := dk_182 0 249 (dk_at dksX5_felts_0 2 rfl rfl)
theorem dX5_felts_5 : decode cX5_felts 5 = .ok (.ifCond .eq 11, 3) := dk_153 0 11 (dk_at dksX5_felts_0 5 rfl rfl)
theorem dX5_felts_8 : decode cX5_felts 8 = .ok (.aload_n 0, 1) := dk_42 (dk_at dksX5_felts_0 8 rfl rfl)
theorem dX5_felts_9 : decode cX5_felts 9 = .ok (.iload_n 1, 1) := dk_27 (dk_at dksX5_felts_0 9 rfl rfl)
theorem dX5_felts_10 : decode cX5_felts 10 = .ok (.invokevirtual 252, 3) := dk_182 0 252 (dk_at dksX5_felts_0 10 rfl rfl)
theorem dX5_felts_13 : decode cX5_felts 13 = .ok (.goto 4, 3) := dk_167 0 4 (dk_at dksX5_felts_0 13 rfl rfl)
theorem dX5_felts_16 : decode cX5_felts 16 = .ok (.iconst (-1), 1) := dk_2 (dk_at dksX5_felts_0 16 rfl rfl)
theorem dX5_felts_17 : decode cX5_felts 17 = .ok (.ireturn, 1) := dk_172 (dk_at dksX5_felts_0 17 rfl rfl)
abbrev cX5_feltNow : ByteArray := prog_17_method_54_code
def yX5_feltNow : MethodName := ⟨RX5, "feltNow", "(I)I"⟩
def dkwX5_feltNow_0 : List UInt8 := [42, 27, 6, 182, 0, 189, 42, 5, 182, 0, 245, 104, 42, 7, 182, 0, 245, 96, 172]
abbrev dktX5_feltNow_0 : List UInt8 := dkwX5_feltNow_0 ++ []
theorem dksX5_feltNow_0 : cX5_feltNow.data.toList.drop 0 = dktX5_feltNow_0 := by decide +kernel
theorem dX5_feltNow_0 : decode cX5_feltNow 0 = .ok (.aload_n 0, 1) := dk_42 (dk_at dksX5_feltNow_0 0 rfl rfl)
theorem dX5_feltNow_1 : decode cX5_feltNow 1 = .ok (.iload_n 1, 1) := dk_27 (dk_at dksX5_feltNow_0 1 rfl rfl)
theorem dX5_feltNow_2 : decode cX5_feltNow 2 = .ok (.iconst 3, 1) := dk_6 (dk_at dksX5_feltNow_0 2 rfl rfl)
theorem dX5_feltNow_3 : decode cX5_feltNow 3 = .ok (.invokevirtual 189, 3) := dk_182 0 189 (dk_at dksX5_feltNow_0 3 rfl rfl)
theorem dX5_feltNow_6 : decode cX5_feltNow 6 = .ok (.aload_n 0, 1) := dk_42 (dk_at dksX5_feltNow_0 6 rfl rfl)
theorem dX5_feltNow_7 : decode cX5_feltNow 7 = .ok (.iconst 2, 1) := dk_5 (dk_at dksX5_feltNow_0 7 rfl rfl)
theorem dX5_feltNow_8 : decode cX5_feltNow 8 = .ok (.invokevirtual 245, 3) := dk_182 0 245 (dk_at dksX5_feltNow_0 8 rfl rfl)
theorem dX5_feltNow_11 : decode cX5_feltNow 11 = .ok (.imul, 1) := dk_104 (dk_at dksX5_feltNow_0 11 rfl rfl)
theorem dX5_feltNow_12 : decode cX5_feltNow 12 = .ok (.aload_n 0, 1) := dk_42 (dk_at dksX5_feltNow_0 12 rfl rfl)
theorem dX5_feltNow_13 : decode cX5_feltNow 13 = .ok (.iconst 4, 1) := dk_7 (dk_at dksX5_feltNow_0 13 rfl rfl)
theorem dX5_feltNow_14 : decode cX5_feltNow 14 = .ok (.invokevirtual 245, 3) := dk_182 0 245 (dk_at dksX5_feltNow_0 14 rfl rfl)
theorem dX5_feltNow_17 : decode cX5_feltNow 17 = .ok (.iadd, 1) := dk_96 (dk_at dksX5_feltNow_0 17 rfl rfl)
theorem dX5_feltNow_18 : decode cX5_feltNow 18 = .ok (.ireturn, 1) := dk_172 (dk_at dksX5_feltNow_0 18 rfl rfl)
abbrev cX5_uses : ByteArray := prog_17_method_64_code
def yX5_uses : MethodName := ⟨RX5, "uses", "(II)Z"⟩
def dkwX5_uses_1 : List UInt8 := [182, 0, 176, 154, 0, 16, 42, 27, 28, 182, 1, 5, 153, 0, 7, 4, 167, 0, 4, 3, 172]
abbrev dktX5_uses_1 : List UInt8 := dkwX5_uses_1 ++ []
def dkwX5_uses_0 : List UInt8 := [42, 42, 27, 182, 0, 186, 153, 0, 15, 42, 28, 182, 0, 182, 153, 0, 7, 4, 167, 0, 4, 3, 4]
abbrev dktX5_uses_0 : List UInt8 := dkwX5_uses_0 ++ dktX5_uses_1
theorem dksX5_uses_0 : cX5_uses.data.toList.drop 0 = dktX5_uses_0 := by decide +kernel
theorem dksX5_uses_1 : cX5_uses.data.toList.drop 23 = dktX5_uses_1 := dk_seg dksX5_uses_0 23 rfl rfl
theorem dX5_uses_0 : decode cX5_uses 0 = .ok (.aload_n 0, 1) := dk_42 (dk_at dksX5_uses_0 0 rfl rfl)
theorem dX5_uses_1 : decode cX5_uses 1 = .ok (.aload_n 0, 1) := dk_42 (dk_at dksX5_uses_0 1 rfl rfl)
theorem dX5_uses_2 : decode cX5_uses 2 = .ok (.iload_n 1, 1) := dk_27 (dk_at dksX5_uses_0 2 rfl rfl)
theorem dX5_uses_3 : decode cX5_uses 3 = .ok (.invokevirtual 186, 3) := dk_182 0 186 (dk_at dksX5_uses_0 3 rfl rfl)
theorem dX5_uses_6 : decode cX5_uses 6 = .ok (.ifCond .eq 15, 3) := dk_153 0 15 (dk_at dksX5_uses_0 6 rfl rfl)
theorem dX5_uses_9 : decode cX5_uses 9 = .ok (.aload_n 0, 1) := dk_42 (dk_at dksX5_uses_0 9 rfl rfl)
theorem dX5_uses_10 : decode cX5_uses 10 = .ok (.iload_n 2, 1) := dk_28 (dk_at dksX5_uses_0 10 rfl rfl)
theorem dX5_uses_11 : decode cX5_uses 11 = .ok (.invokevirtual 182, 3) := dk_182 0 182 (dk_at dksX5_uses_0 11 rfl rfl)
theorem dX5_uses_14 : decode cX5_uses 14 = .ok (.ifCond .eq 7, 3) := dk_153 0 7 (dk_at dksX5_uses_0 14 rfl rfl)
theorem dX5_uses_17 : decode cX5_uses 17 = .ok (.iconst 1, 1) := dk_4 (dk_at dksX5_uses_0 17 rfl rfl)
theorem dX5_uses_18 : decode cX5_uses 18 = .ok (.goto 4, 3) := dk_167 0 4 (dk_at dksX5_uses_0 18 rfl rfl)
theorem dX5_uses_21 : decode cX5_uses 21 = .ok (.iconst 0, 1) := dk_3 (dk_at dksX5_uses_0 21 rfl rfl)
theorem dX5_uses_22 : decode cX5_uses 22 = .ok (.iconst 1, 1) := dk_4 (dk_at dksX5_uses_0 22 rfl rfl)
theorem dX5_uses_23 : decode cX5_uses 23 = .ok (.invokevirtual 176, 3) := dk_182 0 176 (dk_at dksX5_uses_1 0 rfl rfl)
theorem dX5_uses_26 : decode cX5_uses 26 = .ok (.ifCond .ne 16, 3) := dk_154 0 16 (dk_at dksX5_uses_1 3 rfl rfl)
theorem dX5_uses_29 : decode cX5_uses 29 = .ok (.aload_n 0, 1) := dk_42 (dk_at dksX5_uses_1 6 rfl rfl)
theorem dX5_uses_30 : decode cX5_uses 30 = .ok (.iload_n 1, 1) := dk_27 (dk_at dksX5_uses_1 7 rfl rfl)
theorem dX5_uses_31 : decode cX5_uses 31 = .ok (.iload_n 2, 1) := dk_28 (dk_at dksX5_uses_1 8 rfl rfl)
theorem dX5_uses_32 : decode cX5_uses 32 = .ok (.invokevirtual 261, 3) := dk_182 1 5 (dk_at dksX5_uses_1 9 rfl rfl)
theorem dX5_uses_35 : decode cX5_uses 35 = .ok (.ifCond .eq 7, 3) := dk_153 0 7 (dk_at dksX5_uses_1 12 rfl rfl)
theorem dX5_uses_38 : decode cX5_uses 38 = .ok (.iconst 1, 1) := dk_4 (dk_at dksX5_uses_1 15 rfl rfl)
theorem dX5_uses_39 : decode cX5_uses 39 = .ok (.goto 4, 3) := dk_167 0 4 (dk_at dksX5_uses_1 16 rfl rfl)
theorem dX5_uses_42 : decode cX5_uses 42 = .ok (.iconst 0, 1) := dk_3 (dk_at dksX5_uses_1 19 rfl rfl)
theorem dX5_uses_43 : decode cX5_uses 43 = .ok (.ireturn, 1) := dk_172 (dk_at dksX5_uses_1 20 rfl rfl)
abbrev cX5_doesUse : ByteArray := prog_17_method_63_code
def yX5_doesUse : MethodName := ⟨RX5, "doesUse", "(II)Z"⟩
def dkwX5_doesUse_0 : List UInt8 := [42, 27, 182, 0, 249, 153, 0, 15, 42, 28, 182, 1, 2, 153, 0, 7, 4, 167, 0, 4, 3, 172]
abbrev dktX5_doesUse_0 : List UInt8 := dkwX5_doesUse_0 ++ []
theorem dksX5_doesUse_0 : cX5_doesUse.data.toList.drop 0 = dktX5_doesUse_0 := by decide +kernel
theorem dX5_doesUse_0 : decode cX5_doesUse 0 = .ok (.aload_n 0, 1) := dk_42 (dk_at dksX5_doesUse_0 0 rfl rfl)
theorem dX5_doesUse_1 : decode cX5_doesUse 1 = .ok (.iload_n 1, 1) := dk_27 (dk_at dksX5_doesUse_0 1 rfl rfl)
theorem dX5_doesUse_2 : decode cX5_doesUse 2 = .ok (.invokevirtual 249, 3) := dk_182 0 249 (dk_at dksX5_doesUse_0 2 rfl rfl)
theorem dX5_doesUse_5 : decode cX5_doesUse 5 = .ok (.ifCond .eq 15, 3) := dk_153 0 15 (dk_at dksX5_doesUse_0 5 rfl rfl)
theorem dX5_doesUse_8 : decode cX5_doesUse 8 = .ok (.aload_n 0, 1) := dk_42 (dk_at dksX5_doesUse_0 8 rfl rfl)
theorem dX5_doesUse_9 : decode cX5_doesUse 9 = .ok (.iload_n 2, 1) := dk_28 (dk_at dksX5_doesUse_0 9 rfl rfl)
theorem dX5_doesUse_10 : decode cX5_doesUse 10 = .ok (.invokevirtual 258, 3) := dk_182 1 2 (dk_at dksX5_doesUse_0 10 rfl rfl)
theorem dX5_doesUse_13 : decode cX5_doesUse 13 = .ok (.ifCond .eq 7, 3) := dk_153 0 7 (dk_at dksX5_doesUse_0 13 rfl rfl)
theorem dX5_doesUse_16 : decode cX5_doesUse 16 = .ok (.iconst 1, 1) := dk_4 (dk_at dksX5_doesUse_0 16 rfl rfl)
theorem dX5_doesUse_17 : decode cX5_doesUse 17 = .ok (.goto 4, 3) := dk_167 0 4 (dk_at dksX5_doesUse_0 17 rfl rfl)
theorem dX5_doesUse_20 : decode cX5_doesUse 20 = .ok (.iconst 0, 1) := dk_3 (dk_at dksX5_doesUse_0 20 rfl rfl)
theorem dX5_doesUse_21 : decode cX5_doesUse 21 = .ok (.ireturn, 1) := dk_172 (dk_at dksX5_doesUse_0 21 rfl rfl)
abbrev cX5_isOnPath : ByteArray := prog_17_method_55_code
def yX5_isOnPath : MethodName := ⟨RX5, "isOnPath", "(I)Z"⟩
def dkwX5_isOnPath_1 : List UInt8 := [132, 2, 1, 167, 255, 233, 3, 172]
abbrev dktX5_isOnPath_1 : List UInt8 := dkwX5_isOnPath_1 ++ []
def dkwX5_isOnPath_0 : List UInt8 := [3, 61, 28, 42, 180, 0, 235, 162, 0, 21, 42, 180, 0, 43, 28, 46, 27, 160, 0, 5, 4, 172]
abbrev dktX5_isOnPath_0 : List UInt8 := dkwX5_isOnPath_0 ++ dktX5_isOnPath_1
theorem dksX5_isOnPath_0 : cX5_isOnPath.data.toList.drop 0 = dktX5_isOnPath_0 := by decide +kernel
theorem dksX5_isOnPath_1 : cX5_isOnPath.data.toList.drop 22 = dktX5_isOnPath_1 := dk_seg dksX5_isOnPath_0 22 rfl rfl
theorem dX5_isOnPath_0 : decode cX5_isOnPath 0 = .ok (.iconst 0, 1) := dk_3 (dk_at dksX5_isOnPath_0 0 rfl rfl)
theorem dX5_isOnPath_1 : decode cX5_isOnPath 1 = .ok (.istore_n 2, 1) := dk_61 (dk_at dksX5_isOnPath_0 1 rfl rfl)
theorem dX5_isOnPath_2 : decode cX5_isOnPath 2 = .ok (.iload_n 2, 1) := dk_28 (dk_at dksX5_isOnPath_0 2 rfl rfl)
theorem dX5_isOnPath_3 : decode cX5_isOnPath 3 = .ok (.aload_n 0, 1) := dk_42 (dk_at dksX5_isOnPath_0 3 rfl rfl)
theorem dX5_isOnPath_4 : decode cX5_isOnPath 4 = .ok (.getfield 235, 3) := dk_180 0 235 (dk_at dksX5_isOnPath_0 4 rfl rfl)
theorem dX5_isOnPath_7 : decode cX5_isOnPath 7 = .ok (.if_icmp .ge 21, 3) := dk_162 0 21 (dk_at dksX5_isOnPath_0 7 rfl rfl)
theorem dX5_isOnPath_10 : decode cX5_isOnPath 10 = .ok (.aload_n 0, 1) := dk_42 (dk_at dksX5_isOnPath_0 10 rfl rfl)
theorem dX5_isOnPath_11 : decode cX5_isOnPath 11 = .ok (.getfield 43, 3) := dk_180 0 43 (dk_at dksX5_isOnPath_0 11 rfl rfl)
theorem dX5_isOnPath_14 : decode cX5_isOnPath 14 = .ok (.iload_n 2, 1) := dk_28 (dk_at dksX5_isOnPath_0 14 rfl rfl)
theorem dX5_isOnPath_15 : decode cX5_isOnPath 15 = .ok (.iaload, 1) := dk_46 (dk_at dksX5_isOnPath_0 15 rfl rfl)
theorem dX5_isOnPath_16 : decode cX5_isOnPath 16 = .ok (.iload_n 1, 1) := dk_27 (dk_at dksX5_isOnPath_0 16 rfl rfl)
theorem dX5_isOnPath_17 : decode cX5_isOnPath 17 = .ok (.if_icmp .ne 5, 3) := dk_160 0 5 (dk_at dksX5_isOnPath_0 17 rfl rfl)
theorem dX5_isOnPath_20 : decode cX5_isOnPath 20 = .ok (.iconst 1, 1) := dk_4 (dk_at dksX5_isOnPath_0 20 rfl rfl)
theorem dX5_isOnPath_21 : decode cX5_isOnPath 21 = .ok (.ireturn, 1) := dk_172 (dk_at dksX5_isOnPath_0 21 rfl rfl)
theorem dX5_isOnPath_22 : decode cX5_isOnPath 22 = .ok (.iinc 2 1, 3) := dk_132 2 1 (dk_at dksX5_isOnPath_1 0 rfl rfl)
theorem dX5_isOnPath_25 : decode cX5_isOnPath 25 = .ok (.goto (-23), 3) := dk_167 255 233 (dk_at dksX5_isOnPath_1 3 rfl rfl)
theorem dX5_isOnPath_28 : decode cX5_isOnPath 28 = .ok (.iconst 0, 1) := dk_3 (dk_at dksX5_isOnPath_1 6 rfl rfl)
theorem dX5_isOnPath_29 : decode cX5_isOnPath 29 = .ok (.ireturn, 1) := dk_172 (dk_at dksX5_isOnPath_1 7 rfl rfl)
abbrev cX5_users : ByteArray := prog_17_method_66_code
def yX5_users : MethodName := ⟨RX5, "users", "(I)I"⟩
def dkwX5_users_0 : List UInt8 := [42, 42, 27, 182, 0, 182, 4, 182, 0, 176, 153, 0, 7, 3, 167, 0, 8, 42, 27, 182, 1, 8, 172]
abbrev dktX5_users_0 : List UInt8 := dkwX5_users_0 ++ []
theorem dksX5_users_0 : cX5_users.data.toList.drop 0 = dktX5_users_0 := by decide +kernel
theorem dX5_users_0 : decode cX5_users 0 = .ok (.aload_n 0, 1) := dk_42 (dk_at dksX5_users_0 0 rfl rfl)
theorem dX5_users_1 : decode cX5_users 1 = .ok (.aload_n 0, 1) := dk_42 (dk_at dksX5_users_0 1 rfl rfl)
theorem dX5_users_2 : decode cX5_users 2 = .ok (.iload_n 1, 1) := dk_27 (dk_at dksX5_users_0 2 rfl rfl)
theorem dX5_users_3 : decode cX5_users 3 = .ok (.invokevirtual 182, 3) := dk_182 0 182 (dk_at dksX5_users_0 3 rfl rfl)
theorem dX5_users_6 : decode cX5_users 6 = .ok (.iconst 1, 1) := dk_4 (dk_at dksX5_users_0 6 rfl rfl)
theorem dX5_users_7 : decode cX5_users 7 = .ok (.invokevirtual 176, 3) := dk_182 0 176 (dk_at dksX5_users_0 7 rfl rfl)
theorem dX5_users_10 : decode cX5_users 10 = .ok (.ifCond .eq 7, 3) := dk_153 0 7 (dk_at dksX5_users_0 10 rfl rfl)
theorem dX5_users_13 : decode cX5_users 13 = .ok (.iconst 0, 1) := dk_3 (dk_at dksX5_users_0 13 rfl rfl)
theorem dX5_users_14 : decode cX5_users 14 = .ok (.goto 8, 3) := dk_167 0 8 (dk_at dksX5_users_0 14 rfl rfl)
theorem dX5_users_17 : decode cX5_users 17 = .ok (.aload_n 0, 1) := dk_42 (dk_at dksX5_users_0 17 rfl rfl)
theorem dX5_users_18 : decode cX5_users 18 = .ok (.iload_n 1, 1) := dk_27 (dk_at dksX5_users_0 18 rfl rfl)
theorem dX5_users_19 : decode cX5_users 19 = .ok (.invokevirtual 264, 3) := dk_182 1 8 (dk_at dksX5_users_0 19 rfl rfl)
theorem dX5_users_22 : decode cX5_users 22 = .ok (.ireturn, 1) := dk_172 (dk_at dksX5_users_0 22 rfl rfl)
abbrev cX5_usersOf : ByteArray := prog_17_method_65_code
def yX5_usersOf : MethodName := ⟨RX5, "usersOf", "(I)I"⟩
def dkwX5_usersOf_1 : List UInt8 := [4, 29, 120, 167, 0, 4, 3, 128, 61, 132, 3, 1, 167, 255, 224, 28, 172]
abbrev dktX5_usersOf_1 : List UInt8 := dkwX5_usersOf_1 ++ []
def dkwX5_usersOf_0 : List UInt8 := [3, 61, 3, 62, 29, 42, 180, 0, 11, 5, 46, 162, 0, 28, 28, 42, 29, 27, 182, 1, 5, 153, 0, 9]
abbrev dktX5_usersOf_0 : List UInt8 := dkwX5_usersOf_0 ++ dktX5_usersOf_1
theorem dksX5_usersOf_0 : cX5_usersOf.data.toList.drop 0 = dktX5_usersOf_0 := by decide +kernel
theorem dksX5_usersOf_1 : cX5_usersOf.data.toList.drop 24 = dktX5_usersOf_1 := dk_seg dksX5_usersOf_0 24 rfl rfl
theorem dX5_usersOf_0 : decode cX5_usersOf 0 = .ok (.iconst 0, 1) := dk_3 (dk_at dksX5_usersOf_0 0 rfl rfl)
theorem dX5_usersOf_1 : decode cX5_usersOf 1 = .ok (.istore_n 2, 1) := dk_61 (dk_at dksX5_usersOf_0 1 rfl rfl)
theorem dX5_usersOf_2 : decode cX5_usersOf 2 = .ok (.iconst 0, 1) := dk_3 (dk_at dksX5_usersOf_0 2 rfl rfl)
theorem dX5_usersOf_3 : decode cX5_usersOf 3 = .ok (.istore_n 3, 1) := dk_62 (dk_at dksX5_usersOf_0 3 rfl rfl)
theorem dX5_usersOf_4 : decode cX5_usersOf 4 = .ok (.iload_n 3, 1) := dk_29 (dk_at dksX5_usersOf_0 4 rfl rfl)
theorem dX5_usersOf_5 : decode cX5_usersOf 5 = .ok (.aload_n 0, 1) := dk_42 (dk_at dksX5_usersOf_0 5 rfl rfl)
theorem dX5_usersOf_6 : decode cX5_usersOf 6 = .ok (.getfield 11, 3) := dk_180 0 11 (dk_at dksX5_usersOf_0 6 rfl rfl)
theorem dX5_usersOf_9 : decode cX5_usersOf 9 = .ok (.iconst 2, 1) := dk_5 (dk_at dksX5_usersOf_0 9 rfl rfl)
theorem dX5_usersOf_10 : decode cX5_usersOf 10 = .ok (.iaload, 1) := dk_46 (dk_at dksX5_usersOf_0 10 rfl rfl)
theorem dX5_usersOf_11 : decode cX5_usersOf 11 = .ok (.if_icmp .ge 28, 3) := dk_162 0 28 (dk_at dksX5_usersOf_0 11 rfl rfl)
theorem dX5_usersOf_14 : decode cX5_usersOf 14 = .ok (.iload_n 2, 1) := dk_28 (dk_at dksX5_usersOf_0 14 rfl rfl)
theorem dX5_usersOf_15 : decode cX5_usersOf 15 = .ok (.aload_n 0, 1) := dk_42 (dk_at dksX5_usersOf_0 15 rfl rfl)
theorem dX5_usersOf_16 : decode cX5_usersOf 16 = .ok (.iload_n 3, 1) := dk_29 (dk_at dksX5_usersOf_0 16 rfl rfl)
theorem dX5_usersOf_17 : decode cX5_usersOf 17 = .ok (.iload_n 1, 1) := dk_27 (dk_at dksX5_usersOf_0 17 rfl rfl)
theorem dX5_usersOf_18 : decode cX5_usersOf 18 = .ok (.invokevirtual 261, 3) := dk_182 1 5 (dk_at dksX5_usersOf_0 18 rfl rfl)
theorem dX5_usersOf_21 : decode cX5_usersOf 21 = .ok (.ifCond .eq 9, 3) := dk_153 0 9 (dk_at dksX5_usersOf_0 21 rfl rfl)
theorem dX5_usersOf_24 : decode cX5_usersOf 24 = .ok (.iconst 1, 1) := dk_4 (dk_at dksX5_usersOf_1 0 rfl rfl)
theorem dX5_usersOf_25 : decode cX5_usersOf 25 = .ok (.iload_n 3, 1) := dk_29 (dk_at dksX5_usersOf_1 1 rfl rfl)
theorem dX5_usersOf_26 : decode cX5_usersOf 26 = .ok (.ishl, 1) := dk_120 (dk_at dksX5_usersOf_1 2 rfl rfl)
theorem dX5_usersOf_27 : decode cX5_usersOf 27 = .ok (.goto 4, 3) := dk_167 0 4 (dk_at dksX5_usersOf_1 3 rfl rfl)
theorem dX5_usersOf_30 : decode cX5_usersOf 30 = .ok (.iconst 0, 1) := dk_3 (dk_at dksX5_usersOf_1 6 rfl rfl)
theorem dX5_usersOf_31 : decode cX5_usersOf 31 = .ok (.ior, 1) := dk_128 (dk_at dksX5_usersOf_1 7 rfl rfl)
theorem dX5_usersOf_32 : decode cX5_usersOf 32 = .ok (.istore_n 2, 1) := dk_61 (dk_at dksX5_usersOf_1 8 rfl rfl)
theorem dX5_usersOf_33 : decode cX5_usersOf 33 = .ok (.iinc 3 1, 3) := dk_132 3 1 (dk_at dksX5_usersOf_1 9 rfl rfl)
theorem dX5_usersOf_36 : decode cX5_usersOf 36 = .ok (.goto (-32), 3) := dk_167 255 224 (dk_at dksX5_usersOf_1 12 rfl rfl)
theorem dX5_usersOf_39 : decode cX5_usersOf 39 = .ok (.iload_n 2, 1) := dk_28 (dk_at dksX5_usersOf_1 15 rfl rfl)
theorem dX5_usersOf_40 : decode cX5_usersOf 40 = .ok (.ireturn, 1) := dk_172 (dk_at dksX5_usersOf_1 16 rfl rfl)
abbrev cX5_flow : ByteArray := prog_17_method_68_code
def yX5_flow : MethodName := ⟨RX5, "flow", "(I)I"⟩
def dkwX5_flow_0 : List UInt8 := [42, 42, 27, 182, 0, 182, 4, 182, 0, 176, 153, 0, 7, 3, 167, 0, 8, 42, 27, 182, 1, 11, 172]
abbrev dktX5_flow_0 : List UInt8 := dkwX5_flow_0 ++ []
theorem dksX5_flow_0 : cX5_flow.data.toList.drop 0 = dktX5_flow_0 := by decide +kernel
theorem dX5_flow_0 : decode cX5_flow 0 = .ok (.aload_n 0, 1) := dk_42 (dk_at dksX5_flow_0 0 rfl rfl)
theorem dX5_flow_1 : decode cX5_flow 1 = .ok (.aload_n 0, 1) := dk_42 (dk_at dksX5_flow_0 1 rfl rfl)
theorem dX5_flow_2 : decode cX5_flow 2 = .ok (.iload_n 1, 1) := dk_27 (dk_at dksX5_flow_0 2 rfl rfl)
theorem dX5_flow_3 : decode cX5_flow 3 = .ok (.invokevirtual 182, 3) := dk_182 0 182 (dk_at dksX5_flow_0 3 rfl rfl)
theorem dX5_flow_6 : decode cX5_flow 6 = .ok (.iconst 1, 1) := dk_4 (dk_at dksX5_flow_0 6 rfl rfl)
theorem dX5_flow_7 : decode cX5_flow 7 = .ok (.invokevirtual 176, 3) := dk_182 0 176 (dk_at dksX5_flow_0 7 rfl rfl)
theorem dX5_flow_10 : decode cX5_flow 10 = .ok (.ifCond .eq 7, 3) := dk_153 0 7 (dk_at dksX5_flow_0 10 rfl rfl)
theorem dX5_flow_13 : decode cX5_flow 13 = .ok (.iconst 0, 1) := dk_3 (dk_at dksX5_flow_0 13 rfl rfl)
theorem dX5_flow_14 : decode cX5_flow 14 = .ok (.goto 8, 3) := dk_167 0 8 (dk_at dksX5_flow_0 14 rfl rfl)
theorem dX5_flow_17 : decode cX5_flow 17 = .ok (.aload_n 0, 1) := dk_42 (dk_at dksX5_flow_0 17 rfl rfl)
theorem dX5_flow_18 : decode cX5_flow 18 = .ok (.iload_n 1, 1) := dk_27 (dk_at dksX5_flow_0 18 rfl rfl)
theorem dX5_flow_19 : decode cX5_flow 19 = .ok (.invokevirtual 267, 3) := dk_182 1 11 (dk_at dksX5_flow_0 19 rfl rfl)
theorem dX5_flow_22 : decode cX5_flow 22 = .ok (.ireturn, 1) := dk_172 (dk_at dksX5_flow_0 22 rfl rfl)
abbrev cX5_flowOn : ByteArray := prog_17_method_67_code
def yX5_flowOn : MethodName := ⟨RX5, "flowOn", "(I)I"⟩
def dkwX5_flowOn_2 : List UInt8 := [167, 255, 219, 29, 172]
abbrev dktX5_flowOn_2 : List UInt8 := dkwX5_flowOn_2 ++ []
def dkwX5_flowOn_1 : List UInt8 := [21, 4, 184, 0, 206, 153, 0, 13, 42, 21, 4, 5, 182, 0, 189, 167, 0, 4, 3, 96, 62, 132, 4, 1]
abbrev dktX5_flowOn_1 : List UInt8 := dkwX5_flowOn_1 ++ dktX5_flowOn_2
def dkwX5_flowOn_0 : List UInt8 := [42, 27, 182, 1, 8, 61, 3, 62, 3, 54, 4, 21, 4, 42, 180, 0, 11, 5, 46, 162, 0, 32, 29, 28]
abbrev dktX5_flowOn_0 : List UInt8 := dkwX5_flowOn_0 ++ dktX5_flowOn_1
theorem dksX5_flowOn_0 : cX5_flowOn.data.toList.drop 0 = dktX5_flowOn_0 := by decide +kernel
theorem dksX5_flowOn_1 : cX5_flowOn.data.toList.drop 24 = dktX5_flowOn_1 := dk_seg dksX5_flowOn_0 24 rfl rfl
theorem dksX5_flowOn_2 : cX5_flowOn.data.toList.drop 48 = dktX5_flowOn_2 := dk_seg dksX5_flowOn_1 24 rfl rfl
theorem dX5_flowOn_0 : decode cX5_flowOn 0 = .ok (.aload_n 0, 1) := dk_42 (dk_at dksX5_flowOn_0 0 rfl rfl)
theorem dX5_flowOn_1 : decode cX5_flowOn 1 = .ok (.iload_n 1, 1) := dk_27 (dk_at dksX5_flowOn_0 1 rfl rfl)
theorem dX5_flowOn_2 : decode cX5_flowOn 2 = .ok (.invokevirtual 264, 3) := dk_182 1 8 (dk_at dksX5_flowOn_0 2 rfl rfl)
theorem dX5_flowOn_5 : decode cX5_flowOn 5 = .ok (.istore_n 2, 1) := dk_61 (dk_at dksX5_flowOn_0 5 rfl rfl)
theorem dX5_flowOn_6 : decode cX5_flowOn 6 = .ok (.iconst 0, 1) := dk_3 (dk_at dksX5_flowOn_0 6 rfl rfl)
theorem dX5_flowOn_7 : decode cX5_flowOn 7 = .ok (.istore_n 3, 1) := dk_62 (dk_at dksX5_flowOn_0 7 rfl rfl)
theorem dX5_flowOn_8 : decode cX5_flowOn 8 = .ok (.iconst 0, 1) := dk_3 (dk_at dksX5_flowOn_0 8 rfl rfl)
theorem dX5_flowOn_9 : decode cX5_flowOn 9 = .ok (.istore 4, 2) := dk_54 4 (dk_at dksX5_flowOn_0 9 rfl rfl)
theorem dX5_flowOn_11 : decode cX5_flowOn 11 = .ok (.iload 4, 2) := dk_21 4 (dk_at dksX5_flowOn_0 11 rfl rfl)
theorem dX5_flowOn_13 : decode cX5_flowOn 13 = .ok (.aload_n 0, 1) := dk_42 (dk_at dksX5_flowOn_0 13 rfl rfl)
theorem dX5_flowOn_14 : decode cX5_flowOn 14 = .ok (.getfield 11, 3) := dk_180 0 11 (dk_at dksX5_flowOn_0 14 rfl rfl)
theorem dX5_flowOn_17 : decode cX5_flowOn 17 = .ok (.iconst 2, 1) := dk_5 (dk_at dksX5_flowOn_0 17 rfl rfl)
theorem dX5_flowOn_18 : decode cX5_flowOn 18 = .ok (.iaload, 1) := dk_46 (dk_at dksX5_flowOn_0 18 rfl rfl)
theorem dX5_flowOn_19 : decode cX5_flowOn 19 = .ok (.if_icmp .ge 32, 3) := dk_162 0 32 (dk_at dksX5_flowOn_0 19 rfl rfl)
theorem dX5_flowOn_22 : decode cX5_flowOn 22 = .ok (.iload_n 3, 1) := dk_29 (dk_at dksX5_flowOn_0 22 rfl rfl)
theorem dX5_flowOn_23 : decode cX5_flowOn 23 = .ok (.iload_n 2, 1) := dk_28 (dk_at dksX5_flowOn_0 23 rfl rfl)
theorem dX5_flowOn_24 : decode cX5_flowOn 24 = .ok (.iload 4, 2) := dk_21 4 (dk_at dksX5_flowOn_1 0 rfl rfl)
theorem dX5_flowOn_26 : decode cX5_flowOn 26 = .ok (.invokestatic 206, 3) := dk_184 0 206 (dk_at dksX5_flowOn_1 2 rfl rfl)
theorem dX5_flowOn_29 : decode cX5_flowOn 29 = .ok (.ifCond .eq 13, 3) := dk_153 0 13 (dk_at dksX5_flowOn_1 5 rfl rfl)
theorem dX5_flowOn_32 : decode cX5_flowOn 32 = .ok (.aload_n 0, 1) := dk_42 (dk_at dksX5_flowOn_1 8 rfl rfl)
theorem dX5_flowOn_33 : decode cX5_flowOn 33 = .ok (.iload 4, 2) := dk_21 4 (dk_at dksX5_flowOn_1 9 rfl rfl)
theorem dX5_flowOn_35 : decode cX5_flowOn 35 = .ok (.iconst 2, 1) := dk_5 (dk_at dksX5_flowOn_1 11 rfl rfl)
theorem dX5_flowOn_36 : decode cX5_flowOn 36 = .ok (.invokevirtual 189, 3) := dk_182 0 189 (dk_at dksX5_flowOn_1 12 rfl rfl)
theorem dX5_flowOn_39 : decode cX5_flowOn 39 = .ok (.goto 4, 3) := dk_167 0 4 (dk_at dksX5_flowOn_1 15 rfl rfl)
theorem dX5_flowOn_42 : decode cX5_flowOn 42 = .ok (.iconst 0, 1) := dk_3 (dk_at dksX5_flowOn_1 18 rfl rfl)
theorem dX5_flowOn_43 : decode cX5_flowOn 43 = .ok (.iadd, 1) := dk_96 (dk_at dksX5_flowOn_1 19 rfl rfl)
theorem dX5_flowOn_44 : decode cX5_flowOn 44 = .ok (.istore_n 3, 1) := dk_62 (dk_at dksX5_flowOn_1 20 rfl rfl)
theorem dX5_flowOn_45 : decode cX5_flowOn 45 = .ok (.iinc 4 1, 3) := dk_132 4 1 (dk_at dksX5_flowOn_1 21 rfl rfl)
theorem dX5_flowOn_48 : decode cX5_flowOn 48 = .ok (.goto (-37), 3) := dk_167 255 219 (dk_at dksX5_flowOn_2 0 rfl rfl)
theorem dX5_flowOn_51 : decode cX5_flowOn 51 = .ok (.iload_n 3, 1) := dk_29 (dk_at dksX5_flowOn_2 3 rfl rfl)
theorem dX5_flowOn_52 : decode cX5_flowOn 52 = .ok (.ireturn, 1) := dk_172 (dk_at dksX5_flowOn_2 4 rfl rfl)
abbrev cX5_busiest : ByteArray := prog_17_method_69_code
def yX5_busiest : MethodName := ⟨RX5, "busiest", "()I"⟩
def dkwX5_busiest_2 : List UInt8 := [132, 3, 1, 167, 255, 217, 27, 172]
abbrev dktX5_busiest_2 : List UInt8 := dkwX5_busiest_2 ++ []
def dkwX5_busiest_1 : List UInt8 := [182, 1, 11, 54, 4, 21, 4, 28, 164, 0, 7, 29, 167, 0, 4, 27, 60, 28, 21, 4, 184, 0, 197, 61]
abbrev dktX5_busiest_1 : List UInt8 := dkwX5_busiest_1 ++ dktX5_busiest_2
def dkwX5_busiest_0 : List UInt8 := [42, 3, 181, 0, 74, 2, 60, 2, 61, 3, 62, 29, 42, 180, 0, 11, 4, 46, 162, 0, 35, 42, 29]
abbrev dktX5_busiest_0 : List UInt8 := dkwX5_busiest_0 ++ dktX5_busiest_1
theorem dksX5_busiest_0 : cX5_busiest.data.toList.drop 0 = dktX5_busiest_0 := by decide +kernel
theorem dksX5_busiest_1 : cX5_busiest.data.toList.drop 23 = dktX5_busiest_1 := dk_seg dksX5_busiest_0 23 rfl rfl
theorem dksX5_busiest_2 : cX5_busiest.data.toList.drop 47 = dktX5_busiest_2 := dk_seg dksX5_busiest_1 24 rfl rfl
theorem dX5_busiest_0 : decode cX5_busiest 0 = .ok (.aload_n 0, 1) := dk_42 (dk_at dksX5_busiest_0 0 rfl rfl)
theorem dX5_busiest_1 : decode cX5_busiest 1 = .ok (.iconst 0, 1) := dk_3 (dk_at dksX5_busiest_0 1 rfl rfl)
theorem dX5_busiest_2 : decode cX5_busiest 2 = .ok (.putfield 74, 3) := dk_181 0 74 (dk_at dksX5_busiest_0 2 rfl rfl)
theorem dX5_busiest_5 : decode cX5_busiest 5 = .ok (.iconst (-1), 1) := dk_2 (dk_at dksX5_busiest_0 5 rfl rfl)
theorem dX5_busiest_6 : decode cX5_busiest 6 = .ok (.istore_n 1, 1) := dk_60 (dk_at dksX5_busiest_0 6 rfl rfl)
theorem dX5_busiest_7 : decode cX5_busiest 7 = .ok (.iconst (-1), 1) := dk_2 (dk_at dksX5_busiest_0 7 rfl rfl)
theorem dX5_busiest_8 : decode cX5_busiest 8 = .ok (.istore_n 2, 1) := dk_61 (dk_at dksX5_busiest_0 8 rfl rfl)
theorem dX5_busiest_9 : decode cX5_busiest 9 = .ok (.iconst 0, 1) := dk_3 (dk_at dksX5_busiest_0 9 rfl rfl)
theorem dX5_busiest_10 : decode cX5_busiest 10 = .ok (.istore_n 3, 1) := dk_62 (dk_at dksX5_busiest_0 10 rfl rfl)
theorem dX5_busiest_11 : decode cX5_busiest 11 = .ok (.iload_n 3, 1) := dk_29 (dk_at dksX5_busiest_0 11 rfl rfl)
theorem dX5_busiest_12 : decode cX5_busiest 12 = .ok (.aload_n 0, 1) := dk_42 (dk_at dksX5_busiest_0 12 rfl rfl)
theorem dX5_busiest_13 : decode cX5_busiest 13 = .ok (.getfield 11, 3) := dk_180 0 11 (dk_at dksX5_busiest_0 13 rfl rfl)
theorem dX5_busiest_16 : decode cX5_busiest 16 = .ok (.iconst 1, 1) := dk_4 (dk_at dksX5_busiest_0 16 rfl rfl)
theorem dX5_busiest_17 : decode cX5_busiest 17 = .ok (.iaload, 1) := dk_46 (dk_at dksX5_busiest_0 17 rfl rfl)
theorem dX5_busiest_18 : decode cX5_busiest 18 = .ok (.if_icmp .ge 35, 3) := dk_162 0 35 (dk_at dksX5_busiest_0 18 rfl rfl)
theorem dX5_busiest_21 : decode cX5_busiest 21 = .ok (.aload_n 0, 1) := dk_42 (dk_at dksX5_busiest_0 21 rfl rfl)
theorem dX5_busiest_22 : decode cX5_busiest 22 = .ok (.iload_n 3, 1) := dk_29 (dk_at dksX5_busiest_0 22 rfl rfl)
theorem dX5_busiest_23 : decode cX5_busiest 23 = .ok (.invokevirtual 267, 3) := dk_182 1 11 (dk_at dksX5_busiest_1 0 rfl rfl)
theorem dX5_busiest_26 : decode cX5_busiest 26 = .ok (.istore 4, 2) := dk_54 4 (dk_at dksX5_busiest_1 3 rfl rfl)
theorem dX5_busiest_28 : decode cX5_busiest 28 = .ok (.iload 4, 2) := dk_21 4 (dk_at dksX5_busiest_1 5 rfl rfl)
theorem dX5_busiest_30 : decode cX5_busiest 30 = .ok (.iload_n 2, 1) := dk_28 (dk_at dksX5_busiest_1 7 rfl rfl)
theorem dX5_busiest_31 : decode cX5_busiest 31 = .ok (.if_icmp .le 7, 3) := dk_164 0 7 (dk_at dksX5_busiest_1 8 rfl rfl)
theorem dX5_busiest_34 : decode cX5_busiest 34 = .ok (.iload_n 3, 1) := dk_29 (dk_at dksX5_busiest_1 11 rfl rfl)
theorem dX5_busiest_35 : decode cX5_busiest 35 = .ok (.goto 4, 3) := dk_167 0 4 (dk_at dksX5_busiest_1 12 rfl rfl)
theorem dX5_busiest_38 : decode cX5_busiest 38 = .ok (.iload_n 1, 1) := dk_27 (dk_at dksX5_busiest_1 15 rfl rfl)
theorem dX5_busiest_39 : decode cX5_busiest 39 = .ok (.istore_n 1, 1) := dk_60 (dk_at dksX5_busiest_1 16 rfl rfl)
theorem dX5_busiest_40 : decode cX5_busiest 40 = .ok (.iload_n 2, 1) := dk_28 (dk_at dksX5_busiest_1 17 rfl rfl)
theorem dX5_busiest_41 : decode cX5_busiest 41 = .ok (.iload 4, 2) := dk_21 4 (dk_at dksX5_busiest_1 18 rfl rfl)
theorem dX5_busiest_43 : decode cX5_busiest 43 = .ok (.invokestatic 197, 3) := dk_184 0 197 (dk_at dksX5_busiest_1 20 rfl rfl)
theorem dX5_busiest_46 : decode cX5_busiest 46 = .ok (.istore_n 2, 1) := dk_61 (dk_at dksX5_busiest_1 23 rfl rfl)
theorem dX5_busiest_47 : decode cX5_busiest 47 = .ok (.iinc 3 1, 3) := dk_132 3 1 (dk_at dksX5_busiest_2 0 rfl rfl)
theorem dX5_busiest_50 : decode cX5_busiest 50 = .ok (.goto (-39), 3) := dk_167 255 217 (dk_at dksX5_busiest_2 3 rfl rfl)
theorem dX5_busiest_53 : decode cX5_busiest 53 = .ok (.iload_n 1, 1) := dk_27 (dk_at dksX5_busiest_2 6 rfl rfl)
theorem dX5_busiest_54 : decode cX5_busiest 54 = .ok (.ireturn, 1) := dk_172 (dk_at dksX5_busiest_2 7 rfl rfl)
abbrev cX5_unused : ByteArray := prog_17_method_70_code
def yX5_unused : MethodName := ⟨RX5, "unused", "()I"⟩
def dkwX5_unused_1 : List UInt8 := [182, 1, 8, 154, 0, 9, 4, 28, 120, 167, 0, 4, 3, 128, 60, 132, 2, 1, 167, 255, 225, 27, 172]
abbrev dktX5_unused_1 : List UInt8 := dkwX5_unused_1 ++ []
def dkwX5_unused_0 : List UInt8 := [42, 3, 181, 0, 74, 3, 60, 3, 61, 28, 42, 180, 0, 11, 4, 46, 162, 0, 27, 27, 42, 28]
abbrev dktX5_unused_0 : List UInt8 := dkwX5_unused_0 ++ dktX5_unused_1
theorem dksX5_unused_0 : cX5_unused.data.toList.drop 0 = dktX5_unused_0 := by decide +kernel
theorem dksX5_unused_1 : cX5_unused.data.toList.drop 22 = dktX5_unused_1 := dk_seg dksX5_unused_0 22 rfl rfl
theorem dX5_unused_0 : decode cX5_unused 0 = .ok (.aload_n 0, 1) := dk_42 (dk_at dksX5_unused_0 0 rfl rfl)
theorem dX5_unused_1 : decode cX5_unused 1 = .ok (.iconst 0, 1) := dk_3 (dk_at dksX5_unused_0 1 rfl rfl)
theorem dX5_unused_2 : decode cX5_unused 2 = .ok (.putfield 74, 3) := dk_181 0 74 (dk_at dksX5_unused_0 2 rfl rfl)
theorem dX5_unused_5 : decode cX5_unused 5 = .ok (.iconst 0, 1) := dk_3 (dk_at dksX5_unused_0 5 rfl rfl)
theorem dX5_unused_6 : decode cX5_unused 6 = .ok (.istore_n 1, 1) := dk_60 (dk_at dksX5_unused_0 6 rfl rfl)
theorem dX5_unused_7 : decode cX5_unused 7 = .ok (.iconst 0, 1) := dk_3 (dk_at dksX5_unused_0 7 rfl rfl)
theorem dX5_unused_8 : decode cX5_unused 8 = .ok (.istore_n 2, 1) := dk_61 (dk_at dksX5_unused_0 8 rfl rfl)
theorem dX5_unused_9 : decode cX5_unused 9 = .ok (.iload_n 2, 1) := dk_28 (dk_at dksX5_unused_0 9 rfl rfl)
theorem dX5_unused_10 : decode cX5_unused 10 = .ok (.aload_n 0, 1) := dk_42 (dk_at dksX5_unused_0 10 rfl rfl)
theorem dX5_unused_11 : decode cX5_unused 11 = .ok (.getfield 11, 3) := dk_180 0 11 (dk_at dksX5_unused_0 11 rfl rfl)
theorem dX5_unused_14 : decode cX5_unused 14 = .ok (.iconst 1, 1) := dk_4 (dk_at dksX5_unused_0 14 rfl rfl)
theorem dX5_unused_15 : decode cX5_unused 15 = .ok (.iaload, 1) := dk_46 (dk_at dksX5_unused_0 15 rfl rfl)
theorem dX5_unused_16 : decode cX5_unused 16 = .ok (.if_icmp .ge 27, 3) := dk_162 0 27 (dk_at dksX5_unused_0 16 rfl rfl)
theorem dX5_unused_19 : decode cX5_unused 19 = .ok (.iload_n 1, 1) := dk_27 (dk_at dksX5_unused_0 19 rfl rfl)
theorem dX5_unused_20 : decode cX5_unused 20 = .ok (.aload_n 0, 1) := dk_42 (dk_at dksX5_unused_0 20 rfl rfl)
theorem dX5_unused_21 : decode cX5_unused 21 = .ok (.iload_n 2, 1) := dk_28 (dk_at dksX5_unused_0 21 rfl rfl)
theorem dX5_unused_22 : decode cX5_unused 22 = .ok (.invokevirtual 264, 3) := dk_182 1 8 (dk_at dksX5_unused_1 0 rfl rfl)
theorem dX5_unused_25 : decode cX5_unused 25 = .ok (.ifCond .ne 9, 3) := dk_154 0 9 (dk_at dksX5_unused_1 3 rfl rfl)
theorem dX5_unused_28 : decode cX5_unused 28 = .ok (.iconst 1, 1) := dk_4 (dk_at dksX5_unused_1 6 rfl rfl)
theorem dX5_unused_29 : decode cX5_unused 29 = .ok (.iload_n 2, 1) := dk_28 (dk_at dksX5_unused_1 7 rfl rfl)
theorem dX5_unused_30 : decode cX5_unused 30 = .ok (.ishl, 1) := dk_120 (dk_at dksX5_unused_1 8 rfl rfl)
theorem dX5_unused_31 : decode cX5_unused 31 = .ok (.goto 4, 3) := dk_167 0 4 (dk_at dksX5_unused_1 9 rfl rfl)
theorem dX5_unused_34 : decode cX5_unused 34 = .ok (.iconst 0, 1) := dk_3 (dk_at dksX5_unused_1 12 rfl rfl)
theorem dX5_unused_35 : decode cX5_unused 35 = .ok (.ior, 1) := dk_128 (dk_at dksX5_unused_1 13 rfl rfl)
theorem dX5_unused_36 : decode cX5_unused 36 = .ok (.istore_n 1, 1) := dk_60 (dk_at dksX5_unused_1 14 rfl rfl)
theorem dX5_unused_37 : decode cX5_unused 37 = .ok (.iinc 2 1, 3) := dk_132 2 1 (dk_at dksX5_unused_1 15 rfl rfl)
theorem dX5_unused_40 : decode cX5_unused 40 = .ok (.goto (-31), 3) := dk_167 255 225 (dk_at dksX5_unused_1 18 rfl rfl)
theorem dX5_unused_43 : decode cX5_unused 43 = .ok (.iload_n 1, 1) := dk_27 (dk_at dksX5_unused_1 21 rfl rfl)
theorem dX5_unused_44 : decode cX5_unused 44 = .ok (.ireturn, 1) := dk_172 (dk_at dksX5_unused_1 22 rfl rfl)
abbrev cX5_ties : ByteArray := prog_17_method_75_code
def yX5_ties : MethodName := ⟨RX5, "ties", "(I)J"⟩
def dkwX5_ties_2 : List UInt8 := [182, 0, 189, 47, 173]
abbrev dktX5_ties_2 : List UInt8 := dkwX5_ties_2 ++ []
def dkwX5_ties_1 : List UInt8 := [42, 27, 3, 182, 0, 189, 46, 2, 160, 0, 7, 9, 167, 0, 14, 42, 180, 0, 55, 42, 27, 3]
abbrev dktX5_ties_1 : List UInt8 := dkwX5_ties_1 ++ dktX5_ties_2
def dkwX5_ties_0 : List UInt8 := [42, 42, 27, 182, 0, 186, 4, 182, 0, 176, 153, 0, 5, 9, 173, 42, 27, 182, 1, 29, 42, 180, 0, 46]
abbrev dktX5_ties_0 : List UInt8 := dkwX5_ties_0 ++ dktX5_ties_1
theorem dksX5_ties_0 : cX5_ties.data.toList.drop 0 = dktX5_ties_0 := by decide +kernel
theorem dksX5_ties_1 : cX5_ties.data.toList.drop 24 = dktX5_ties_1 := dk_seg dksX5_ties_0 24 rfl rfl
theorem dksX5_ties_2 : cX5_ties.data.toList.drop 46 = dktX5_ties_2 := dk_seg dksX5_ties_1 22 rfl rfl
theorem dX5_ties_0 : decode cX5_ties 0 = .ok (.aload_n 0, 1) := dk_42 (dk_at dksX5_ties_0 0 rfl rfl)
theorem dX5_ties_1 : decode cX5_ties 1 = .ok (.aload_n 0, 1) := dk_42 (dk_at dksX5_ties_0 1 rfl rfl)
theorem dX5_ties_2 : decode cX5_ties 2 = .ok (.iload_n 1, 1) := dk_27 (dk_at dksX5_ties_0 2 rfl rfl)
theorem dX5_ties_3 : decode cX5_ties 3 = .ok (.invokevirtual 186, 3) := dk_182 0 186 (dk_at dksX5_ties_0 3 rfl rfl)
theorem dX5_ties_6 : decode cX5_ties 6 = .ok (.iconst 1, 1) := dk_4 (dk_at dksX5_ties_0 6 rfl rfl)
theorem dX5_ties_7 : decode cX5_ties 7 = .ok (.invokevirtual 176, 3) := dk_182 0 176 (dk_at dksX5_ties_0 7 rfl rfl)
theorem dX5_ties_10 : decode cX5_ties 10 = .ok (.ifCond .eq 5, 3) := dk_153 0 5 (dk_at dksX5_ties_0 10 rfl rfl)
theorem dX5_ties_13 : decode cX5_ties 13 = .ok (.lconst 0, 1) := dk_9 (dk_at dksX5_ties_0 13 rfl rfl)
theorem dX5_ties_14 : decode cX5_ties 14 = .ok (.lreturn, 1) := dk_173 (dk_at dksX5_ties_0 14 rfl rfl)
theorem dX5_ties_15 : decode cX5_ties 15 = .ok (.aload_n 0, 1) := dk_42 (dk_at dksX5_ties_0 15 rfl rfl)
theorem dX5_ties_16 : decode cX5_ties 16 = .ok (.iload_n 1, 1) := dk_27 (dk_at dksX5_ties_0 16 rfl rfl)
theorem dX5_ties_17 : decode cX5_ties 17 = .ok (.invokevirtual 285, 3) := dk_182 1 29 (dk_at dksX5_ties_0 17 rfl rfl)
theorem dX5_ties_20 : decode cX5_ties 20 = .ok (.aload_n 0, 1) := dk_42 (dk_at dksX5_ties_0 20 rfl rfl)
theorem dX5_ties_21 : decode cX5_ties 21 = .ok (.getfield 46, 3) := dk_180 0 46 (dk_at dksX5_ties_0 21 rfl rfl)
theorem dX5_ties_24 : decode cX5_ties 24 = .ok (.aload_n 0, 1) := dk_42 (dk_at dksX5_ties_1 0 rfl rfl)
theorem dX5_ties_25 : decode cX5_ties 25 = .ok (.iload_n 1, 1) := dk_27 (dk_at dksX5_ties_1 1 rfl rfl)
theorem dX5_ties_26 : decode cX5_ties 26 = .ok (.iconst 0, 1) := dk_3 (dk_at dksX5_ties_1 2 rfl rfl)
theorem dX5_ties_27 : decode cX5_ties 27 = .ok (.invokevirtual 189, 3) := dk_182 0 189 (dk_at dksX5_ties_1 3 rfl rfl)
theorem dX5_ties_30 : decode cX5_ties 30 = .ok (.iaload, 1) := dk_46 (dk_at dksX5_ties_1 6 rfl rfl)
theorem dX5_ties_31 : decode cX5_ties 31 = .ok (.iconst (-1), 1) := dk_2 (dk_at dksX5_ties_1 7 rfl rfl)
theorem dX5_ties_32 : decode cX5_ties 32 = .ok (.if_icmp .ne 7, 3) := dk_160 0 7 (dk_at dksX5_ties_1 8 rfl rfl)
theorem dX5_ties_35 : decode cX5_ties 35 = .ok (.lconst 0, 1) := dk_9 (dk_at dksX5_ties_1 11 rfl rfl)
theorem dX5_ties_36 : decode cX5_ties 36 = .ok (.goto 14, 3) := dk_167 0 14 (dk_at dksX5_ties_1 12 rfl rfl)
theorem dX5_ties_39 : decode cX5_ties 39 = .ok (.aload_n 0, 1) := dk_42 (dk_at dksX5_ties_1 15 rfl rfl)
theorem dX5_ties_40 : decode cX5_ties 40 = .ok (.getfield 55, 3) := dk_180 0 55 (dk_at dksX5_ties_1 16 rfl rfl)
theorem dX5_ties_43 : decode cX5_ties 43 = .ok (.aload_n 0, 1) := dk_42 (dk_at dksX5_ties_1 19 rfl rfl)
theorem dX5_ties_44 : decode cX5_ties 44 = .ok (.iload_n 1, 1) := dk_27 (dk_at dksX5_ties_1 20 rfl rfl)
theorem dX5_ties_45 : decode cX5_ties 45 = .ok (.iconst 0, 1) := dk_3 (dk_at dksX5_ties_1 21 rfl rfl)
theorem dX5_ties_46 : decode cX5_ties 46 = .ok (.invokevirtual 189, 3) := dk_182 0 189 (dk_at dksX5_ties_2 0 rfl rfl)
theorem dX5_ties_49 : decode cX5_ties 49 = .ok (.laload, 1) := dk_47 (dk_at dksX5_ties_2 3 rfl rfl)
theorem dX5_ties_50 : decode cX5_ties 50 = .ok (.lreturn, 1) := dk_173 (dk_at dksX5_ties_2 4 rfl rfl)
abbrev cX5_laysTies : ByteArray := prog_17_method_74_code
def yX5_laysTies : MethodName := ⟨RX5, "laysTies", "(I)V"⟩
def dkwX5_laysTies_9 : List UInt8 := [42, 180, 0, 46, 29, 46, 182, 1, 19, 62, 167, 255, 55, 177]
abbrev dktX5_laysTies_9 : List UInt8 := dkwX5_laysTies_9 ++ []
def dkwX5_laysTies_8 : List UInt8 := [182, 0, 180, 46, 42, 21, 4, 7, 182, 0, 180, 96, 184, 0, 126, 79, 132, 4, 1, 167, 255, 130, 42, 29]
abbrev dktX5_laysTies_8 : List UInt8 := dkwX5_laysTies_8 ++ dktX5_laysTies_9
def dkwX5_laysTies_7 : List UInt8 := [184, 0, 197, 79, 42, 180, 0, 52, 29, 42, 180, 0, 52, 29, 46, 42, 180, 0, 52, 42, 21, 4, 4]
abbrev dktX5_laysTies_7 : List UInt8 := dkwX5_laysTies_7 ++ dktX5_laysTies_8
def dkwX5_laysTies_6 : List UInt8 := [29, 46, 42, 180, 0, 49, 42, 21, 4, 4, 182, 0, 180, 46, 42, 21, 4, 7, 182, 0, 180, 96]
abbrev dktX5_laysTies_6 : List UInt8 := dkwX5_laysTies_6 ++ dktX5_laysTies_7
def dkwX5_laysTies_5 : List UInt8 := [47, 42, 180, 0, 55, 42, 21, 4, 4, 182, 0, 180, 47, 97, 80, 42, 180, 0, 49, 29, 42, 180, 0, 49]
abbrev dktX5_laysTies_5 : List UInt8 := dkwX5_laysTies_5 ++ dktX5_laysTies_6
def dkwX5_laysTies_4 : List UInt8 := [3, 182, 0, 180, 29, 160, 0, 104, 42, 27, 21, 4, 182, 1, 26, 153, 0, 94, 42, 180, 0, 55, 29, 92]
abbrev dktX5_laysTies_4 : List UInt8 := dkwX5_laysTies_4 ++ dktX5_laysTies_5
def dkwX5_laysTies_3 : List UInt8 := [167, 0, 6, 19, 1, 25, 79, 3, 54, 4, 21, 4, 42, 180, 0, 11, 4, 46, 162, 0, 121, 42, 21, 4]
abbrev dktX5_laysTies_3 : List UInt8 := dkwX5_laysTies_3 ++ dktX5_laysTies_4
def dkwX5_laysTies_2 : List UInt8 := [160, 0, 7, 3, 167, 0, 6, 19, 1, 24, 79, 42, 180, 0, 52, 29, 29, 28, 160, 0, 7, 3]
abbrev dktX5_laysTies_2 : List UInt8 := dkwX5_laysTies_2 ++ dktX5_laysTies_3
def dkwX5_laysTies_1 : List UInt8 := [42, 180, 0, 55, 29, 29, 28, 160, 0, 7, 10, 167, 0, 4, 9, 80, 42, 180, 0, 49, 29, 29, 28]
abbrev dktX5_laysTies_1 : List UInt8 := dkwX5_laysTies_1 ++ dktX5_laysTies_2
def dkwX5_laysTies_0 : List UInt8 := [42, 27, 182, 1, 16, 42, 27, 4, 182, 0, 189, 61, 42, 2, 2, 182, 1, 19, 62, 29, 2, 159, 0, 202]
abbrev dktX5_laysTies_0 : List UInt8 := dkwX5_laysTies_0 ++ dktX5_laysTies_1
theorem dksX5_laysTies_0 : cX5_laysTies.data.toList.drop 0 = dktX5_laysTies_0 := by decide +kernel
theorem dksX5_laysTies_1 : cX5_laysTies.data.toList.drop 24 = dktX5_laysTies_1 := dk_seg dksX5_laysTies_0 24 rfl rfl
theorem dksX5_laysTies_2 : cX5_laysTies.data.toList.drop 47 = dktX5_laysTies_2 := dk_seg dksX5_laysTies_1 23 rfl rfl
theorem dksX5_laysTies_3 : cX5_laysTies.data.toList.drop 69 = dktX5_laysTies_3 := dk_seg dksX5_laysTies_2 22 rfl rfl
theorem dksX5_laysTies_4 : cX5_laysTies.data.toList.drop 93 = dktX5_laysTies_4 := dk_seg dksX5_laysTies_3 24 rfl rfl
theorem dksX5_laysTies_5 : cX5_laysTies.data.toList.drop 117 = dktX5_laysTies_5 := dk_seg dksX5_laysTies_4 24 rfl rfl
theorem dksX5_laysTies_6 : cX5_laysTies.data.toList.drop 141 = dktX5_laysTies_6 := dk_seg dksX5_laysTies_5 24 rfl rfl
theorem dksX5_laysTies_7 : cX5_laysTies.data.toList.drop 163 = dktX5_laysTies_7 := dk_seg dksX5_laysTies_6 22 rfl rfl
theorem dksX5_laysTies_8 : cX5_laysTies.data.toList.drop 186 = dktX5_laysTies_8 := dk_seg dksX5_laysTies_7 23 rfl rfl
theorem dksX5_laysTies_9 : cX5_laysTies.data.toList.drop 210 = dktX5_laysTies_9 := dk_seg dksX5_laysTies_8 24 rfl rfl
theorem dX5_laysTies_0 : decode cX5_laysTies 0 = .ok (.aload_n 0, 1) := dk_42 (dk_at dksX5_laysTies_0 0 rfl rfl)
theorem dX5_laysTies_1 : decode cX5_laysTies 1 = .ok (.iload_n 1, 1) := dk_27 (dk_at dksX5_laysTies_0 1 rfl rfl)
theorem dX5_laysTies_2 : decode cX5_laysTies 2 = .ok (.invokevirtual 272, 3) := dk_182 1 16 (dk_at dksX5_laysTies_0 2 rfl rfl)
theorem dX5_laysTies_5 : decode cX5_laysTies 5 = .ok (.aload_n 0, 1) := dk_42 (dk_at dksX5_laysTies_0 5 rfl rfl)
theorem dX5_laysTies_6 : decode cX5_laysTies 6 = .ok (.iload_n 1, 1) := dk_27 (dk_at dksX5_laysTies_0 6 rfl rfl)
theorem dX5_laysTies_7 : decode cX5_laysTies 7 = .ok (.iconst 1, 1) := dk_4 (dk_at dksX5_laysTies_0 7 rfl rfl)
theorem dX5_laysTies_8 : decode cX5_laysTies 8 = .ok (.invokevirtual 189, 3) := dk_182 0 189 (dk_at dksX5_laysTies_0 8 rfl rfl)
theorem dX5_laysTies_11 : decode cX5_laysTies 11 = .ok (.istore_n 2, 1) := dk_61 (dk_at dksX5_laysTies_0 11 rfl rfl)
theorem dX5_laysTies_12 : decode cX5_laysTies 12 = .ok (.aload_n 0, 1) := dk_42 (dk_at dksX5_laysTies_0 12 rfl rfl)
theorem dX5_laysTies_13 : decode cX5_laysTies 13 = .ok (.iconst (-1), 1) := dk_2 (dk_at dksX5_laysTies_0 13 rfl rfl)
theorem dX5_laysTies_14 : decode cX5_laysTies 14 = .ok (.iconst (-1), 1) := dk_2 (dk_at dksX5_laysTies_0 14 rfl rfl)
theorem dX5_laysTies_15 : decode cX5_laysTies 15 = .ok (.invokevirtual 275, 3) := dk_182 1 19 (dk_at dksX5_laysTies_0 15 rfl rfl)
theorem dX5_laysTies_18 : decode cX5_laysTies 18 = .ok (.istore_n 3, 1) := dk_62 (dk_at dksX5_laysTies_0 18 rfl rfl)
theorem dX5_laysTies_19 : decode cX5_laysTies 19 = .ok (.iload_n 3, 1) := dk_29 (dk_at dksX5_laysTies_0 19 rfl rfl)
theorem dX5_laysTies_20 : decode cX5_laysTies 20 = .ok (.iconst (-1), 1) := dk_2 (dk_at dksX5_laysTies_0 20 rfl rfl)
theorem dX5_laysTies_21 : decode cX5_laysTies 21 = .ok (.if_icmp .eq 202, 3) := dk_159 0 202 (dk_at dksX5_laysTies_0 21 rfl rfl)
theorem dX5_laysTies_24 : decode cX5_laysTies 24 = .ok (.aload_n 0, 1) := dk_42 (dk_at dksX5_laysTies_1 0 rfl rfl)
theorem dX5_laysTies_25 : decode cX5_laysTies 25 = .ok (.getfield 55, 3) := dk_180 0 55 (dk_at dksX5_laysTies_1 1 rfl rfl)
theorem dX5_laysTies_28 : decode cX5_laysTies 28 = .ok (.iload_n 3, 1) := dk_29 (dk_at dksX5_laysTies_1 4 rfl rfl)
theorem dX5_laysTies_29 : decode cX5_laysTies 29 = .ok (.iload_n 3, 1) := dk_29 (dk_at dksX5_laysTies_1 5 rfl rfl)
theorem dX5_laysTies_30 : decode cX5_laysTies 30 = .ok (.iload_n 2, 1) := dk_28 (dk_at dksX5_laysTies_1 6 rfl rfl)
theorem dX5_laysTies_31 : decode cX5_laysTies 31 = .ok (.if_icmp .ne 7, 3) := dk_160 0 7 (dk_at dksX5_laysTies_1 7 rfl rfl)
theorem dX5_laysTies_34 : decode cX5_laysTies 34 = .ok (.lconst 1, 1) := dk_10 (dk_at dksX5_laysTies_1 10 rfl rfl)
theorem dX5_laysTies_35 : decode cX5_laysTies 35 = .ok (.goto 4, 3) := dk_167 0 4 (dk_at dksX5_laysTies_1 11 rfl rfl)
theorem dX5_laysTies_38 : decode cX5_laysTies 38 = .ok (.lconst 0, 1) := dk_9 (dk_at dksX5_laysTies_1 14 rfl rfl)
theorem dX5_laysTies_39 : decode cX5_laysTies 39 = .ok (.lastore, 1) := dk_80 (dk_at dksX5_laysTies_1 15 rfl rfl)
theorem dX5_laysTies_40 : decode cX5_laysTies 40 = .ok (.aload_n 0, 1) := dk_42 (dk_at dksX5_laysTies_1 16 rfl rfl)
theorem dX5_laysTies_41 : decode cX5_laysTies 41 = .ok (.getfield 49, 3) := dk_180 0 49 (dk_at dksX5_laysTies_1 17 rfl rfl)
theorem dX5_laysTies_44 : decode cX5_laysTies 44 = .ok (.iload_n 3, 1) := dk_29 (dk_at dksX5_laysTies_1 20 rfl rfl)
theorem dX5_laysTies_45 : decode cX5_laysTies 45 = .ok (.iload_n 3, 1) := dk_29 (dk_at dksX5_laysTies_1 21 rfl rfl)
theorem dX5_laysTies_46 : decode cX5_laysTies 46 = .ok (.iload_n 2, 1) := dk_28 (dk_at dksX5_laysTies_1 22 rfl rfl)
theorem dX5_laysTies_47 : decode cX5_laysTies 47 = .ok (.if_icmp .ne 7, 3) := dk_160 0 7 (dk_at dksX5_laysTies_2 0 rfl rfl)
theorem dX5_laysTies_50 : decode cX5_laysTies 50 = .ok (.iconst 0, 1) := dk_3 (dk_at dksX5_laysTies_2 3 rfl rfl)
theorem dX5_laysTies_51 : decode cX5_laysTies 51 = .ok (.goto 6, 3) := dk_167 0 6 (dk_at dksX5_laysTies_2 4 rfl rfl)
theorem dX5_laysTies_54 : decode cX5_laysTies 54 = .ok (.ldc_w 280, 3) := dk_19 1 24 (dk_at dksX5_laysTies_2 7 rfl rfl)
theorem dX5_laysTies_57 : decode cX5_laysTies 57 = .ok (.iastore, 1) := dk_79 (dk_at dksX5_laysTies_2 10 rfl rfl)
theorem dX5_laysTies_58 : decode cX5_laysTies 58 = .ok (.aload_n 0, 1) := dk_42 (dk_at dksX5_laysTies_2 11 rfl rfl)
theorem dX5_laysTies_59 : decode cX5_laysTies 59 = .ok (.getfield 52, 3) := dk_180 0 52 (dk_at dksX5_laysTies_2 12 rfl rfl)
theorem dX5_laysTies_62 : decode cX5_laysTies 62 = .ok (.iload_n 3, 1) := dk_29 (dk_at dksX5_laysTies_2 15 rfl rfl)
theorem dX5_laysTies_63 : decode cX5_laysTies 63 = .ok (.iload_n 3, 1) := dk_29 (dk_at dksX5_laysTies_2 16 rfl rfl)
theorem dX5_laysTies_64 : decode cX5_laysTies 64 = .ok (.iload_n 2, 1) := dk_28 (dk_at dksX5_laysTies_2 17 rfl rfl)
theorem dX5_laysTies_65 : decode cX5_laysTies 65 = .ok (.if_icmp .ne 7, 3) := dk_160 0 7 (dk_at dksX5_laysTies_2 18 rfl rfl)
theorem dX5_laysTies_68 : decode cX5_laysTies 68 = .ok (.iconst 0, 1) := dk_3 (dk_at dksX5_laysTies_2 21 rfl rfl)
theorem dX5_laysTies_69 : decode cX5_laysTies 69 = .ok (.goto 6, 3) := dk_167 0 6 (dk_at dksX5_laysTies_3 0 rfl rfl)
theorem dX5_laysTies_72 : decode cX5_laysTies 72 = .ok (.ldc_w 281, 3) := dk_19 1 25 (dk_at dksX5_laysTies_3 3 rfl rfl)
theorem dX5_laysTies_75 : decode cX5_laysTies 75 = .ok (.iastore, 1) := dk_79 (dk_at dksX5_laysTies_3 6 rfl rfl)
theorem dX5_laysTies_76 : decode cX5_laysTies 76 = .ok (.iconst 0, 1) := dk_3 (dk_at dksX5_laysTies_3 7 rfl rfl)
theorem dX5_laysTies_77 : decode cX5_laysTies 77 = .ok (.istore 4, 2) := dk_54 4 (dk_at dksX5_laysTies_3 8 rfl rfl)
theorem dX5_laysTies_79 : decode cX5_laysTies 79 = .ok (.iload 4, 2) := dk_21 4 (dk_at dksX5_laysTies_3 10 rfl rfl)
theorem dX5_laysTies_81 : decode cX5_laysTies 81 = .ok (.aload_n 0, 1) := dk_42 (dk_at dksX5_laysTies_3 12 rfl rfl)
theorem dX5_laysTies_82 : decode cX5_laysTies 82 = .ok (.getfield 11, 3) := dk_180 0 11 (dk_at dksX5_laysTies_3 13 rfl rfl)
theorem dX5_laysTies_85 : decode cX5_laysTies 85 = .ok (.iconst 1, 1) := dk_4 (dk_at dksX5_laysTies_3 16 rfl rfl)
theorem dX5_laysTies_86 : decode cX5_laysTies 86 = .ok (.iaload, 1) := dk_46 (dk_at dksX5_laysTies_3 17 rfl rfl)
theorem dX5_laysTies_87 : decode cX5_laysTies 87 = .ok (.if_icmp .ge 121, 3) := dk_162 0 121 (dk_at dksX5_laysTies_3 18 rfl rfl)
theorem dX5_laysTies_90 : decode cX5_laysTies 90 = .ok (.aload_n 0, 1) := dk_42 (dk_at dksX5_laysTies_3 21 rfl rfl)
theorem dX5_laysTies_91 : decode cX5_laysTies 91 = .ok (.iload 4, 2) := dk_21 4 (dk_at dksX5_laysTies_3 22 rfl rfl)
theorem dX5_laysTies_93 : decode cX5_laysTies 93 = .ok (.iconst 0, 1) := dk_3 (dk_at dksX5_laysTies_4 0 rfl rfl)
theorem dX5_laysTies_94 : decode cX5_laysTies 94 = .ok (.invokevirtual 180, 3) := dk_182 0 180 (dk_at dksX5_laysTies_4 1 rfl rfl)
theorem dX5_laysTies_97 : decode cX5_laysTies 97 = .ok (.iload_n 3, 1) := dk_29 (dk_at dksX5_laysTies_4 4 rfl rfl)
theorem dX5_laysTies_98 : decode cX5_laysTies 98 = .ok (.if_icmp .ne 104, 3) := dk_160 0 104 (dk_at dksX5_laysTies_4 5 rfl rfl)
theorem dX5_laysTies_101 : decode cX5_laysTies 101 = .ok (.aload_n 0, 1) := dk_42 (dk_at dksX5_laysTies_4 8 rfl rfl)
theorem dX5_laysTies_102 : decode cX5_laysTies 102 = .ok (.iload_n 1, 1) := dk_27 (dk_at dksX5_laysTies_4 9 rfl rfl)
theorem dX5_laysTies_103 : decode cX5_laysTies 103 = .ok (.iload 4, 2) := dk_21 4 (dk_at dksX5_laysTies_4 10 rfl rfl)
theorem dX5_laysTies_105 : decode cX5_laysTies 105 = .ok (.invokevirtual 282, 3) := dk_182 1 26 (dk_at dksX5_laysTies_4 12 rfl rfl)
theorem dX5_laysTies_108 : decode cX5_laysTies 108 = .ok (.ifCond .eq 94, 3) := dk_153 0 94 (dk_at dksX5_laysTies_4 15 rfl rfl)
theorem dX5_laysTies_111 : decode cX5_laysTies 111 = .ok (.aload_n 0, 1) := dk_42 (dk_at dksX5_laysTies_4 18 rfl rfl)
theorem dX5_laysTies_112 : decode cX5_laysTies 112 = .ok (.getfield 55, 3) := dk_180 0 55 (dk_at dksX5_laysTies_4 19 rfl rfl)
theorem dX5_laysTies_115 : decode cX5_laysTies 115 = .ok (.iload_n 3, 1) := dk_29 (dk_at dksX5_laysTies_4 22 rfl rfl)
theorem dX5_laysTies_116 : decode cX5_laysTies 116 = .ok (.dup2, 1) := dk_92 (dk_at dksX5_laysTies_4 23 rfl rfl)
theorem dX5_laysTies_117 : decode cX5_laysTies 117 = .ok (.laload, 1) := dk_47 (dk_at dksX5_laysTies_5 0 rfl rfl)
theorem dX5_laysTies_118 : decode cX5_laysTies 118 = .ok (.aload_n 0, 1) := dk_42 (dk_at dksX5_laysTies_5 1 rfl rfl)
theorem dX5_laysTies_119 : decode cX5_laysTies 119 = .ok (.getfield 55, 3) := dk_180 0 55 (dk_at dksX5_laysTies_5 2 rfl rfl)
theorem dX5_laysTies_122 : decode cX5_laysTies 122 = .ok (.aload_n 0, 1) := dk_42 (dk_at dksX5_laysTies_5 5 rfl rfl)
theorem dX5_laysTies_123 : decode cX5_laysTies 123 = .ok (.iload 4, 2) := dk_21 4 (dk_at dksX5_laysTies_5 6 rfl rfl)
theorem dX5_laysTies_125 : decode cX5_laysTies 125 = .ok (.iconst 1, 1) := dk_4 (dk_at dksX5_laysTies_5 8 rfl rfl)
theorem dX5_laysTies_126 : decode cX5_laysTies 126 = .ok (.invokevirtual 180, 3) := dk_182 0 180 (dk_at dksX5_laysTies_5 9 rfl rfl)
theorem dX5_laysTies_129 : decode cX5_laysTies 129 = .ok (.laload, 1) := dk_47 (dk_at dksX5_laysTies_5 12 rfl rfl)
theorem dX5_laysTies_130 : decode cX5_laysTies 130 = .ok (.ladd, 1) := dk_97 (dk_at dksX5_laysTies_5 13 rfl rfl)
theorem dX5_laysTies_131 : decode cX5_laysTies 131 = .ok (.lastore, 1) := dk_80 (dk_at dksX5_laysTies_5 14 rfl rfl)
theorem dX5_laysTies_132 : decode cX5_laysTies 132 = .ok (.aload_n 0, 1) := dk_42 (dk_at dksX5_laysTies_5 15 rfl rfl)
theorem dX5_laysTies_133 : decode cX5_laysTies 133 = .ok (.getfield 49, 3) := dk_180 0 49 (dk_at dksX5_laysTies_5 16 rfl rfl)
theorem dX5_laysTies_136 : decode cX5_laysTies 136 = .ok (.iload_n 3, 1) := dk_29 (dk_at dksX5_laysTies_5 19 rfl rfl)
theorem dX5_laysTies_137 : decode cX5_laysTies 137 = .ok (.aload_n 0, 1) := dk_42 (dk_at dksX5_laysTies_5 20 rfl rfl)
theorem dX5_laysTies_138 : decode cX5_laysTies 138 = .ok (.getfield 49, 3) := dk_180 0 49 (dk_at dksX5_laysTies_5 21 rfl rfl)
theorem dX5_laysTies_141 : decode cX5_laysTies 141 = .ok (.iload_n 3, 1) := dk_29 (dk_at dksX5_laysTies_6 0 rfl rfl)
theorem dX5_laysTies_142 : decode cX5_laysTies 142 = .ok (.iaload, 1) := dk_46 (dk_at dksX5_laysTies_6 1 rfl rfl)
theorem dX5_laysTies_143 : decode cX5_laysTies 143 = .ok (.aload_n 0, 1) := dk_42 (dk_at dksX5_laysTies_6 2 rfl rfl)
theorem dX5_laysTies_144 : decode cX5_laysTies 144 = .ok (.getfield 49, 3) := dk_180 0 49 (dk_at dksX5_laysTies_6 3 rfl rfl)
theorem dX5_laysTies_147 : decode cX5_laysTies 147 = .ok (.aload_n 0, 1) := dk_42 (dk_at dksX5_laysTies_6 6 rfl rfl)
theorem dX5_laysTies_148 : decode cX5_laysTies 148 = .ok (.iload 4, 2) := dk_21 4 (dk_at dksX5_laysTies_6 7 rfl rfl)
theorem dX5_laysTies_150 : decode cX5_laysTies 150 = .ok (.iconst 1, 1) := dk_4 (dk_at dksX5_laysTies_6 9 rfl rfl)
theorem dX5_laysTies_151 : decode cX5_laysTies 151 = .ok (.invokevirtual 180, 3) := dk_182 0 180 (dk_at dksX5_laysTies_6 10 rfl rfl)
theorem dX5_laysTies_154 : decode cX5_laysTies 154 = .ok (.iaload, 1) := dk_46 (dk_at dksX5_laysTies_6 13 rfl rfl)
theorem dX5_laysTies_155 : decode cX5_laysTies 155 = .ok (.aload_n 0, 1) := dk_42 (dk_at dksX5_laysTies_6 14 rfl rfl)
theorem dX5_laysTies_156 : decode cX5_laysTies 156 = .ok (.iload 4, 2) := dk_21 4 (dk_at dksX5_laysTies_6 15 rfl rfl)
theorem dX5_laysTies_158 : decode cX5_laysTies 158 = .ok (.iconst 4, 1) := dk_7 (dk_at dksX5_laysTies_6 17 rfl rfl)
theorem dX5_laysTies_159 : decode cX5_laysTies 159 = .ok (.invokevirtual 180, 3) := dk_182 0 180 (dk_at dksX5_laysTies_6 18 rfl rfl)
theorem dX5_laysTies_162 : decode cX5_laysTies 162 = .ok (.iadd, 1) := dk_96 (dk_at dksX5_laysTies_6 21 rfl rfl)
theorem dX5_laysTies_163 : decode cX5_laysTies 163 = .ok (.invokestatic 197, 3) := dk_184 0 197 (dk_at dksX5_laysTies_7 0 rfl rfl)
theorem dX5_laysTies_166 : decode cX5_laysTies 166 = .ok (.iastore, 1) := dk_79 (dk_at dksX5_laysTies_7 3 rfl rfl)
theorem dX5_laysTies_167 : decode cX5_laysTies 167 = .ok (.aload_n 0, 1) := dk_42 (dk_at dksX5_laysTies_7 4 rfl rfl)
theorem dX5_laysTies_168 : decode cX5_laysTies 168 = .ok (.getfield 52, 3) := dk_180 0 52 (dk_at dksX5_laysTies_7 5 rfl rfl)
theorem dX5_laysTies_171 : decode cX5_laysTies 171 = .ok (.iload_n 3, 1) := dk_29 (dk_at dksX5_laysTies_7 8 rfl rfl)
theorem dX5_laysTies_172 : decode cX5_laysTies 172 = .ok (.aload_n 0, 1) := dk_42 (dk_at dksX5_laysTies_7 9 rfl rfl)
theorem dX5_laysTies_173 : decode cX5_laysTies 173 = .ok (.getfield 52, 3) := dk_180 0 52 (dk_at dksX5_laysTies_7 10 rfl rfl)
theorem dX5_laysTies_176 : decode cX5_laysTies 176 = .ok (.iload_n 3, 1) := dk_29 (dk_at dksX5_laysTies_7 13 rfl rfl)
theorem dX5_laysTies_177 : decode cX5_laysTies 177 = .ok (.iaload, 1) := dk_46 (dk_at dksX5_laysTies_7 14 rfl rfl)
theorem dX5_laysTies_178 : decode cX5_laysTies 178 = .ok (.aload_n 0, 1) := dk_42 (dk_at dksX5_laysTies_7 15 rfl rfl)
theorem dX5_laysTies_179 : decode cX5_laysTies 179 = .ok (.getfield 52, 3) := dk_180 0 52 (dk_at dksX5_laysTies_7 16 rfl rfl)
theorem dX5_laysTies_182 : decode cX5_laysTies 182 = .ok (.aload_n 0, 1) := dk_42 (dk_at dksX5_laysTies_7 19 rfl rfl)
theorem dX5_laysTies_183 : decode cX5_laysTies 183 = .ok (.iload 4, 2) := dk_21 4 (dk_at dksX5_laysTies_7 20 rfl rfl)
theorem dX5_laysTies_185 : decode cX5_laysTies 185 = .ok (.iconst 1, 1) := dk_4 (dk_at dksX5_laysTies_7 22 rfl rfl)
theorem dX5_laysTies_186 : decode cX5_laysTies 186 = .ok (.invokevirtual 180, 3) := dk_182 0 180 (dk_at dksX5_laysTies_8 0 rfl rfl)
theorem dX5_laysTies_189 : decode cX5_laysTies 189 = .ok (.iaload, 1) := dk_46 (dk_at dksX5_laysTies_8 3 rfl rfl)
theorem dX5_laysTies_190 : decode cX5_laysTies 190 = .ok (.aload_n 0, 1) := dk_42 (dk_at dksX5_laysTies_8 4 rfl rfl)
theorem dX5_laysTies_191 : decode cX5_laysTies 191 = .ok (.iload 4, 2) := dk_21 4 (dk_at dksX5_laysTies_8 5 rfl rfl)
theorem dX5_laysTies_193 : decode cX5_laysTies 193 = .ok (.iconst 4, 1) := dk_7 (dk_at dksX5_laysTies_8 7 rfl rfl)
theorem dX5_laysTies_194 : decode cX5_laysTies 194 = .ok (.invokevirtual 180, 3) := dk_182 0 180 (dk_at dksX5_laysTies_8 8 rfl rfl)
theorem dX5_laysTies_197 : decode cX5_laysTies 197 = .ok (.iadd, 1) := dk_96 (dk_at dksX5_laysTies_8 11 rfl rfl)
theorem dX5_laysTies_198 : decode cX5_laysTies 198 = .ok (.invokestatic 126, 3) := dk_184 0 126 (dk_at dksX5_laysTies_8 12 rfl rfl)
theorem dX5_laysTies_201 : decode cX5_laysTies 201 = .ok (.iastore, 1) := dk_79 (dk_at dksX5_laysTies_8 15 rfl rfl)
theorem dX5_laysTies_202 : decode cX5_laysTies 202 = .ok (.iinc 4 1, 3) := dk_132 4 1 (dk_at dksX5_laysTies_8 16 rfl rfl)
theorem dX5_laysTies_205 : decode cX5_laysTies 205 = .ok (.goto (-126), 3) := dk_167 255 130 (dk_at dksX5_laysTies_8 19 rfl rfl)
theorem dX5_laysTies_208 : decode cX5_laysTies 208 = .ok (.aload_n 0, 1) := dk_42 (dk_at dksX5_laysTies_8 22 rfl rfl)
theorem dX5_laysTies_209 : decode cX5_laysTies 209 = .ok (.iload_n 3, 1) := dk_29 (dk_at dksX5_laysTies_8 23 rfl rfl)
theorem dX5_laysTies_210 : decode cX5_laysTies 210 = .ok (.aload_n 0, 1) := dk_42 (dk_at dksX5_laysTies_9 0 rfl rfl)
theorem dX5_laysTies_211 : decode cX5_laysTies 211 = .ok (.getfield 46, 3) := dk_180 0 46 (dk_at dksX5_laysTies_9 1 rfl rfl)
theorem dX5_laysTies_214 : decode cX5_laysTies 214 = .ok (.iload_n 3, 1) := dk_29 (dk_at dksX5_laysTies_9 4 rfl rfl)
theorem dX5_laysTies_215 : decode cX5_laysTies 215 = .ok (.iaload, 1) := dk_46 (dk_at dksX5_laysTies_9 5 rfl rfl)
theorem dX5_laysTies_216 : decode cX5_laysTies 216 = .ok (.invokevirtual 275, 3) := dk_182 1 19 (dk_at dksX5_laysTies_9 6 rfl rfl)
theorem dX5_laysTies_219 : decode cX5_laysTies 219 = .ok (.istore_n 3, 1) := dk_62 (dk_at dksX5_laysTies_9 9 rfl rfl)
theorem dX5_laysTies_220 : decode cX5_laysTies 220 = .ok (.goto (-201), 3) := dk_167 255 55 (dk_at dksX5_laysTies_9 10 rfl rfl)
theorem dX5_laysTies_223 : decode cX5_laysTies 223 = .ok (.return_, 1) := dk_177 (dk_at dksX5_laysTies_9 13 rfl rfl)
abbrev cX5_laysLeast : ByteArray := prog_17_method_71_code
def yX5_laysLeast : MethodName := ⟨RX5, "laysLeast", "(I)V"⟩
def dkwX5_laysLeast_2 : List UInt8 := [109, 136, 79, 132, 2, 1, 167, 255, 209, 177]
abbrev dktX5_laysLeast_2 : List UInt8 := dkwX5_laysLeast_2 ++ []
def dkwX5_laysLeast_1 : List UInt8 := [20, 0, 223, 148, 155, 0, 7, 2, 167, 0, 18, 42, 180, 0, 36, 28, 47, 20, 1, 14, 97, 20, 0, 214]
abbrev dktX5_laysLeast_1 : List UInt8 := dkwX5_laysLeast_1 ++ dktX5_laysLeast_2
def dkwX5_laysLeast_0 : List UInt8 := [42, 27, 182, 0, 232, 3, 61, 28, 16, 10, 162, 0, 47, 42, 180, 0, 46, 28, 42, 180, 0, 36, 28, 47]
abbrev dktX5_laysLeast_0 : List UInt8 := dkwX5_laysLeast_0 ++ dktX5_laysLeast_1
theorem dksX5_laysLeast_0 : cX5_laysLeast.data.toList.drop 0 = dktX5_laysLeast_0 := by decide +kernel
theorem dksX5_laysLeast_1 : cX5_laysLeast.data.toList.drop 24 = dktX5_laysLeast_1 := dk_seg dksX5_laysLeast_0 24 rfl rfl
theorem dksX5_laysLeast_2 : cX5_laysLeast.data.toList.drop 48 = dktX5_laysLeast_2 := dk_seg dksX5_laysLeast_1 24 rfl rfl
theorem dX5_laysLeast_0 : decode cX5_laysLeast 0 = .ok (.aload_n 0, 1) := dk_42 (dk_at dksX5_laysLeast_0 0 rfl rfl)
theorem dX5_laysLeast_1 : decode cX5_laysLeast 1 = .ok (.iload_n 1, 1) := dk_27 (dk_at dksX5_laysLeast_0 1 rfl rfl)
theorem dX5_laysLeast_2 : decode cX5_laysLeast 2 = .ok (.invokevirtual 232, 3) := dk_182 0 232 (dk_at dksX5_laysLeast_0 2 rfl rfl)
theorem dX5_laysLeast_5 : decode cX5_laysLeast 5 = .ok (.iconst 0, 1) := dk_3 (dk_at dksX5_laysLeast_0 5 rfl rfl)
theorem dX5_laysLeast_6 : decode cX5_laysLeast 6 = .ok (.istore_n 2, 1) := dk_61 (dk_at dksX5_laysLeast_0 6 rfl rfl)
theorem dX5_laysLeast_7 : decode cX5_laysLeast 7 = .ok (.iload_n 2, 1) := dk_28 (dk_at dksX5_laysLeast_0 7 rfl rfl)
theorem dX5_laysLeast_8 : decode cX5_laysLeast 8 = .ok (.bipush 10, 2) := dk_16 10 (dk_at dksX5_laysLeast_0 8 rfl rfl)
theorem dX5_laysLeast_10 : decode cX5_laysLeast 10 = .ok (.if_icmp .ge 47, 3) := dk_162 0 47 (dk_at dksX5_laysLeast_0 10 rfl rfl)
theorem dX5_laysLeast_13 : decode cX5_laysLeast 13 = .ok (.aload_n 0, 1) := dk_42 (dk_at dksX5_laysLeast_0 13 rfl rfl)
theorem dX5_laysLeast_14 : decode cX5_laysLeast 14 = .ok (.getfield 46, 3) := dk_180 0 46 (dk_at dksX5_laysLeast_0 14 rfl rfl)
theorem dX5_laysLeast_17 : decode cX5_laysLeast 17 = .ok (.iload_n 2, 1) := dk_28 (dk_at dksX5_laysLeast_0 17 rfl rfl)
theorem dX5_laysLeast_18 : decode cX5_laysLeast 18 = .ok (.aload_n 0, 1) := dk_42 (dk_at dksX5_laysLeast_0 18 rfl rfl)
theorem dX5_laysLeast_19 : decode cX5_laysLeast 19 = .ok (.getfield 36, 3) := dk_180 0 36 (dk_at dksX5_laysLeast_0 19 rfl rfl)
theorem dX5_laysLeast_22 : decode cX5_laysLeast 22 = .ok (.iload_n 2, 1) := dk_28 (dk_at dksX5_laysLeast_0 22 rfl rfl)
theorem dX5_laysLeast_23 : decode cX5_laysLeast 23 = .ok (.laload, 1) := dk_47 (dk_at dksX5_laysLeast_0 23 rfl rfl)
theorem dX5_laysLeast_24 : decode cX5_laysLeast 24 = .ok (.ldc2_w 223, 3) := dk_20 0 223 (dk_at dksX5_laysLeast_1 0 rfl rfl)
theorem dX5_laysLeast_27 : decode cX5_laysLeast 27 = .ok (.lcmp, 1) := dk_148 (dk_at dksX5_laysLeast_1 3 rfl rfl)
theorem dX5_laysLeast_28 : decode cX5_laysLeast 28 = .ok (.ifCond .lt 7, 3) := dk_155 0 7 (dk_at dksX5_laysLeast_1 4 rfl rfl)
theorem dX5_laysLeast_31 : decode cX5_laysLeast 31 = .ok (.iconst (-1), 1) := dk_2 (dk_at dksX5_laysLeast_1 7 rfl rfl)
theorem dX5_laysLeast_32 : decode cX5_laysLeast 32 = .ok (.goto 18, 3) := dk_167 0 18 (dk_at dksX5_laysLeast_1 8 rfl rfl)
theorem dX5_laysLeast_35 : decode cX5_laysLeast 35 = .ok (.aload_n 0, 1) := dk_42 (dk_at dksX5_laysLeast_1 11 rfl rfl)
theorem dX5_laysLeast_36 : decode cX5_laysLeast 36 = .ok (.getfield 36, 3) := dk_180 0 36 (dk_at dksX5_laysLeast_1 12 rfl rfl)
theorem dX5_laysLeast_39 : decode cX5_laysLeast 39 = .ok (.iload_n 2, 1) := dk_28 (dk_at dksX5_laysLeast_1 15 rfl rfl)
theorem dX5_laysLeast_40 : decode cX5_laysLeast 40 = .ok (.laload, 1) := dk_47 (dk_at dksX5_laysLeast_1 16 rfl rfl)
theorem dX5_laysLeast_41 : decode cX5_laysLeast 41 = .ok (.ldc2_w 270, 3) := dk_20 1 14 (dk_at dksX5_laysLeast_1 17 rfl rfl)
theorem dX5_laysLeast_44 : decode cX5_laysLeast 44 = .ok (.ladd, 1) := dk_97 (dk_at dksX5_laysLeast_1 20 rfl rfl)
theorem dX5_laysLeast_45 : decode cX5_laysLeast 45 = .ok (.ldc2_w 214, 3) := dk_20 0 214 (dk_at dksX5_laysLeast_1 21 rfl rfl)
theorem dX5_laysLeast_48 : decode cX5_laysLeast 48 = .ok (.ldiv, 1) := dk_109 (dk_at dksX5_laysLeast_2 0 rfl rfl)
theorem dX5_laysLeast_49 : decode cX5_laysLeast 49 = .ok (.l2i, 1) := dk_136 (dk_at dksX5_laysLeast_2 1 rfl rfl)
theorem dX5_laysLeast_50 : decode cX5_laysLeast 50 = .ok (.iastore, 1) := dk_79 (dk_at dksX5_laysLeast_2 2 rfl rfl)
theorem dX5_laysLeast_51 : decode cX5_laysLeast 51 = .ok (.iinc 2 1, 3) := dk_132 2 1 (dk_at dksX5_laysLeast_2 3 rfl rfl)
theorem dX5_laysLeast_54 : decode cX5_laysLeast 54 = .ok (.goto (-47), 3) := dk_167 255 209 (dk_at dksX5_laysLeast_2 6 rfl rfl)
theorem dX5_laysLeast_57 : decode cX5_laysLeast 57 = .ok (.return_, 1) := dk_177 (dk_at dksX5_laysLeast_2 9 rfl rfl)
abbrev cX5_nextNode : ByteArray := prog_17_method_72_code
def yX5_nextNode : MethodName := ⟨RX5, "nextNode", "(II)I"⟩
def dkwX5_nextNode_4 : List UInt8 := [167, 255, 167, 29, 172]
abbrev dktX5_nextNode_4 : List UInt8 := dkwX5_nextNode_4 ++ []
def dkwX5_nextNode_3 : List UInt8 := [42, 180, 0, 46, 21, 4, 46, 42, 180, 0, 46, 29, 46, 162, 0, 6, 21, 4, 62, 132, 4, 1]
abbrev dktX5_nextNode_3 : List UInt8 := dkwX5_nextNode_3 ++ dktX5_nextNode_4
def dkwX5_nextNode_2 : List UInt8 := [3, 54, 5, 42, 180, 0, 46, 21, 4, 46, 2, 159, 0, 32, 21, 5, 153, 0, 27, 29, 2, 159, 0, 19]
abbrev dktX5_nextNode_2 : List UInt8 := dkwX5_nextNode_2 ++ dktX5_nextNode_3
def dkwX5_nextNode_1 : List UInt8 := [163, 0, 20, 42, 180, 0, 46, 21, 4, 46, 28, 160, 0, 13, 21, 4, 27, 164, 0, 7, 4, 167, 0, 4]
abbrev dktX5_nextNode_1 : List UInt8 := dkwX5_nextNode_1 ++ dktX5_nextNode_2
def dkwX5_nextNode_0 : List UInt8 := [2, 62, 3, 54, 4, 21, 4, 42, 180, 0, 11, 3, 46, 162, 0, 84, 42, 180, 0, 46, 21, 4, 46, 28]
abbrev dktX5_nextNode_0 : List UInt8 := dkwX5_nextNode_0 ++ dktX5_nextNode_1
theorem dksX5_nextNode_0 : cX5_nextNode.data.toList.drop 0 = dktX5_nextNode_0 := by decide +kernel
theorem dksX5_nextNode_1 : cX5_nextNode.data.toList.drop 24 = dktX5_nextNode_1 := dk_seg dksX5_nextNode_0 24 rfl rfl
theorem dksX5_nextNode_2 : cX5_nextNode.data.toList.drop 48 = dktX5_nextNode_2 := dk_seg dksX5_nextNode_1 24 rfl rfl
theorem dksX5_nextNode_3 : cX5_nextNode.data.toList.drop 72 = dktX5_nextNode_3 := dk_seg dksX5_nextNode_2 24 rfl rfl
theorem dksX5_nextNode_4 : cX5_nextNode.data.toList.drop 94 = dktX5_nextNode_4 := dk_seg dksX5_nextNode_3 22 rfl rfl
theorem dX5_nextNode_0 : decode cX5_nextNode 0 = .ok (.iconst (-1), 1) := dk_2 (dk_at dksX5_nextNode_0 0 rfl rfl)
theorem dX5_nextNode_1 : decode cX5_nextNode 1 = .ok (.istore_n 3, 1) := dk_62 (dk_at dksX5_nextNode_0 1 rfl rfl)
theorem dX5_nextNode_2 : decode cX5_nextNode 2 = .ok (.iconst 0, 1) := dk_3 (dk_at dksX5_nextNode_0 2 rfl rfl)
theorem dX5_nextNode_3 : decode cX5_nextNode 3 = .ok (.istore 4, 2) := dk_54 4 (dk_at dksX5_nextNode_0 3 rfl rfl)
theorem dX5_nextNode_5 : decode cX5_nextNode 5 = .ok (.iload 4, 2) := dk_21 4 (dk_at dksX5_nextNode_0 5 rfl rfl)
theorem dX5_nextNode_7 : decode cX5_nextNode 7 = .ok (.aload_n 0, 1) := dk_42 (dk_at dksX5_nextNode_0 7 rfl rfl)
theorem dX5_nextNode_8 : decode cX5_nextNode 8 = .ok (.getfield 11, 3) := dk_180 0 11 (dk_at dksX5_nextNode_0 8 rfl rfl)
theorem dX5_nextNode_11 : decode cX5_nextNode 11 = .ok (.iconst 0, 1) := dk_3 (dk_at dksX5_nextNode_0 11 rfl rfl)
theorem dX5_nextNode_12 : decode cX5_nextNode 12 = .ok (.iaload, 1) := dk_46 (dk_at dksX5_nextNode_0 12 rfl rfl)
theorem dX5_nextNode_13 : decode cX5_nextNode 13 = .ok (.if_icmp .ge 84, 3) := dk_162 0 84 (dk_at dksX5_nextNode_0 13 rfl rfl)
theorem dX5_nextNode_16 : decode cX5_nextNode 16 = .ok (.aload_n 0, 1) := dk_42 (dk_at dksX5_nextNode_0 16 rfl rfl)
theorem dX5_nextNode_17 : decode cX5_nextNode 17 = .ok (.getfield 46, 3) := dk_180 0 46 (dk_at dksX5_nextNode_0 17 rfl rfl)
theorem dX5_nextNode_20 : decode cX5_nextNode 20 = .ok (.iload 4, 2) := dk_21 4 (dk_at dksX5_nextNode_0 20 rfl rfl)
theorem dX5_nextNode_22 : decode cX5_nextNode 22 = .ok (.iaload, 1) := dk_46 (dk_at dksX5_nextNode_0 22 rfl rfl)
theorem dX5_nextNode_23 : decode cX5_nextNode 23 = .ok (.iload_n 2, 1) := dk_28 (dk_at dksX5_nextNode_0 23 rfl rfl)
theorem dX5_nextNode_24 : decode cX5_nextNode 24 = .ok (.if_icmp .gt 20, 3) := dk_163 0 20 (dk_at dksX5_nextNode_1 0 rfl rfl)
theorem dX5_nextNode_27 : decode cX5_nextNode 27 = .ok (.aload_n 0, 1) := dk_42 (dk_at dksX5_nextNode_1 3 rfl rfl)
theorem dX5_nextNode_28 : decode cX5_nextNode 28 = .ok (.getfield 46, 3) := dk_180 0 46 (dk_at dksX5_nextNode_1 4 rfl rfl)
theorem dX5_nextNode_31 : decode cX5_nextNode 31 = .ok (.iload 4, 2) := dk_21 4 (dk_at dksX5_nextNode_1 7 rfl rfl)
theorem dX5_nextNode_33 : decode cX5_nextNode 33 = .ok (.iaload, 1) := dk_46 (dk_at dksX5_nextNode_1 9 rfl rfl)
theorem dX5_nextNode_34 : decode cX5_nextNode 34 = .ok (.iload_n 2, 1) := dk_28 (dk_at dksX5_nextNode_1 10 rfl rfl)
theorem dX5_nextNode_35 : decode cX5_nextNode 35 = .ok (.if_icmp .ne 13, 3) := dk_160 0 13 (dk_at dksX5_nextNode_1 11 rfl rfl)
theorem dX5_nextNode_38 : decode cX5_nextNode 38 = .ok (.iload 4, 2) := dk_21 4 (dk_at dksX5_nextNode_1 14 rfl rfl)
theorem dX5_nextNode_40 : decode cX5_nextNode 40 = .ok (.iload_n 1, 1) := dk_27 (dk_at dksX5_nextNode_1 16 rfl rfl)
theorem dX5_nextNode_41 : decode cX5_nextNode 41 = .ok (.if_icmp .le 7, 3) := dk_164 0 7 (dk_at dksX5_nextNode_1 17 rfl rfl)
theorem dX5_nextNode_44 : decode cX5_nextNode 44 = .ok (.iconst 1, 1) := dk_4 (dk_at dksX5_nextNode_1 20 rfl rfl)
theorem dX5_nextNode_45 : decode cX5_nextNode 45 = .ok (.goto 4, 3) := dk_167 0 4 (dk_at dksX5_nextNode_1 21 rfl rfl)
theorem dX5_nextNode_48 : decode cX5_nextNode 48 = .ok (.iconst 0, 1) := dk_3 (dk_at dksX5_nextNode_2 0 rfl rfl)
theorem dX5_nextNode_49 : decode cX5_nextNode 49 = .ok (.istore 5, 2) := dk_54 5 (dk_at dksX5_nextNode_2 1 rfl rfl)
theorem dX5_nextNode_51 : decode cX5_nextNode 51 = .ok (.aload_n 0, 1) := dk_42 (dk_at dksX5_nextNode_2 3 rfl rfl)
theorem dX5_nextNode_52 : decode cX5_nextNode 52 = .ok (.getfield 46, 3) := dk_180 0 46 (dk_at dksX5_nextNode_2 4 rfl rfl)
theorem dX5_nextNode_55 : decode cX5_nextNode 55 = .ok (.iload 4, 2) := dk_21 4 (dk_at dksX5_nextNode_2 7 rfl rfl)
theorem dX5_nextNode_57 : decode cX5_nextNode 57 = .ok (.iaload, 1) := dk_46 (dk_at dksX5_nextNode_2 9 rfl rfl)
theorem dX5_nextNode_58 : decode cX5_nextNode 58 = .ok (.iconst (-1), 1) := dk_2 (dk_at dksX5_nextNode_2 10 rfl rfl)
theorem dX5_nextNode_59 : decode cX5_nextNode 59 = .ok (.if_icmp .eq 32, 3) := dk_159 0 32 (dk_at dksX5_nextNode_2 11 rfl rfl)
theorem dX5_nextNode_62 : decode cX5_nextNode 62 = .ok (.iload 5, 2) := dk_21 5 (dk_at dksX5_nextNode_2 14 rfl rfl)
theorem dX5_nextNode_64 : decode cX5_nextNode 64 = .ok (.ifCond .eq 27, 3) := dk_153 0 27 (dk_at dksX5_nextNode_2 16 rfl rfl)
theorem dX5_nextNode_67 : decode cX5_nextNode 67 = .ok (.iload_n 3, 1) := dk_29 (dk_at dksX5_nextNode_2 19 rfl rfl)
theorem dX5_nextNode_68 : decode cX5_nextNode 68 = .ok (.iconst (-1), 1) := dk_2 (dk_at dksX5_nextNode_2 20 rfl rfl)
theorem dX5_nextNode_69 : decode cX5_nextNode 69 = .ok (.if_icmp .eq 19, 3) := dk_159 0 19 (dk_at dksX5_nextNode_2 21 rfl rfl)
theorem dX5_nextNode_72 : decode cX5_nextNode 72 = .ok (.aload_n 0, 1) := dk_42 (dk_at dksX5_nextNode_3 0 rfl rfl)
theorem dX5_nextNode_73 : decode cX5_nextNode 73 = .ok (.getfield 46, 3) := dk_180 0 46 (dk_at dksX5_nextNode_3 1 rfl rfl)
theorem dX5_nextNode_76 : decode cX5_nextNode 76 = .ok (.iload 4, 2) := dk_21 4 (dk_at dksX5_nextNode_3 4 rfl rfl)
theorem dX5_nextNode_78 : decode cX5_nextNode 78 = .ok (.iaload, 1) := dk_46 (dk_at dksX5_nextNode_3 6 rfl rfl)
theorem dX5_nextNode_79 : decode cX5_nextNode 79 = .ok (.aload_n 0, 1) := dk_42 (dk_at dksX5_nextNode_3 7 rfl rfl)
theorem dX5_nextNode_80 : decode cX5_nextNode 80 = .ok (.getfield 46, 3) := dk_180 0 46 (dk_at dksX5_nextNode_3 8 rfl rfl)
theorem dX5_nextNode_83 : decode cX5_nextNode 83 = .ok (.iload_n 3, 1) := dk_29 (dk_at dksX5_nextNode_3 11 rfl rfl)
theorem dX5_nextNode_84 : decode cX5_nextNode 84 = .ok (.iaload, 1) := dk_46 (dk_at dksX5_nextNode_3 12 rfl rfl)
theorem dX5_nextNode_85 : decode cX5_nextNode 85 = .ok (.if_icmp .ge 6, 3) := dk_162 0 6 (dk_at dksX5_nextNode_3 13 rfl rfl)
theorem dX5_nextNode_88 : decode cX5_nextNode 88 = .ok (.iload 4, 2) := dk_21 4 (dk_at dksX5_nextNode_3 16 rfl rfl)
theorem dX5_nextNode_90 : decode cX5_nextNode 90 = .ok (.istore_n 3, 1) := dk_62 (dk_at dksX5_nextNode_3 18 rfl rfl)
theorem dX5_nextNode_91 : decode cX5_nextNode 91 = .ok (.iinc 4 1, 3) := dk_132 4 1 (dk_at dksX5_nextNode_3 19 rfl rfl)
theorem dX5_nextNode_94 : decode cX5_nextNode 94 = .ok (.goto (-89), 3) := dk_167 255 167 (dk_at dksX5_nextNode_4 0 rfl rfl)
theorem dX5_nextNode_97 : decode cX5_nextNode 97 = .ok (.iload_n 3, 1) := dk_29 (dk_at dksX5_nextNode_4 3 rfl rfl)
theorem dX5_nextNode_98 : decode cX5_nextNode 98 = .ok (.ireturn, 1) := dk_172 (dk_at dksX5_nextNode_4 4 rfl rfl)
abbrev cX5_isTight : ByteArray := prog_17_method_73_code
def yX5_isTight : MethodName := ⟨RX5, "isTight", "(II)Z"⟩
def dkwX5_isTight_2 : List UInt8 := [182, 0, 216, 96, 160, 0, 7, 4, 167, 0, 4, 3, 172]
abbrev dktX5_isTight_2 : List UInt8 := dkwX5_isTight_2 ++ []
def dkwX5_isTight_1 : List UInt8 := [180, 0, 46, 42, 28, 3, 182, 0, 180, 46, 42, 180, 0, 46, 42, 28, 4, 182, 0, 180, 46, 42, 27, 28]
abbrev dktX5_isTight_1 : List UInt8 := dkwX5_isTight_1 ++ dktX5_isTight_2
def dkwX5_isTight_0 : List UInt8 := [42, 28, 182, 0, 225, 153, 0, 54, 42, 180, 0, 46, 42, 28, 4, 182, 0, 180, 46, 2, 159, 0, 39, 42]
abbrev dktX5_isTight_0 : List UInt8 := dkwX5_isTight_0 ++ dktX5_isTight_1
theorem dksX5_isTight_0 : cX5_isTight.data.toList.drop 0 = dktX5_isTight_0 := by decide +kernel
theorem dksX5_isTight_1 : cX5_isTight.data.toList.drop 24 = dktX5_isTight_1 := dk_seg dksX5_isTight_0 24 rfl rfl
theorem dksX5_isTight_2 : cX5_isTight.data.toList.drop 48 = dktX5_isTight_2 := dk_seg dksX5_isTight_1 24 rfl rfl
theorem dX5_isTight_0 : decode cX5_isTight 0 = .ok (.aload_n 0, 1) := dk_42 (dk_at dksX5_isTight_0 0 rfl rfl)
theorem dX5_isTight_1 : decode cX5_isTight 1 = .ok (.iload_n 2, 1) := dk_28 (dk_at dksX5_isTight_0 1 rfl rfl)
theorem dX5_isTight_2 : decode cX5_isTight 2 = .ok (.invokevirtual 225, 3) := dk_182 0 225 (dk_at dksX5_isTight_0 2 rfl rfl)
theorem dX5_isTight_5 : decode cX5_isTight 5 = .ok (.ifCond .eq 54, 3) := dk_153 0 54 (dk_at dksX5_isTight_0 5 rfl rfl)
theorem dX5_isTight_8 : decode cX5_isTight 8 = .ok (.aload_n 0, 1) := dk_42 (dk_at dksX5_isTight_0 8 rfl rfl)
theorem dX5_isTight_9 : decode cX5_isTight 9 = .ok (.getfield 46, 3) := dk_180 0 46 (dk_at dksX5_isTight_0 9 rfl rfl)
theorem dX5_isTight_12 : decode cX5_isTight 12 = .ok (.aload_n 0, 1) := dk_42 (dk_at dksX5_isTight_0 12 rfl rfl)
theorem dX5_isTight_13 : decode cX5_isTight 13 = .ok (.iload_n 2, 1) := dk_28 (dk_at dksX5_isTight_0 13 rfl rfl)
theorem dX5_isTight_14 : decode cX5_isTight 14 = .ok (.iconst 1, 1) := dk_4 (dk_at dksX5_isTight_0 14 rfl rfl)
theorem dX5_isTight_15 : decode cX5_isTight 15 = .ok (.invokevirtual 180, 3) := dk_182 0 180 (dk_at dksX5_isTight_0 15 rfl rfl)
theorem dX5_isTight_18 : decode cX5_isTight 18 = .ok (.iaload, 1) := dk_46 (dk_at dksX5_isTight_0 18 rfl rfl)
theorem dX5_isTight_19 : decode cX5_isTight 19 = .ok (.iconst (-1), 1) := dk_2 (dk_at dksX5_isTight_0 19 rfl rfl)
theorem dX5_isTight_20 : decode cX5_isTight 20 = .ok (.if_icmp .eq 39, 3) := dk_159 0 39 (dk_at dksX5_isTight_0 20 rfl rfl)
theorem dX5_isTight_23 : decode cX5_isTight 23 = .ok (.aload_n 0, 1) := dk_42 (dk_at dksX5_isTight_0 23 rfl rfl)
theorem dX5_isTight_24 : decode cX5_isTight 24 = .ok (.getfield 46, 3) := dk_180 0 46 (dk_at dksX5_isTight_1 0 rfl rfl)
theorem dX5_isTight_27 : decode cX5_isTight 27 = .ok (.aload_n 0, 1) := dk_42 (dk_at dksX5_isTight_1 3 rfl rfl)
theorem dX5_isTight_28 : decode cX5_isTight 28 = .ok (.iload_n 2, 1) := dk_28 (dk_at dksX5_isTight_1 4 rfl rfl)
theorem dX5_isTight_29 : decode cX5_isTight 29 = .ok (.iconst 0, 1) := dk_3 (dk_at dksX5_isTight_1 5 rfl rfl)
theorem dX5_isTight_30 : decode cX5_isTight 30 = .ok (.invokevirtual 180, 3) := dk_182 0 180 (dk_at dksX5_isTight_1 6 rfl rfl)
theorem dX5_isTight_33 : decode cX5_isTight 33 = .ok (.iaload, 1) := dk_46 (dk_at dksX5_isTight_1 9 rfl rfl)
theorem dX5_isTight_34 : decode cX5_isTight 34 = .ok (.aload_n 0, 1) := dk_42 (dk_at dksX5_isTight_1 10 rfl rfl)
theorem dX5_isTight_35 : decode cX5_isTight 35 = .ok (.getfield 46, 3) := dk_180 0 46 (dk_at dksX5_isTight_1 11 rfl rfl)
theorem dX5_isTight_38 : decode cX5_isTight 38 = .ok (.aload_n 0, 1) := dk_42 (dk_at dksX5_isTight_1 14 rfl rfl)
theorem dX5_isTight_39 : decode cX5_isTight 39 = .ok (.iload_n 2, 1) := dk_28 (dk_at dksX5_isTight_1 15 rfl rfl)
theorem dX5_isTight_40 : decode cX5_isTight 40 = .ok (.iconst 1, 1) := dk_4 (dk_at dksX5_isTight_1 16 rfl rfl)
theorem dX5_isTight_41 : decode cX5_isTight 41 = .ok (.invokevirtual 180, 3) := dk_182 0 180 (dk_at dksX5_isTight_1 17 rfl rfl)
theorem dX5_isTight_44 : decode cX5_isTight 44 = .ok (.iaload, 1) := dk_46 (dk_at dksX5_isTight_1 20 rfl rfl)
theorem dX5_isTight_45 : decode cX5_isTight 45 = .ok (.aload_n 0, 1) := dk_42 (dk_at dksX5_isTight_1 21 rfl rfl)
theorem dX5_isTight_46 : decode cX5_isTight 46 = .ok (.iload_n 1, 1) := dk_27 (dk_at dksX5_isTight_1 22 rfl rfl)
theorem dX5_isTight_47 : decode cX5_isTight 47 = .ok (.iload_n 2, 1) := dk_28 (dk_at dksX5_isTight_1 23 rfl rfl)
theorem dX5_isTight_48 : decode cX5_isTight 48 = .ok (.invokevirtual 216, 3) := dk_182 0 216 (dk_at dksX5_isTight_2 0 rfl rfl)
theorem dX5_isTight_51 : decode cX5_isTight 51 = .ok (.iadd, 1) := dk_96 (dk_at dksX5_isTight_2 3 rfl rfl)
theorem dX5_isTight_52 : decode cX5_isTight 52 = .ok (.if_icmp .ne 7, 3) := dk_160 0 7 (dk_at dksX5_isTight_2 4 rfl rfl)
theorem dX5_isTight_55 : decode cX5_isTight 55 = .ok (.iconst 1, 1) := dk_4 (dk_at dksX5_isTight_2 7 rfl rfl)
theorem dX5_isTight_56 : decode cX5_isTight 56 = .ok (.goto 4, 3) := dk_167 0 4 (dk_at dksX5_isTight_2 8 rfl rfl)
theorem dX5_isTight_59 : decode cX5_isTight 59 = .ok (.iconst 0, 1) := dk_3 (dk_at dksX5_isTight_2 11 rfl rfl)
theorem dX5_isTight_60 : decode cX5_isTight 60 = .ok (.ireturn, 1) := dk_172 (dk_at dksX5_isTight_2 12 rfl rfl)
abbrev cX5_tieSpan : ByteArray := prog_17_method_76_code
def yX5_tieSpan : MethodName := ⟨RX5, "tieSpan", "(I)I"⟩
def dkwX5_tieSpan_2 : List UInt8 := [42, 180, 0, 52, 28, 46, 100, 172]
abbrev dktX5_tieSpan_2 : List UInt8 := dkwX5_tieSpan_2 ++ []
def dkwX5_tieSpan_1 : List UInt8 := [182, 0, 189, 61, 42, 180, 0, 46, 28, 46, 2, 160, 0, 7, 2, 167, 0, 16, 42, 180, 0, 49, 28, 46]
abbrev dktX5_tieSpan_1 : List UInt8 := dkwX5_tieSpan_1 ++ dktX5_tieSpan_2
def dkwX5_tieSpan_0 : List UInt8 := [42, 42, 27, 182, 0, 186, 4, 182, 0, 176, 153, 0, 5, 3, 172, 42, 27, 182, 1, 29, 42, 27, 3]
abbrev dktX5_tieSpan_0 : List UInt8 := dkwX5_tieSpan_0 ++ dktX5_tieSpan_1
theorem dksX5_tieSpan_0 : cX5_tieSpan.data.toList.drop 0 = dktX5_tieSpan_0 := by decide +kernel
theorem dksX5_tieSpan_1 : cX5_tieSpan.data.toList.drop 23 = dktX5_tieSpan_1 := dk_seg dksX5_tieSpan_0 23 rfl rfl
theorem dksX5_tieSpan_2 : cX5_tieSpan.data.toList.drop 47 = dktX5_tieSpan_2 := dk_seg dksX5_tieSpan_1 24 rfl rfl
theorem dX5_tieSpan_0 : decode cX5_tieSpan 0 = .ok (.aload_n 0, 1) := dk_42 (dk_at dksX5_tieSpan_0 0 rfl rfl)
theorem dX5_tieSpan_1 : decode cX5_tieSpan 1 = .ok (.aload_n 0, 1) := dk_42 (dk_at dksX5_tieSpan_0 1 rfl rfl)
theorem dX5_tieSpan_2 : decode cX5_tieSpan 2 = .ok (.iload_n 1, 1) := dk_27 (dk_at dksX5_tieSpan_0 2 rfl rfl)
theorem dX5_tieSpan_3 : decode cX5_tieSpan 3 = .ok (.invokevirtual 186, 3) := dk_182 0 186 (dk_at dksX5_tieSpan_0 3 rfl rfl)
theorem dX5_tieSpan_6 : decode cX5_tieSpan 6 = .ok (.iconst 1, 1) := dk_4 (dk_at dksX5_tieSpan_0 6 rfl rfl)
theorem dX5_tieSpan_7 : decode cX5_tieSpan 7 = .ok (.invokevirtual 176, 3) := dk_182 0 176 (dk_at dksX5_tieSpan_0 7 rfl rfl)
theorem dX5_tieSpan_10 : decode cX5_tieSpan 10 = .ok (.ifCond .eq 5, 3) := dk_153 0 5 (dk_at dksX5_tieSpan_0 10 rfl rfl)
theorem dX5_tieSpan_13 : decode cX5_tieSpan 13 = .ok (.iconst 0, 1) := dk_3 (dk_at dksX5_tieSpan_0 13 rfl rfl)
theorem dX5_tieSpan_14 : decode cX5_tieSpan 14 = .ok (.ireturn, 1) := dk_172 (dk_at dksX5_tieSpan_0 14 rfl rfl)
theorem dX5_tieSpan_15 : decode cX5_tieSpan 15 = .ok (.aload_n 0, 1) := dk_42 (dk_at dksX5_tieSpan_0 15 rfl rfl)
theorem dX5_tieSpan_16 : decode cX5_tieSpan 16 = .ok (.iload_n 1, 1) := dk_27 (dk_at dksX5_tieSpan_0 16 rfl rfl)
theorem dX5_tieSpan_17 : decode cX5_tieSpan 17 = .ok (.invokevirtual 285, 3) := dk_182 1 29 (dk_at dksX5_tieSpan_0 17 rfl rfl)
theorem dX5_tieSpan_20 : decode cX5_tieSpan 20 = .ok (.aload_n 0, 1) := dk_42 (dk_at dksX5_tieSpan_0 20 rfl rfl)
theorem dX5_tieSpan_21 : decode cX5_tieSpan 21 = .ok (.iload_n 1, 1) := dk_27 (dk_at dksX5_tieSpan_0 21 rfl rfl)
theorem dX5_tieSpan_22 : decode cX5_tieSpan 22 = .ok (.iconst 0, 1) := dk_3 (dk_at dksX5_tieSpan_0 22 rfl rfl)
theorem dX5_tieSpan_23 : decode cX5_tieSpan 23 = .ok (.invokevirtual 189, 3) := dk_182 0 189 (dk_at dksX5_tieSpan_1 0 rfl rfl)
theorem dX5_tieSpan_26 : decode cX5_tieSpan 26 = .ok (.istore_n 2, 1) := dk_61 (dk_at dksX5_tieSpan_1 3 rfl rfl)
theorem dX5_tieSpan_27 : decode cX5_tieSpan 27 = .ok (.aload_n 0, 1) := dk_42 (dk_at dksX5_tieSpan_1 4 rfl rfl)
theorem dX5_tieSpan_28 : decode cX5_tieSpan 28 = .ok (.getfield 46, 3) := dk_180 0 46 (dk_at dksX5_tieSpan_1 5 rfl rfl)
theorem dX5_tieSpan_31 : decode cX5_tieSpan 31 = .ok (.iload_n 2, 1) := dk_28 (dk_at dksX5_tieSpan_1 8 rfl rfl)
theorem dX5_tieSpan_32 : decode cX5_tieSpan 32 = .ok (.iaload, 1) := dk_46 (dk_at dksX5_tieSpan_1 9 rfl rfl)
theorem dX5_tieSpan_33 : decode cX5_tieSpan 33 = .ok (.iconst (-1), 1) := dk_2 (dk_at dksX5_tieSpan_1 10 rfl rfl)
theorem dX5_tieSpan_34 : decode cX5_tieSpan 34 = .ok (.if_icmp .ne 7, 3) := dk_160 0 7 (dk_at dksX5_tieSpan_1 11 rfl rfl)
theorem dX5_tieSpan_37 : decode cX5_tieSpan 37 = .ok (.iconst (-1), 1) := dk_2 (dk_at dksX5_tieSpan_1 14 rfl rfl)
theorem dX5_tieSpan_38 : decode cX5_tieSpan 38 = .ok (.goto 16, 3) := dk_167 0 16 (dk_at dksX5_tieSpan_1 15 rfl rfl)
theorem dX5_tieSpan_41 : decode cX5_tieSpan 41 = .ok (.aload_n 0, 1) := dk_42 (dk_at dksX5_tieSpan_1 18 rfl rfl)
theorem dX5_tieSpan_42 : decode cX5_tieSpan 42 = .ok (.getfield 49, 3) := dk_180 0 49 (dk_at dksX5_tieSpan_1 19 rfl rfl)
theorem dX5_tieSpan_45 : decode cX5_tieSpan 45 = .ok (.iload_n 2, 1) := dk_28 (dk_at dksX5_tieSpan_1 22 rfl rfl)
theorem dX5_tieSpan_46 : decode cX5_tieSpan 46 = .ok (.iaload, 1) := dk_46 (dk_at dksX5_tieSpan_1 23 rfl rfl)
theorem dX5_tieSpan_47 : decode cX5_tieSpan 47 = .ok (.aload_n 0, 1) := dk_42 (dk_at dksX5_tieSpan_2 0 rfl rfl)
theorem dX5_tieSpan_48 : decode cX5_tieSpan 48 = .ok (.getfield 52, 3) := dk_180 0 52 (dk_at dksX5_tieSpan_2 1 rfl rfl)
theorem dX5_tieSpan_51 : decode cX5_tieSpan 51 = .ok (.iload_n 2, 1) := dk_28 (dk_at dksX5_tieSpan_2 4 rfl rfl)
theorem dX5_tieSpan_52 : decode cX5_tieSpan 52 = .ok (.iaload, 1) := dk_46 (dk_at dksX5_tieSpan_2 5 rfl rfl)
theorem dX5_tieSpan_53 : decode cX5_tieSpan 53 = .ok (.isub, 1) := dk_100 (dk_at dksX5_tieSpan_2 6 rfl rfl)
theorem dX5_tieSpan_54 : decode cX5_tieSpan 54 = .ok (.ireturn, 1) := dk_172 (dk_at dksX5_tieSpan_2 7 rfl rfl)
abbrev cX5_revenue : ByteArray := prog_17_method_79_code
def yX5_revenue : MethodName := ⟨RX5, "revenue", "()J"⟩
def dkwX5_revenue_0 : List UInt8 := [42, 3, 181, 0, 74, 42, 182, 1, 35, 173]
abbrev dktX5_revenue_0 : List UInt8 := dkwX5_revenue_0 ++ []
theorem dksX5_revenue_0 : cX5_revenue.data.toList.drop 0 = dktX5_revenue_0 := by decide +kernel
theorem dX5_revenue_0 : decode cX5_revenue 0 = .ok (.aload_n 0, 1) := dk_42 (dk_at dksX5_revenue_0 0 rfl rfl)
theorem dX5_revenue_1 : decode cX5_revenue 1 = .ok (.iconst 0, 1) := dk_3 (dk_at dksX5_revenue_0 1 rfl rfl)
theorem dX5_revenue_2 : decode cX5_revenue 2 = .ok (.putfield 74, 3) := dk_181 0 74 (dk_at dksX5_revenue_0 2 rfl rfl)
theorem dX5_revenue_5 : decode cX5_revenue 5 = .ok (.aload_n 0, 1) := dk_42 (dk_at dksX5_revenue_0 5 rfl rfl)
theorem dX5_revenue_6 : decode cX5_revenue 6 = .ok (.invokevirtual 291, 3) := dk_182 1 35 (dk_at dksX5_revenue_0 6 rfl rfl)
theorem dX5_revenue_9 : decode cX5_revenue 9 = .ok (.lreturn, 1) := dk_173 (dk_at dksX5_revenue_0 9 rfl rfl)
abbrev cX5_all : ByteArray := prog_17_method_78_code
def yX5_all : MethodName := ⟨RX5, "all", "()J"⟩
def dkwX5_all_1 : List UInt8 := [132, 3, 1, 167, 255, 235, 31, 173]
abbrev dktX5_all_1 : List UInt8 := dkwX5_all_1 ++ []
def dkwX5_all_0 : List UInt8 := [9, 64, 3, 62, 29, 42, 180, 0, 11, 5, 46, 162, 0, 17, 31, 42, 29, 182, 1, 32, 97, 64]
abbrev dktX5_all_0 : List UInt8 := dkwX5_all_0 ++ dktX5_all_1
theorem dksX5_all_0 : cX5_all.data.toList.drop 0 = dktX5_all_0 := by decide +kernel
theorem dksX5_all_1 : cX5_all.data.toList.drop 22 = dktX5_all_1 := dk_seg dksX5_all_0 22 rfl rfl
theorem dX5_all_0 : decode cX5_all 0 = .ok (.lconst 0, 1) := dk_9 (dk_at dksX5_all_0 0 rfl rfl)
theorem dX5_all_1 : decode cX5_all 1 = .ok (.lstore_n 1, 1) := dk_64 (dk_at dksX5_all_0 1 rfl rfl)
theorem dX5_all_2 : decode cX5_all 2 = .ok (.iconst 0, 1) := dk_3 (dk_at dksX5_all_0 2 rfl rfl)
theorem dX5_all_3 : decode cX5_all 3 = .ok (.istore_n 3, 1) := dk_62 (dk_at dksX5_all_0 3 rfl rfl)
theorem dX5_all_4 : decode cX5_all 4 = .ok (.iload_n 3, 1) := dk_29 (dk_at dksX5_all_0 4 rfl rfl)
theorem dX5_all_5 : decode cX5_all 5 = .ok (.aload_n 0, 1) := dk_42 (dk_at dksX5_all_0 5 rfl rfl)
theorem dX5_all_6 : decode cX5_all 6 = .ok (.getfield 11, 3) := dk_180 0 11 (dk_at dksX5_all_0 6 rfl rfl)
theorem dX5_all_9 : decode cX5_all 9 = .ok (.iconst 2, 1) := dk_5 (dk_at dksX5_all_0 9 rfl rfl)
theorem dX5_all_10 : decode cX5_all 10 = .ok (.iaload, 1) := dk_46 (dk_at dksX5_all_0 10 rfl rfl)
theorem dX5_all_11 : decode cX5_all 11 = .ok (.if_icmp .ge 17, 3) := dk_162 0 17 (dk_at dksX5_all_0 11 rfl rfl)
theorem dX5_all_14 : decode cX5_all 14 = .ok (.lload_n 1, 1) := dk_31 (dk_at dksX5_all_0 14 rfl rfl)
theorem dX5_all_15 : decode cX5_all 15 = .ok (.aload_n 0, 1) := dk_42 (dk_at dksX5_all_0 15 rfl rfl)
theorem dX5_all_16 : decode cX5_all 16 = .ok (.iload_n 3, 1) := dk_29 (dk_at dksX5_all_0 16 rfl rfl)
theorem dX5_all_17 : decode cX5_all 17 = .ok (.invokevirtual 288, 3) := dk_182 1 32 (dk_at dksX5_all_0 17 rfl rfl)
theorem dX5_all_20 : decode cX5_all 20 = .ok (.ladd, 1) := dk_97 (dk_at dksX5_all_0 20 rfl rfl)
theorem dX5_all_21 : decode cX5_all 21 = .ok (.lstore_n 1, 1) := dk_64 (dk_at dksX5_all_0 21 rfl rfl)
theorem dX5_all_22 : decode cX5_all 22 = .ok (.iinc 3 1, 3) := dk_132 3 1 (dk_at dksX5_all_1 0 rfl rfl)
theorem dX5_all_25 : decode cX5_all 25 = .ok (.goto (-21), 3) := dk_167 255 235 (dk_at dksX5_all_1 3 rfl rfl)
theorem dX5_all_28 : decode cX5_all 28 = .ok (.lload_n 1, 1) := dk_31 (dk_at dksX5_all_1 6 rfl rfl)
theorem dX5_all_29 : decode cX5_all 29 = .ok (.lreturn, 1) := dk_173 (dk_at dksX5_all_1 7 rfl rfl)
abbrev cX5_brings : ByteArray := prog_17_method_77_code
def yX5_brings : MethodName := ⟨RX5, "brings", "(I)J"⟩
def dkwX5_brings_1 : List UInt8 := [167, 0, 4, 9, 173]
abbrev dktX5_brings_1 : List UInt8 := dkwX5_brings_1 ++ []
def dkwX5_brings_0 : List UInt8 := [42, 27, 182, 0, 249, 153, 0, 20, 42, 27, 5, 182, 0, 189, 133, 42, 7, 182, 0, 245, 133, 105]
abbrev dktX5_brings_0 : List UInt8 := dkwX5_brings_0 ++ dktX5_brings_1
theorem dksX5_brings_0 : cX5_brings.data.toList.drop 0 = dktX5_brings_0 := by decide +kernel
theorem dksX5_brings_1 : cX5_brings.data.toList.drop 22 = dktX5_brings_1 := dk_seg dksX5_brings_0 22 rfl rfl
theorem dX5_brings_0 : decode cX5_brings 0 = .ok (.aload_n 0, 1) := dk_42 (dk_at dksX5_brings_0 0 rfl rfl)
theorem dX5_brings_1 : decode cX5_brings 1 = .ok (.iload_n 1, 1) := dk_27 (dk_at dksX5_brings_0 1 rfl rfl)
theorem dX5_brings_2 : decode cX5_brings 2 = .ok (.invokevirtual 249, 3) := dk_182 0 249 (dk_at dksX5_brings_0 2 rfl rfl)
theorem dX5_brings_5 : decode cX5_brings 5 = .ok (.ifCond .eq 20, 3) := dk_153 0 20 (dk_at dksX5_brings_0 5 rfl rfl)
theorem dX5_brings_8 : decode cX5_brings 8 = .ok (.aload_n 0, 1) := dk_42 (dk_at dksX5_brings_0 8 rfl rfl)
theorem dX5_brings_9 : decode cX5_brings 9 = .ok (.iload_n 1, 1) := dk_27 (dk_at dksX5_brings_0 9 rfl rfl)
theorem dX5_brings_10 : decode cX5_brings 10 = .ok (.iconst 2, 1) := dk_5 (dk_at dksX5_brings_0 10 rfl rfl)
theorem dX5_brings_11 : decode cX5_brings 11 = .ok (.invokevirtual 189, 3) := dk_182 0 189 (dk_at dksX5_brings_0 11 rfl rfl)
theorem dX5_brings_14 : decode cX5_brings 14 = .ok (.i2l, 1) := dk_133 (dk_at dksX5_brings_0 14 rfl rfl)
theorem dX5_brings_15 : decode cX5_brings 15 = .ok (.aload_n 0, 1) := dk_42 (dk_at dksX5_brings_0 15 rfl rfl)
theorem dX5_brings_16 : decode cX5_brings 16 = .ok (.iconst 4, 1) := dk_7 (dk_at dksX5_brings_0 16 rfl rfl)
theorem dX5_brings_17 : decode cX5_brings 17 = .ok (.invokevirtual 245, 3) := dk_182 0 245 (dk_at dksX5_brings_0 17 rfl rfl)
theorem dX5_brings_20 : decode cX5_brings 20 = .ok (.i2l, 1) := dk_133 (dk_at dksX5_brings_0 20 rfl rfl)
theorem dX5_brings_21 : decode cX5_brings 21 = .ok (.lmul, 1) := dk_105 (dk_at dksX5_brings_0 21 rfl rfl)
theorem dX5_brings_22 : decode cX5_brings 22 = .ok (.goto 4, 3) := dk_167 0 4 (dk_at dksX5_brings_1 0 rfl rfl)
theorem dX5_brings_25 : decode cX5_brings 25 = .ok (.lconst 0, 1) := dk_9 (dk_at dksX5_brings_1 3 rfl rfl)
theorem dX5_brings_26 : decode cX5_brings 26 = .ok (.lreturn, 1) := dk_173 (dk_at dksX5_brings_1 4 rfl rfl)
abbrev cX5_revenueOf : ByteArray := prog_17_method_80_code
def yX5_revenueOf : MethodName := ⟨RX5, "revenueOf", "(I)J"⟩
def dkwX5_revenueOf_0 : List UInt8 := [42, 42, 27, 182, 0, 186, 4, 182, 0, 176, 153, 0, 7, 9, 167, 0, 8, 42, 27, 182, 1, 32, 173]
abbrev dktX5_revenueOf_0 : List UInt8 := dkwX5_revenueOf_0 ++ []
theorem dksX5_revenueOf_0 : cX5_revenueOf.data.toList.drop 0 = dktX5_revenueOf_0 := by decide +kernel
theorem dX5_revenueOf_0 : decode cX5_revenueOf 0 = .ok (.aload_n 0, 1) := dk_42 (dk_at dksX5_revenueOf_0 0 rfl rfl)
theorem dX5_revenueOf_1 : decode cX5_revenueOf 1 = .ok (.aload_n 0, 1) := dk_42 (dk_at dksX5_revenueOf_0 1 rfl rfl)
theorem dX5_revenueOf_2 : decode cX5_revenueOf 2 = .ok (.iload_n 1, 1) := dk_27 (dk_at dksX5_revenueOf_0 2 rfl rfl)
theorem dX5_revenueOf_3 : decode cX5_revenueOf 3 = .ok (.invokevirtual 186, 3) := dk_182 0 186 (dk_at dksX5_revenueOf_0 3 rfl rfl)
theorem dX5_revenueOf_6 : decode cX5_revenueOf 6 = .ok (.iconst 1, 1) := dk_4 (dk_at dksX5_revenueOf_0 6 rfl rfl)
theorem dX5_revenueOf_7 : decode cX5_revenueOf 7 = .ok (.invokevirtual 176, 3) := dk_182 0 176 (dk_at dksX5_revenueOf_0 7 rfl rfl)
theorem dX5_revenueOf_10 : decode cX5_revenueOf 10 = .ok (.ifCond .eq 7, 3) := dk_153 0 7 (dk_at dksX5_revenueOf_0 10 rfl rfl)
theorem dX5_revenueOf_13 : decode cX5_revenueOf 13 = .ok (.lconst 0, 1) := dk_9 (dk_at dksX5_revenueOf_0 13 rfl rfl)
theorem dX5_revenueOf_14 : decode cX5_revenueOf 14 = .ok (.goto 8, 3) := dk_167 0 8 (dk_at dksX5_revenueOf_0 14 rfl rfl)
theorem dX5_revenueOf_17 : decode cX5_revenueOf 17 = .ok (.aload_n 0, 1) := dk_42 (dk_at dksX5_revenueOf_0 17 rfl rfl)
theorem dX5_revenueOf_18 : decode cX5_revenueOf 18 = .ok (.iload_n 1, 1) := dk_27 (dk_at dksX5_revenueOf_0 18 rfl rfl)
theorem dX5_revenueOf_19 : decode cX5_revenueOf 19 = .ok (.invokevirtual 288, 3) := dk_182 1 32 (dk_at dksX5_revenueOf_0 19 rfl rfl)
theorem dX5_revenueOf_22 : decode cX5_revenueOf 22 = .ok (.lreturn, 1) := dk_173 (dk_at dksX5_revenueOf_0 22 rfl rfl)
abbrev cX5_arcRevenue : ByteArray := prog_17_method_81_code
def yX5_arcRevenue : MethodName := ⟨RX5, "arcRevenue", "(I)J"⟩
def dkwX5_arcRevenue_1 : List UInt8 := [27, 7, 182, 0, 180, 133, 105, 173]
abbrev dktX5_arcRevenue_1 : List UInt8 := dkwX5_arcRevenue_1 ++ []
def dkwX5_arcRevenue_0 : List UInt8 := [42, 42, 27, 182, 0, 182, 4, 182, 0, 176, 153, 0, 7, 9, 167, 0, 17, 42, 27, 182, 1, 11, 133, 42]
abbrev dktX5_arcRevenue_0 : List UInt8 := dkwX5_arcRevenue_0 ++ dktX5_arcRevenue_1
theorem dksX5_arcRevenue_0 : cX5_arcRevenue.data.toList.drop 0 = dktX5_arcRevenue_0 := by decide +kernel
theorem dksX5_arcRevenue_1 : cX5_arcRevenue.data.toList.drop 24 = dktX5_arcRevenue_1 := dk_seg dksX5_arcRevenue_0 24 rfl rfl
theorem dX5_arcRevenue_0 : decode cX5_arcRevenue 0 = .ok (.aload_n 0, 1) := dk_42 (dk_at dksX5_arcRevenue_0 0 rfl rfl)
theorem dX5_arcRevenue_1 : decode cX5_arcRevenue 1 = .ok (.aload_n 0, 1) := dk_42 (dk_at dksX5_arcRevenue_0 1 rfl rfl)
theorem dX5_arcRevenue_2 : decode cX5_arcRevenue 2 = .ok (.iload_n 1, 1) := dk_27 (dk_at dksX5_arcRevenue_0 2 rfl rfl)
theorem dX5_arcRevenue_3 : decode cX5_arcRevenue 3 = .ok (.invokevirtual 182, 3) := dk_182 0 182 (dk_at dksX5_arcRevenue_0 3 rfl rfl)
theorem dX5_arcRevenue_6 : decode cX5_arcRevenue 6 = .ok (.iconst 1, 1) := dk_4 (dk_at dksX5_arcRevenue_0 6 rfl rfl)
theorem dX5_arcRevenue_7 : decode cX5_arcRevenue 7 = .ok (.invokevirtual 176, 3) := dk_182 0 176 (dk_at dksX5_arcRevenue_0 7 rfl rfl)
theorem dX5_arcRevenue_10 : decode cX5_arcRevenue 10 = .ok (.ifCond .eq 7, 3) := dk_153 0 7 (dk_at dksX5_arcRevenue_0 10 rfl rfl)
theorem dX5_arcRevenue_13 : decode cX5_arcRevenue 13 = .ok (.lconst 0, 1) := dk_9 (dk_at dksX5_arcRevenue_0 13 rfl rfl)
theorem dX5_arcRevenue_14 : decode cX5_arcRevenue 14 = .ok (.goto 17, 3) := dk_167 0 17 (dk_at dksX5_arcRevenue_0 14 rfl rfl)
theorem dX5_arcRevenue_17 : decode cX5_arcRevenue 17 = .ok (.aload_n 0, 1) := dk_42 (dk_at dksX5_arcRevenue_0 17 rfl rfl)
theorem dX5_arcRevenue_18 : decode cX5_arcRevenue 18 = .ok (.iload_n 1, 1) := dk_27 (dk_at dksX5_arcRevenue_0 18 rfl rfl)
theorem dX5_arcRevenue_19 : decode cX5_arcRevenue 19 = .ok (.invokevirtual 267, 3) := dk_182 1 11 (dk_at dksX5_arcRevenue_0 19 rfl rfl)
theorem dX5_arcRevenue_22 : decode cX5_arcRevenue 22 = .ok (.i2l, 1) := dk_133 (dk_at dksX5_arcRevenue_0 22 rfl rfl)
theorem dX5_arcRevenue_23 : decode cX5_arcRevenue 23 = .ok (.aload_n 0, 1) := dk_42 (dk_at dksX5_arcRevenue_0 23 rfl rfl)
theorem dX5_arcRevenue_24 : decode cX5_arcRevenue 24 = .ok (.iload_n 1, 1) := dk_27 (dk_at dksX5_arcRevenue_1 0 rfl rfl)
theorem dX5_arcRevenue_25 : decode cX5_arcRevenue 25 = .ok (.iconst 4, 1) := dk_7 (dk_at dksX5_arcRevenue_1 1 rfl rfl)
theorem dX5_arcRevenue_26 : decode cX5_arcRevenue 26 = .ok (.invokevirtual 180, 3) := dk_182 0 180 (dk_at dksX5_arcRevenue_1 2 rfl rfl)
theorem dX5_arcRevenue_29 : decode cX5_arcRevenue 29 = .ok (.i2l, 1) := dk_133 (dk_at dksX5_arcRevenue_1 5 rfl rfl)
theorem dX5_arcRevenue_30 : decode cX5_arcRevenue 30 = .ok (.lmul, 1) := dk_105 (dk_at dksX5_arcRevenue_1 6 rfl rfl)
theorem dX5_arcRevenue_31 : decode cX5_arcRevenue 31 = .ok (.lreturn, 1) := dk_173 (dk_at dksX5_arcRevenue_1 7 rfl rfl)
abbrev cX5_pledge : ByteArray := prog_17_method_85_code
def yX5_pledge : MethodName := ⟨RX5, "pledge", "(I)J"⟩
def dkwX5_pledge_0 : List UInt8 := [42, 42, 27, 182, 0, 186, 4, 182, 0, 176, 153, 0, 7, 9, 167, 0, 8, 42, 27, 182, 1, 47, 173]
abbrev dktX5_pledge_0 : List UInt8 := dkwX5_pledge_0 ++ []
theorem dksX5_pledge_0 : cX5_pledge.data.toList.drop 0 = dktX5_pledge_0 := by decide +kernel
theorem dX5_pledge_0 : decode cX5_pledge 0 = .ok (.aload_n 0, 1) := dk_42 (dk_at dksX5_pledge_0 0 rfl rfl)
theorem dX5_pledge_1 : decode cX5_pledge 1 = .ok (.aload_n 0, 1) := dk_42 (dk_at dksX5_pledge_0 1 rfl rfl)
theorem dX5_pledge_2 : decode cX5_pledge 2 = .ok (.iload_n 1, 1) := dk_27 (dk_at dksX5_pledge_0 2 rfl rfl)
theorem dX5_pledge_3 : decode cX5_pledge 3 = .ok (.invokevirtual 186, 3) := dk_182 0 186 (dk_at dksX5_pledge_0 3 rfl rfl)
theorem dX5_pledge_6 : decode cX5_pledge 6 = .ok (.iconst 1, 1) := dk_4 (dk_at dksX5_pledge_0 6 rfl rfl)
theorem dX5_pledge_7 : decode cX5_pledge 7 = .ok (.invokevirtual 176, 3) := dk_182 0 176 (dk_at dksX5_pledge_0 7 rfl rfl)
theorem dX5_pledge_10 : decode cX5_pledge 10 = .ok (.ifCond .eq 7, 3) := dk_153 0 7 (dk_at dksX5_pledge_0 10 rfl rfl)
theorem dX5_pledge_13 : decode cX5_pledge 13 = .ok (.lconst 0, 1) := dk_9 (dk_at dksX5_pledge_0 13 rfl rfl)
theorem dX5_pledge_14 : decode cX5_pledge 14 = .ok (.goto 8, 3) := dk_167 0 8 (dk_at dksX5_pledge_0 14 rfl rfl)
theorem dX5_pledge_17 : decode cX5_pledge 17 = .ok (.aload_n 0, 1) := dk_42 (dk_at dksX5_pledge_0 17 rfl rfl)
theorem dX5_pledge_18 : decode cX5_pledge 18 = .ok (.iload_n 1, 1) := dk_27 (dk_at dksX5_pledge_0 18 rfl rfl)
theorem dX5_pledge_19 : decode cX5_pledge 19 = .ok (.invokevirtual 303, 3) := dk_182 1 47 (dk_at dksX5_pledge_0 19 rfl rfl)
theorem dX5_pledge_22 : decode cX5_pledge 22 = .ok (.lreturn, 1) := dk_173 (dk_at dksX5_pledge_0 22 rfl rfl)
abbrev cX5_pledged : ByteArray := prog_17_method_84_code
def yX5_pledged : MethodName := ⟨RX5, "pledged", "(I)J"⟩
def dkwX5_pledged_2 : List UInt8 := [182, 0, 189, 133, 28, 29, 100, 133, 105, 173]
abbrev dktX5_pledged_2 : List UInt8 := dkwX5_pledged_2 ++ []
def dkwX5_pledged_1 : List UInt8 := [182, 0, 255, 62, 42, 182, 1, 42, 28, 2, 160, 0, 9, 20, 1, 45, 167, 0, 15, 42, 27, 5]
abbrev dktX5_pledged_1 : List UInt8 := dkwX5_pledged_1 ++ dktX5_pledged_2
def dkwX5_pledged_0 : List UInt8 := [42, 4, 181, 0, 210, 42, 27, 182, 0, 255, 61, 42, 3, 181, 0, 210, 42, 182, 1, 39, 42, 27]
abbrev dktX5_pledged_0 : List UInt8 := dkwX5_pledged_0 ++ dktX5_pledged_1
theorem dksX5_pledged_0 : cX5_pledged.data.toList.drop 0 = dktX5_pledged_0 := by decide +kernel
theorem dksX5_pledged_1 : cX5_pledged.data.toList.drop 22 = dktX5_pledged_1 := dk_seg dksX5_pledged_0 22 rfl rfl
theorem dksX5_pledged_2 : cX5_pledged.data.toList.drop 44 = dktX5_pledged_2 := dk_seg dksX5_pledged_1 22 rfl rfl
theorem dX5_pledged_0 : decode cX5_pledged 0 = .ok (.aload_n 0, 1) := dk_42 (dk_at dksX5_pledged_0 0 rfl rfl)
theorem dX5_pledged_1 : decode cX5_pledged 1 = .ok (.iconst 1, 1) := dk_4 (dk_at dksX5_pledged_0 1 rfl rfl)
theorem dX5_pledged_2 : decode cX5_pledged 2 = .ok (.putfield 210, 3) := dk_181 0 210 (dk_at dksX5_pledged_0 2 rfl rfl)
theorem dX5_pledged_5 : decode cX5_pledged 5 = .ok (.aload_n 0, 1) := dk_42 (dk_at dksX5_pledged_0 5 rfl rfl)
theorem dX5_pledged_6 : decode cX5_pledged 6 = .ok (.iload_n 1, 1) := dk_27 (dk_at dksX5_pledged_0 6 rfl rfl)
theorem dX5_pledged_7 : decode cX5_pledged 7 = .ok (.invokevirtual 255, 3) := dk_182 0 255 (dk_at dksX5_pledged_0 7 rfl rfl)
theorem dX5_pledged_10 : decode cX5_pledged 10 = .ok (.istore_n 2, 1) := dk_61 (dk_at dksX5_pledged_0 10 rfl rfl)
theorem dX5_pledged_11 : decode cX5_pledged 11 = .ok (.aload_n 0, 1) := dk_42 (dk_at dksX5_pledged_0 11 rfl rfl)
theorem dX5_pledged_12 : decode cX5_pledged 12 = .ok (.iconst 0, 1) := dk_3 (dk_at dksX5_pledged_0 12 rfl rfl)
theorem dX5_pledged_13 : decode cX5_pledged 13 = .ok (.putfield 210, 3) := dk_181 0 210 (dk_at dksX5_pledged_0 13 rfl rfl)
theorem dX5_pledged_16 : decode cX5_pledged 16 = .ok (.aload_n 0, 1) := dk_42 (dk_at dksX5_pledged_0 16 rfl rfl)
theorem dX5_pledged_17 : decode cX5_pledged 17 = .ok (.invokevirtual 295, 3) := dk_182 1 39 (dk_at dksX5_pledged_0 17 rfl rfl)
theorem dX5_pledged_20 : decode cX5_pledged 20 = .ok (.aload_n 0, 1) := dk_42 (dk_at dksX5_pledged_0 20 rfl rfl)
theorem dX5_pledged_21 : decode cX5_pledged 21 = .ok (.iload_n 1, 1) := dk_27 (dk_at dksX5_pledged_0 21 rfl rfl)
theorem dX5_pledged_22 : decode cX5_pledged 22 = .ok (.invokevirtual 255, 3) := dk_182 0 255 (dk_at dksX5_pledged_1 0 rfl rfl)
theorem dX5_pledged_25 : decode cX5_pledged 25 = .ok (.istore_n 3, 1) := dk_62 (dk_at dksX5_pledged_1 3 rfl rfl)
theorem dX5_pledged_26 : decode cX5_pledged 26 = .ok (.aload_n 0, 1) := dk_42 (dk_at dksX5_pledged_1 4 rfl rfl)
theorem dX5_pledged_27 : decode cX5_pledged 27 = .ok (.invokevirtual 298, 3) := dk_182 1 42 (dk_at dksX5_pledged_1 5 rfl rfl)
theorem dX5_pledged_30 : decode cX5_pledged 30 = .ok (.iload_n 2, 1) := dk_28 (dk_at dksX5_pledged_1 8 rfl rfl)
theorem dX5_pledged_31 : decode cX5_pledged 31 = .ok (.iconst (-1), 1) := dk_2 (dk_at dksX5_pledged_1 9 rfl rfl)
theorem dX5_pledged_32 : decode cX5_pledged 32 = .ok (.if_icmp .ne 9, 3) := dk_160 0 9 (dk_at dksX5_pledged_1 10 rfl rfl)
theorem dX5_pledged_35 : decode cX5_pledged 35 = .ok (.ldc2_w 301, 3) := dk_20 1 45 (dk_at dksX5_pledged_1 13 rfl rfl)
theorem dX5_pledged_38 : decode cX5_pledged 38 = .ok (.goto 15, 3) := dk_167 0 15 (dk_at dksX5_pledged_1 16 rfl rfl)
theorem dX5_pledged_41 : decode cX5_pledged 41 = .ok (.aload_n 0, 1) := dk_42 (dk_at dksX5_pledged_1 19 rfl rfl)
theorem dX5_pledged_42 : decode cX5_pledged 42 = .ok (.iload_n 1, 1) := dk_27 (dk_at dksX5_pledged_1 20 rfl rfl)
theorem dX5_pledged_43 : decode cX5_pledged 43 = .ok (.iconst 2, 1) := dk_5 (dk_at dksX5_pledged_1 21 rfl rfl)
theorem dX5_pledged_44 : decode cX5_pledged 44 = .ok (.invokevirtual 189, 3) := dk_182 0 189 (dk_at dksX5_pledged_2 0 rfl rfl)
theorem dX5_pledged_47 : decode cX5_pledged 47 = .ok (.i2l, 1) := dk_133 (dk_at dksX5_pledged_2 3 rfl rfl)
theorem dX5_pledged_48 : decode cX5_pledged 48 = .ok (.iload_n 2, 1) := dk_28 (dk_at dksX5_pledged_2 4 rfl rfl)
theorem dX5_pledged_49 : decode cX5_pledged 49 = .ok (.iload_n 3, 1) := dk_29 (dk_at dksX5_pledged_2 5 rfl rfl)
theorem dX5_pledged_50 : decode cX5_pledged 50 = .ok (.isub, 1) := dk_100 (dk_at dksX5_pledged_2 6 rfl rfl)
theorem dX5_pledged_51 : decode cX5_pledged 51 = .ok (.i2l, 1) := dk_133 (dk_at dksX5_pledged_2 7 rfl rfl)
theorem dX5_pledged_52 : decode cX5_pledged 52 = .ok (.lmul, 1) := dk_105 (dk_at dksX5_pledged_2 8 rfl rfl)
theorem dX5_pledged_53 : decode cX5_pledged 53 = .ok (.lreturn, 1) := dk_173 (dk_at dksX5_pledged_2 9 rfl rfl)
abbrev cX5_dropsTolls : ByteArray := prog_17_method_82_code
def yX5_dropsTolls : MethodName := ⟨RX5, "dropsTolls", "()V"⟩
def dkwX5_dropsTolls_1 : List UInt8 := [27, 7, 184, 0, 77, 3, 79, 132, 1, 1, 167, 255, 224, 177]
abbrev dktX5_dropsTolls_1 : List UInt8 := dkwX5_dropsTolls_1 ++ []
def dkwX5_dropsTolls_0 : List UInt8 := [3, 60, 27, 16, 24, 162, 0, 32, 42, 180, 0, 58, 27, 42, 27, 7, 182, 0, 180, 79, 42, 180, 0, 11]
abbrev dktX5_dropsTolls_0 : List UInt8 := dkwX5_dropsTolls_0 ++ dktX5_dropsTolls_1
theorem dksX5_dropsTolls_0 : cX5_dropsTolls.data.toList.drop 0 = dktX5_dropsTolls_0 := by decide +kernel
theorem dksX5_dropsTolls_1 : cX5_dropsTolls.data.toList.drop 24 = dktX5_dropsTolls_1 := dk_seg dksX5_dropsTolls_0 24 rfl rfl
theorem dX5_dropsTolls_0 : decode cX5_dropsTolls 0 = .ok (.iconst 0, 1) := dk_3 (dk_at dksX5_dropsTolls_0 0 rfl rfl)
theorem dX5_dropsTolls_1 : decode cX5_dropsTolls 1 = .ok (.istore_n 1, 1) := dk_60 (dk_at dksX5_dropsTolls_0 1 rfl rfl)
theorem dX5_dropsTolls_2 : decode cX5_dropsTolls 2 = .ok (.iload_n 1, 1) := dk_27 (dk_at dksX5_dropsTolls_0 2 rfl rfl)
theorem dX5_dropsTolls_3 : decode cX5_dropsTolls 3 = .ok (.bipush 24, 2) := dk_16 24 (dk_at dksX5_dropsTolls_0 3 rfl rfl)
theorem dX5_dropsTolls_5 : decode cX5_dropsTolls 5 = .ok (.if_icmp .ge 32, 3) := dk_162 0 32 (dk_at dksX5_dropsTolls_0 5 rfl rfl)
theorem dX5_dropsTolls_8 : decode cX5_dropsTolls 8 = .ok (.aload_n 0, 1) := dk_42 (dk_at dksX5_dropsTolls_0 8 rfl rfl)
theorem dX5_dropsTolls_9 : decode cX5_dropsTolls 9 = .ok (.getfield 58, 3) := dk_180 0 58 (dk_at dksX5_dropsTolls_0 9 rfl rfl)
theorem dX5_dropsTolls_12 : decode cX5_dropsTolls 12 = .ok (.iload_n 1, 1) := dk_27 (dk_at dksX5_dropsTolls_0 12 rfl rfl)
theorem dX5_dropsTolls_13 : decode cX5_dropsTolls 13 = .ok (.aload_n 0, 1) := dk_42 (dk_at dksX5_dropsTolls_0 13 rfl rfl)
theorem dX5_dropsTolls_14 : decode cX5_dropsTolls 14 = .ok (.iload_n 1, 1) := dk_27 (dk_at dksX5_dropsTolls_0 14 rfl rfl)
theorem dX5_dropsTolls_15 : decode cX5_dropsTolls 15 = .ok (.iconst 4, 1) := dk_7 (dk_at dksX5_dropsTolls_0 15 rfl rfl)
theorem dX5_dropsTolls_16 : decode cX5_dropsTolls 16 = .ok (.invokevirtual 180, 3) := dk_182 0 180 (dk_at dksX5_dropsTolls_0 16 rfl rfl)
theorem dX5_dropsTolls_19 : decode cX5_dropsTolls 19 = .ok (.iastore, 1) := dk_79 (dk_at dksX5_dropsTolls_0 19 rfl rfl)
theorem dX5_dropsTolls_20 : decode cX5_dropsTolls 20 = .ok (.aload_n 0, 1) := dk_42 (dk_at dksX5_dropsTolls_0 20 rfl rfl)
theorem dX5_dropsTolls_21 : decode cX5_dropsTolls 21 = .ok (.getfield 11, 3) := dk_180 0 11 (dk_at dksX5_dropsTolls_0 21 rfl rfl)
theorem dX5_dropsTolls_24 : decode cX5_dropsTolls 24 = .ok (.iload_n 1, 1) := dk_27 (dk_at dksX5_dropsTolls_1 0 rfl rfl)
theorem dX5_dropsTolls_25 : decode cX5_dropsTolls 25 = .ok (.iconst 4, 1) := dk_7 (dk_at dksX5_dropsTolls_1 1 rfl rfl)
theorem dX5_dropsTolls_26 : decode cX5_dropsTolls 26 = .ok (.invokestatic 77, 3) := dk_184 0 77 (dk_at dksX5_dropsTolls_1 2 rfl rfl)
theorem dX5_dropsTolls_29 : decode cX5_dropsTolls 29 = .ok (.iconst 0, 1) := dk_3 (dk_at dksX5_dropsTolls_1 5 rfl rfl)
theorem dX5_dropsTolls_30 : decode cX5_dropsTolls 30 = .ok (.iastore, 1) := dk_79 (dk_at dksX5_dropsTolls_1 6 rfl rfl)
theorem dX5_dropsTolls_31 : decode cX5_dropsTolls 31 = .ok (.iinc 1 1, 3) := dk_132 1 1 (dk_at dksX5_dropsTolls_1 7 rfl rfl)
theorem dX5_dropsTolls_34 : decode cX5_dropsTolls 34 = .ok (.goto (-32), 3) := dk_167 255 224 (dk_at dksX5_dropsTolls_1 10 rfl rfl)
theorem dX5_dropsTolls_37 : decode cX5_dropsTolls 37 = .ok (.return_, 1) := dk_177 (dk_at dksX5_dropsTolls_1 13 rfl rfl)
abbrev cX5_takesTolls : ByteArray := prog_17_method_83_code
def yX5_takesTolls : MethodName := ⟨RX5, "takesTolls", "()V"⟩
def dkwX5_takesTolls_1 : List UInt8 := [132, 1, 1, 167, 255, 231, 177]
abbrev dktX5_takesTolls_1 : List UInt8 := dkwX5_takesTolls_1 ++ []
def dkwX5_takesTolls_0 : List UInt8 := [3, 60, 27, 16, 24, 162, 0, 25, 42, 180, 0, 11, 27, 7, 184, 0, 77, 42, 180, 0, 58, 27, 46, 79]
abbrev dktX5_takesTolls_0 : List UInt8 := dkwX5_takesTolls_0 ++ dktX5_takesTolls_1
theorem dksX5_takesTolls_0 : cX5_takesTolls.data.toList.drop 0 = dktX5_takesTolls_0 := by decide +kernel
theorem dksX5_takesTolls_1 : cX5_takesTolls.data.toList.drop 24 = dktX5_takesTolls_1 := dk_seg dksX5_takesTolls_0 24 rfl rfl
theorem dX5_takesTolls_0 : decode cX5_takesTolls 0 = .ok (.iconst 0, 1) := dk_3 (dk_at dksX5_takesTolls_0 0 rfl rfl)
theorem dX5_takesTolls_1 : decode cX5_takesTolls 1 = .ok (.istore_n 1, 1) := dk_60 (dk_at dksX5_takesTolls_0 1 rfl rfl)
theorem dX5_takesTolls_2 : decode cX5_takesTolls 2 = .ok (.iload_n 1, 1) := dk_27 (dk_at dksX5_takesTolls_0 2 rfl rfl)
theorem dX5_takesTolls_3 : decode cX5_takesTolls 3 = .ok (.bipush 24, 2) := dk_16 24 (dk_at dksX5_takesTolls_0 3 rfl rfl)
theorem dX5_takesTolls_5 : decode cX5_takesTolls 5 = .ok (.if_icmp .ge 25, 3) := dk_162 0 25 (dk_at dksX5_takesTolls_0 5 rfl rfl)
theorem dX5_takesTolls_8 : decode cX5_takesTolls 8 = .ok (.aload_n 0, 1) := dk_42 (dk_at dksX5_takesTolls_0 8 rfl rfl)
theorem dX5_takesTolls_9 : decode cX5_takesTolls 9 = .ok (.getfield 11, 3) := dk_180 0 11 (dk_at dksX5_takesTolls_0 9 rfl rfl)
theorem dX5_takesTolls_12 : decode cX5_takesTolls 12 = .ok (.iload_n 1, 1) := dk_27 (dk_at dksX5_takesTolls_0 12 rfl rfl)
theorem dX5_takesTolls_13 : decode cX5_takesTolls 13 = .ok (.iconst 4, 1) := dk_7 (dk_at dksX5_takesTolls_0 13 rfl rfl)
theorem dX5_takesTolls_14 : decode cX5_takesTolls 14 = .ok (.invokestatic 77, 3) := dk_184 0 77 (dk_at dksX5_takesTolls_0 14 rfl rfl)
theorem dX5_takesTolls_17 : decode cX5_takesTolls 17 = .ok (.aload_n 0, 1) := dk_42 (dk_at dksX5_takesTolls_0 17 rfl rfl)
theorem dX5_takesTolls_18 : decode cX5_takesTolls 18 = .ok (.getfield 58, 3) := dk_180 0 58 (dk_at dksX5_takesTolls_0 18 rfl rfl)
theorem dX5_takesTolls_21 : decode cX5_takesTolls 21 = .ok (.iload_n 1, 1) := dk_27 (dk_at dksX5_takesTolls_0 21 rfl rfl)
theorem dX5_takesTolls_22 : decode cX5_takesTolls 22 = .ok (.iaload, 1) := dk_46 (dk_at dksX5_takesTolls_0 22 rfl rfl)
theorem dX5_takesTolls_23 : decode cX5_takesTolls 23 = .ok (.iastore, 1) := dk_79 (dk_at dksX5_takesTolls_0 23 rfl rfl)
theorem dX5_takesTolls_24 : decode cX5_takesTolls 24 = .ok (.iinc 1 1, 3) := dk_132 1 1 (dk_at dksX5_takesTolls_1 0 rfl rfl)
theorem dX5_takesTolls_27 : decode cX5_takesTolls 27 = .ok (.goto (-25), 3) := dk_167 255 231 (dk_at dksX5_takesTolls_1 3 rfl rfl)
theorem dX5_takesTolls_30 : decode cX5_takesTolls 30 = .ok (.return_, 1) := dk_177 (dk_at dksX5_takesTolls_1 6 rfl rfl)
abbrev cX5_bound : ByteArray := prog_17_method_86_code
def yX5_bound : MethodName := ⟨RX5, "bound", "()J"⟩
def dkwX5_bound_2 : List UInt8 := [20, 1, 45, 173, 31, 22, 4, 97, 64, 132, 3, 1, 167, 255, 207, 31, 173]
abbrev dktX5_bound_2 : List UInt8 := dkwX5_bound_2 ++ []
def dkwX5_bound_1 : List UInt8 := [154, 0, 6, 167, 0, 28, 42, 29, 182, 1, 47, 55, 4, 22, 4, 20, 1, 45, 148, 154, 0, 7]
abbrev dktX5_bound_1 : List UInt8 := dkwX5_bound_1 ++ dktX5_bound_2
def dkwX5_bound_0 : List UInt8 := [42, 3, 181, 0, 74, 9, 64, 3, 62, 29, 42, 180, 0, 11, 5, 46, 162, 0, 45, 42, 29, 182, 0, 249]
abbrev dktX5_bound_0 : List UInt8 := dkwX5_bound_0 ++ dktX5_bound_1
theorem dksX5_bound_0 : cX5_bound.data.toList.drop 0 = dktX5_bound_0 := by decide +kernel
theorem dksX5_bound_1 : cX5_bound.data.toList.drop 24 = dktX5_bound_1 := dk_seg dksX5_bound_0 24 rfl rfl
theorem dksX5_bound_2 : cX5_bound.data.toList.drop 46 = dktX5_bound_2 := dk_seg dksX5_bound_1 22 rfl rfl
theorem dX5_bound_0 : decode cX5_bound 0 = .ok (.aload_n 0, 1) := dk_42 (dk_at dksX5_bound_0 0 rfl rfl)
theorem dX5_bound_1 : decode cX5_bound 1 = .ok (.iconst 0, 1) := dk_3 (dk_at dksX5_bound_0 1 rfl rfl)
theorem dX5_bound_2 : decode cX5_bound 2 = .ok (.putfield 74, 3) := dk_181 0 74 (dk_at dksX5_bound_0 2 rfl rfl)
theorem dX5_bound_5 : decode cX5_bound 5 = .ok (.lconst 0, 1) := dk_9 (dk_at dksX5_bound_0 5 rfl rfl)
theorem dX5_bound_6 : decode cX5_bound 6 = .ok (.lstore_n 1, 1) := dk_64 (dk_at dksX5_bound_0 6 rfl rfl)
theorem dX5_bound_7 : decode cX5_bound 7 = .ok (.iconst 0, 1) := dk_3 (dk_at dksX5_bound_0 7 rfl rfl)
theorem dX5_bound_8 : decode cX5_bound 8 = .ok (.istore_n 3, 1) := dk_62 (dk_at dksX5_bound_0 8 rfl rfl)
theorem dX5_bound_9 : decode cX5_bound 9 = .ok (.iload_n 3, 1) := dk_29 (dk_at dksX5_bound_0 9 rfl rfl)
theorem dX5_bound_10 : decode cX5_bound 10 = .ok (.aload_n 0, 1) := dk_42 (dk_at dksX5_bound_0 10 rfl rfl)
theorem dX5_bound_11 : decode cX5_bound 11 = .ok (.getfield 11, 3) := dk_180 0 11 (dk_at dksX5_bound_0 11 rfl rfl)
theorem dX5_bound_14 : decode cX5_bound 14 = .ok (.iconst 2, 1) := dk_5 (dk_at dksX5_bound_0 14 rfl rfl)
theorem dX5_bound_15 : decode cX5_bound 15 = .ok (.iaload, 1) := dk_46 (dk_at dksX5_bound_0 15 rfl rfl)
theorem dX5_bound_16 : decode cX5_bound 16 = .ok (.if_icmp .ge 45, 3) := dk_162 0 45 (dk_at dksX5_bound_0 16 rfl rfl)
theorem dX5_bound_19 : decode cX5_bound 19 = .ok (.aload_n 0, 1) := dk_42 (dk_at dksX5_bound_0 19 rfl rfl)
theorem dX5_bound_20 : decode cX5_bound 20 = .ok (.iload_n 3, 1) := dk_29 (dk_at dksX5_bound_0 20 rfl rfl)
theorem dX5_bound_21 : decode cX5_bound 21 = .ok (.invokevirtual 249, 3) := dk_182 0 249 (dk_at dksX5_bound_0 21 rfl rfl)
theorem dX5_bound_24 : decode cX5_bound 24 = .ok (.ifCond .ne 6, 3) := dk_154 0 6 (dk_at dksX5_bound_1 0 rfl rfl)
theorem dX5_bound_27 : decode cX5_bound 27 = .ok (.goto 28, 3) := dk_167 0 28 (dk_at dksX5_bound_1 3 rfl rfl)
theorem dX5_bound_30 : decode cX5_bound 30 = .ok (.aload_n 0, 1) := dk_42 (dk_at dksX5_bound_1 6 rfl rfl)
theorem dX5_bound_31 : decode cX5_bound 31 = .ok (.iload_n 3, 1) := dk_29 (dk_at dksX5_bound_1 7 rfl rfl)
theorem dX5_bound_32 : decode cX5_bound 32 = .ok (.invokevirtual 303, 3) := dk_182 1 47 (dk_at dksX5_bound_1 8 rfl rfl)
theorem dX5_bound_35 : decode cX5_bound 35 = .ok (.lstore 4, 2) := dk_55 4 (dk_at dksX5_bound_1 11 rfl rfl)
theorem dX5_bound_37 : decode cX5_bound 37 = .ok (.lload 4, 2) := dk_22 4 (dk_at dksX5_bound_1 13 rfl rfl)
theorem dX5_bound_39 : decode cX5_bound 39 = .ok (.ldc2_w 301, 3) := dk_20 1 45 (dk_at dksX5_bound_1 15 rfl rfl)
theorem dX5_bound_42 : decode cX5_bound 42 = .ok (.lcmp, 1) := dk_148 (dk_at dksX5_bound_1 18 rfl rfl)
theorem dX5_bound_43 : decode cX5_bound 43 = .ok (.ifCond .ne 7, 3) := dk_154 0 7 (dk_at dksX5_bound_1 19 rfl rfl)
theorem dX5_bound_46 : decode cX5_bound 46 = .ok (.ldc2_w 301, 3) := dk_20 1 45 (dk_at dksX5_bound_2 0 rfl rfl)
theorem dX5_bound_49 : decode cX5_bound 49 = .ok (.lreturn, 1) := dk_173 (dk_at dksX5_bound_2 3 rfl rfl)
theorem dX5_bound_50 : decode cX5_bound 50 = .ok (.lload_n 1, 1) := dk_31 (dk_at dksX5_bound_2 4 rfl rfl)
theorem dX5_bound_51 : decode cX5_bound 51 = .ok (.lload 4, 2) := dk_22 4 (dk_at dksX5_bound_2 5 rfl rfl)
theorem dX5_bound_53 : decode cX5_bound 53 = .ok (.ladd, 1) := dk_97 (dk_at dksX5_bound_2 7 rfl rfl)
theorem dX5_bound_54 : decode cX5_bound 54 = .ok (.lstore_n 1, 1) := dk_64 (dk_at dksX5_bound_2 8 rfl rfl)
theorem dX5_bound_55 : decode cX5_bound 55 = .ok (.iinc 3 1, 3) := dk_132 3 1 (dk_at dksX5_bound_2 9 rfl rfl)
theorem dX5_bound_58 : decode cX5_bound 58 = .ok (.goto (-49), 3) := dk_167 255 207 (dk_at dksX5_bound_2 12 rfl rfl)
theorem dX5_bound_61 : decode cX5_bound 61 = .ok (.lload_n 1, 1) := dk_31 (dk_at dksX5_bound_2 15 rfl rfl)
theorem dX5_bound_62 : decode cX5_bound 62 = .ok (.lreturn, 1) := dk_173 (dk_at dksX5_bound_2 16 rfl rfl)
abbrev cX5_burden : ByteArray := prog_17_method_87_code
def yX5_burden : MethodName := ⟨RX5, "burden", "()J"⟩
def dkwX5_burden_2 : List UInt8 := [97, 64, 132, 3, 1, 167, 255, 214, 31, 173]
abbrev dktX5_burden_2 : List UInt8 := dkwX5_burden_2 ++ []
def dkwX5_burden_1 : List UInt8 := [182, 0, 249, 153, 0, 20, 42, 29, 5, 182, 0, 189, 133, 42, 29, 182, 0, 252, 133, 105, 167, 0, 4, 9]
abbrev dktX5_burden_1 : List UInt8 := dkwX5_burden_1 ++ dktX5_burden_2
def dkwX5_burden_0 : List UInt8 := [42, 3, 181, 0, 74, 9, 64, 3, 62, 29, 42, 180, 0, 11, 5, 46, 162, 0, 38, 31, 42, 29]
abbrev dktX5_burden_0 : List UInt8 := dkwX5_burden_0 ++ dktX5_burden_1
theorem dksX5_burden_0 : cX5_burden.data.toList.drop 0 = dktX5_burden_0 := by decide +kernel
theorem dksX5_burden_1 : cX5_burden.data.toList.drop 22 = dktX5_burden_1 := dk_seg dksX5_burden_0 22 rfl rfl
theorem dksX5_burden_2 : cX5_burden.data.toList.drop 46 = dktX5_burden_2 := dk_seg dksX5_burden_1 24 rfl rfl
theorem dX5_burden_0 : decode cX5_burden 0 = .ok (.aload_n 0, 1) := dk_42 (dk_at dksX5_burden_0 0 rfl rfl)
theorem dX5_burden_1 : decode cX5_burden 1 = .ok (.iconst 0, 1) := dk_3 (dk_at dksX5_burden_0 1 rfl rfl)
theorem dX5_burden_2 : decode cX5_burden 2 = .ok (.putfield 74, 3) := dk_181 0 74 (dk_at dksX5_burden_0 2 rfl rfl)
theorem dX5_burden_5 : decode cX5_burden 5 = .ok (.lconst 0, 1) := dk_9 (dk_at dksX5_burden_0 5 rfl rfl)
theorem dX5_burden_6 : decode cX5_burden 6 = .ok (.lstore_n 1, 1) := dk_64 (dk_at dksX5_burden_0 6 rfl rfl)
theorem dX5_burden_7 : decode cX5_burden 7 = .ok (.iconst 0, 1) := dk_3 (dk_at dksX5_burden_0 7 rfl rfl)
theorem dX5_burden_8 : decode cX5_burden 8 = .ok (.istore_n 3, 1) := dk_62 (dk_at dksX5_burden_0 8 rfl rfl)
theorem dX5_burden_9 : decode cX5_burden 9 = .ok (.iload_n 3, 1) := dk_29 (dk_at dksX5_burden_0 9 rfl rfl)
theorem dX5_burden_10 : decode cX5_burden 10 = .ok (.aload_n 0, 1) := dk_42 (dk_at dksX5_burden_0 10 rfl rfl)
theorem dX5_burden_11 : decode cX5_burden 11 = .ok (.getfield 11, 3) := dk_180 0 11 (dk_at dksX5_burden_0 11 rfl rfl)
theorem dX5_burden_14 : decode cX5_burden 14 = .ok (.iconst 2, 1) := dk_5 (dk_at dksX5_burden_0 14 rfl rfl)
theorem dX5_burden_15 : decode cX5_burden 15 = .ok (.iaload, 1) := dk_46 (dk_at dksX5_burden_0 15 rfl rfl)
theorem dX5_burden_16 : decode cX5_burden 16 = .ok (.if_icmp .ge 38, 3) := dk_162 0 38 (dk_at dksX5_burden_0 16 rfl rfl)
theorem dX5_burden_19 : decode cX5_burden 19 = .ok (.lload_n 1, 1) := dk_31 (dk_at dksX5_burden_0 19 rfl rfl)
theorem dX5_burden_20 : decode cX5_burden 20 = .ok (.aload_n 0, 1) := dk_42 (dk_at dksX5_burden_0 20 rfl rfl)
theorem dX5_burden_21 : decode cX5_burden 21 = .ok (.iload_n 3, 1) := dk_29 (dk_at dksX5_burden_0 21 rfl rfl)
theorem dX5_burden_22 : decode cX5_burden 22 = .ok (.invokevirtual 249, 3) := dk_182 0 249 (dk_at dksX5_burden_1 0 rfl rfl)
theorem dX5_burden_25 : decode cX5_burden 25 = .ok (.ifCond .eq 20, 3) := dk_153 0 20 (dk_at dksX5_burden_1 3 rfl rfl)
theorem dX5_burden_28 : decode cX5_burden 28 = .ok (.aload_n 0, 1) := dk_42 (dk_at dksX5_burden_1 6 rfl rfl)
theorem dX5_burden_29 : decode cX5_burden 29 = .ok (.iload_n 3, 1) := dk_29 (dk_at dksX5_burden_1 7 rfl rfl)
theorem dX5_burden_30 : decode cX5_burden 30 = .ok (.iconst 2, 1) := dk_5 (dk_at dksX5_burden_1 8 rfl rfl)
theorem dX5_burden_31 : decode cX5_burden 31 = .ok (.invokevirtual 189, 3) := dk_182 0 189 (dk_at dksX5_burden_1 9 rfl rfl)
theorem dX5_burden_34 : decode cX5_burden 34 = .ok (.i2l, 1) := dk_133 (dk_at dksX5_burden_1 12 rfl rfl)
theorem dX5_burden_35 : decode cX5_burden 35 = .ok (.aload_n 0, 1) := dk_42 (dk_at dksX5_burden_1 13 rfl rfl)
theorem dX5_burden_36 : decode cX5_burden 36 = .ok (.iload_n 3, 1) := dk_29 (dk_at dksX5_burden_1 14 rfl rfl)
theorem dX5_burden_37 : decode cX5_burden 37 = .ok (.invokevirtual 252, 3) := dk_182 0 252 (dk_at dksX5_burden_1 15 rfl rfl)
theorem dX5_burden_40 : decode cX5_burden 40 = .ok (.i2l, 1) := dk_133 (dk_at dksX5_burden_1 18 rfl rfl)
theorem dX5_burden_41 : decode cX5_burden 41 = .ok (.lmul, 1) := dk_105 (dk_at dksX5_burden_1 19 rfl rfl)
theorem dX5_burden_42 : decode cX5_burden 42 = .ok (.goto 4, 3) := dk_167 0 4 (dk_at dksX5_burden_1 20 rfl rfl)
theorem dX5_burden_45 : decode cX5_burden 45 = .ok (.lconst 0, 1) := dk_9 (dk_at dksX5_burden_1 23 rfl rfl)
theorem dX5_burden_46 : decode cX5_burden 46 = .ok (.ladd, 1) := dk_97 (dk_at dksX5_burden_2 0 rfl rfl)
theorem dX5_burden_47 : decode cX5_burden 47 = .ok (.lstore_n 1, 1) := dk_64 (dk_at dksX5_burden_2 1 rfl rfl)
theorem dX5_burden_48 : decode cX5_burden 48 = .ok (.iinc 3 1, 3) := dk_132 3 1 (dk_at dksX5_burden_2 2 rfl rfl)
theorem dX5_burden_51 : decode cX5_burden 51 = .ok (.goto (-42), 3) := dk_167 255 214 (dk_at dksX5_burden_2 5 rfl rfl)
theorem dX5_burden_54 : decode cX5_burden 54 = .ok (.lload_n 1, 1) := dk_31 (dk_at dksX5_burden_2 8 rfl rfl)
theorem dX5_burden_55 : decode cX5_burden 55 = .ok (.lreturn, 1) := dk_173 (dk_at dksX5_burden_2 9 rfl rfl)
abbrev cX5_dearest : ByteArray := prog_17_method_88_code
def yX5_dearest : MethodName := ⟨RX5, "dearest", "()I"⟩
def dkwX5_dearest_3 : List UInt8 := [133, 65, 42, 21, 6, 182, 0, 252, 133, 55, 4, 132, 6, 1, 167, 255, 187, 27, 172]
abbrev dktX5_dearest_3 : List UInt8 := dkwX5_dearest_3 ++ []
def dkwX5_dearest_2 : List UInt8 := [22, 4, 105, 32, 42, 21, 6, 182, 0, 252, 133, 105, 148, 158, 0, 22, 21, 6, 60, 42, 7, 182, 0, 245]
abbrev dktX5_dearest_2 : List UInt8 := dkwX5_dearest_2 ++ dktX5_dearest_3
def dkwX5_dearest_1 : List UInt8 := [162, 0, 64, 42, 21, 6, 182, 0, 249, 153, 0, 49, 27, 2, 159, 0, 25, 42, 7, 182, 0, 245, 133]
abbrev dktX5_dearest_1 : List UInt8 := dkwX5_dearest_1 ++ dktX5_dearest_2
def dkwX5_dearest_0 : List UInt8 := [42, 3, 181, 0, 74, 2, 60, 9, 65, 10, 55, 4, 3, 54, 6, 21, 6, 42, 180, 0, 11, 5, 46]
abbrev dktX5_dearest_0 : List UInt8 := dkwX5_dearest_0 ++ dktX5_dearest_1
theorem dksX5_dearest_0 : cX5_dearest.data.toList.drop 0 = dktX5_dearest_0 := by decide +kernel
theorem dksX5_dearest_1 : cX5_dearest.data.toList.drop 23 = dktX5_dearest_1 := dk_seg dksX5_dearest_0 23 rfl rfl
theorem dksX5_dearest_2 : cX5_dearest.data.toList.drop 46 = dktX5_dearest_2 := dk_seg dksX5_dearest_1 23 rfl rfl
theorem dksX5_dearest_3 : cX5_dearest.data.toList.drop 70 = dktX5_dearest_3 := dk_seg dksX5_dearest_2 24 rfl rfl
theorem dX5_dearest_0 : decode cX5_dearest 0 = .ok (.aload_n 0, 1) := dk_42 (dk_at dksX5_dearest_0 0 rfl rfl)
theorem dX5_dearest_1 : decode cX5_dearest 1 = .ok (.iconst 0, 1) := dk_3 (dk_at dksX5_dearest_0 1 rfl rfl)
theorem dX5_dearest_2 : decode cX5_dearest 2 = .ok (.putfield 74, 3) := dk_181 0 74 (dk_at dksX5_dearest_0 2 rfl rfl)
theorem dX5_dearest_5 : decode cX5_dearest 5 = .ok (.iconst (-1), 1) := dk_2 (dk_at dksX5_dearest_0 5 rfl rfl)
theorem dX5_dearest_6 : decode cX5_dearest 6 = .ok (.istore_n 1, 1) := dk_60 (dk_at dksX5_dearest_0 6 rfl rfl)
theorem dX5_dearest_7 : decode cX5_dearest 7 = .ok (.lconst 0, 1) := dk_9 (dk_at dksX5_dearest_0 7 rfl rfl)
theorem dX5_dearest_8 : decode cX5_dearest 8 = .ok (.lstore_n 2, 1) := dk_65 (dk_at dksX5_dearest_0 8 rfl rfl)
theorem dX5_dearest_9 : decode cX5_dearest 9 = .ok (.lconst 1, 1) := dk_10 (dk_at dksX5_dearest_0 9 rfl rfl)
theorem dX5_dearest_10 : decode cX5_dearest 10 = .ok (.lstore 4, 2) := dk_55 4 (dk_at dksX5_dearest_0 10 rfl rfl)
theorem dX5_dearest_12 : decode cX5_dearest 12 = .ok (.iconst 0, 1) := dk_3 (dk_at dksX5_dearest_0 12 rfl rfl)
theorem dX5_dearest_13 : decode cX5_dearest 13 = .ok (.istore 6, 2) := dk_54 6 (dk_at dksX5_dearest_0 13 rfl rfl)
theorem dX5_dearest_15 : decode cX5_dearest 15 = .ok (.iload 6, 2) := dk_21 6 (dk_at dksX5_dearest_0 15 rfl rfl)
theorem dX5_dearest_17 : decode cX5_dearest 17 = .ok (.aload_n 0, 1) := dk_42 (dk_at dksX5_dearest_0 17 rfl rfl)
theorem dX5_dearest_18 : decode cX5_dearest 18 = .ok (.getfield 11, 3) := dk_180 0 11 (dk_at dksX5_dearest_0 18 rfl rfl)
theorem dX5_dearest_21 : decode cX5_dearest 21 = .ok (.iconst 2, 1) := dk_5 (dk_at dksX5_dearest_0 21 rfl rfl)
theorem dX5_dearest_22 : decode cX5_dearest 22 = .ok (.iaload, 1) := dk_46 (dk_at dksX5_dearest_0 22 rfl rfl)
theorem dX5_dearest_23 : decode cX5_dearest 23 = .ok (.if_icmp .ge 64, 3) := dk_162 0 64 (dk_at dksX5_dearest_1 0 rfl rfl)
theorem dX5_dearest_26 : decode cX5_dearest 26 = .ok (.aload_n 0, 1) := dk_42 (dk_at dksX5_dearest_1 3 rfl rfl)
theorem dX5_dearest_27 : decode cX5_dearest 27 = .ok (.iload 6, 2) := dk_21 6 (dk_at dksX5_dearest_1 4 rfl rfl)
theorem dX5_dearest_29 : decode cX5_dearest 29 = .ok (.invokevirtual 249, 3) := dk_182 0 249 (dk_at dksX5_dearest_1 6 rfl rfl)
theorem dX5_dearest_32 : decode cX5_dearest 32 = .ok (.ifCond .eq 49, 3) := dk_153 0 49 (dk_at dksX5_dearest_1 9 rfl rfl)
theorem dX5_dearest_35 : decode cX5_dearest 35 = .ok (.iload_n 1, 1) := dk_27 (dk_at dksX5_dearest_1 12 rfl rfl)
theorem dX5_dearest_36 : decode cX5_dearest 36 = .ok (.iconst (-1), 1) := dk_2 (dk_at dksX5_dearest_1 13 rfl rfl)
theorem dX5_dearest_37 : decode cX5_dearest 37 = .ok (.if_icmp .eq 25, 3) := dk_159 0 25 (dk_at dksX5_dearest_1 14 rfl rfl)
theorem dX5_dearest_40 : decode cX5_dearest 40 = .ok (.aload_n 0, 1) := dk_42 (dk_at dksX5_dearest_1 17 rfl rfl)
theorem dX5_dearest_41 : decode cX5_dearest 41 = .ok (.iconst 4, 1) := dk_7 (dk_at dksX5_dearest_1 18 rfl rfl)
theorem dX5_dearest_42 : decode cX5_dearest 42 = .ok (.invokevirtual 245, 3) := dk_182 0 245 (dk_at dksX5_dearest_1 19 rfl rfl)
theorem dX5_dearest_45 : decode cX5_dearest 45 = .ok (.i2l, 1) := dk_133 (dk_at dksX5_dearest_1 22 rfl rfl)
theorem dX5_dearest_46 : decode cX5_dearest 46 = .ok (.lload 4, 2) := dk_22 4 (dk_at dksX5_dearest_2 0 rfl rfl)
theorem dX5_dearest_48 : decode cX5_dearest 48 = .ok (.lmul, 1) := dk_105 (dk_at dksX5_dearest_2 2 rfl rfl)
theorem dX5_dearest_49 : decode cX5_dearest 49 = .ok (.lload_n 2, 1) := dk_32 (dk_at dksX5_dearest_2 3 rfl rfl)
theorem dX5_dearest_50 : decode cX5_dearest 50 = .ok (.aload_n 0, 1) := dk_42 (dk_at dksX5_dearest_2 4 rfl rfl)
theorem dX5_dearest_51 : decode cX5_dearest 51 = .ok (.iload 6, 2) := dk_21 6 (dk_at dksX5_dearest_2 5 rfl rfl)
theorem dX5_dearest_53 : decode cX5_dearest 53 = .ok (.invokevirtual 252, 3) := dk_182 0 252 (dk_at dksX5_dearest_2 7 rfl rfl)
theorem dX5_dearest_56 : decode cX5_dearest 56 = .ok (.i2l, 1) := dk_133 (dk_at dksX5_dearest_2 10 rfl rfl)
theorem dX5_dearest_57 : decode cX5_dearest 57 = .ok (.lmul, 1) := dk_105 (dk_at dksX5_dearest_2 11 rfl rfl)
theorem dX5_dearest_58 : decode cX5_dearest 58 = .ok (.lcmp, 1) := dk_148 (dk_at dksX5_dearest_2 12 rfl rfl)
theorem dX5_dearest_59 : decode cX5_dearest 59 = .ok (.ifCond .le 22, 3) := dk_158 0 22 (dk_at dksX5_dearest_2 13 rfl rfl)
theorem dX5_dearest_62 : decode cX5_dearest 62 = .ok (.iload 6, 2) := dk_21 6 (dk_at dksX5_dearest_2 16 rfl rfl)
theorem dX5_dearest_64 : decode cX5_dearest 64 = .ok (.istore_n 1, 1) := dk_60 (dk_at dksX5_dearest_2 18 rfl rfl)
theorem dX5_dearest_65 : decode cX5_dearest 65 = .ok (.aload_n 0, 1) := dk_42 (dk_at dksX5_dearest_2 19 rfl rfl)
theorem dX5_dearest_66 : decode cX5_dearest 66 = .ok (.iconst 4, 1) := dk_7 (dk_at dksX5_dearest_2 20 rfl rfl)
theorem dX5_dearest_67 : decode cX5_dearest 67 = .ok (.invokevirtual 245, 3) := dk_182 0 245 (dk_at dksX5_dearest_2 21 rfl rfl)
theorem dX5_dearest_70 : decode cX5_dearest 70 = .ok (.i2l, 1) := dk_133 (dk_at dksX5_dearest_3 0 rfl rfl)
theorem dX5_dearest_71 : decode cX5_dearest 71 = .ok (.lstore_n 2, 1) := dk_65 (dk_at dksX5_dearest_3 1 rfl rfl)
theorem dX5_dearest_72 : decode cX5_dearest 72 = .ok (.aload_n 0, 1) := dk_42 (dk_at dksX5_dearest_3 2 rfl rfl)
theorem dX5_dearest_73 : decode cX5_dearest 73 = .ok (.iload 6, 2) := dk_21 6 (dk_at dksX5_dearest_3 3 rfl rfl)
theorem dX5_dearest_75 : decode cX5_dearest 75 = .ok (.invokevirtual 252, 3) := dk_182 0 252 (dk_at dksX5_dearest_3 5 rfl rfl)
theorem dX5_dearest_78 : decode cX5_dearest 78 = .ok (.i2l, 1) := dk_133 (dk_at dksX5_dearest_3 8 rfl rfl)
theorem dX5_dearest_79 : decode cX5_dearest 79 = .ok (.lstore 4, 2) := dk_55 4 (dk_at dksX5_dearest_3 9 rfl rfl)
theorem dX5_dearest_81 : decode cX5_dearest 81 = .ok (.iinc 6 1, 3) := dk_132 6 1 (dk_at dksX5_dearest_3 11 rfl rfl)
theorem dX5_dearest_84 : decode cX5_dearest 84 = .ok (.goto (-69), 3) := dk_167 255 187 (dk_at dksX5_dearest_3 14 rfl rfl)
theorem dX5_dearest_87 : decode cX5_dearest 87 = .ok (.iload_n 1, 1) := dk_27 (dk_at dksX5_dearest_3 17 rfl rfl)
theorem dX5_dearest_88 : decode cX5_dearest 88 = .ok (.ireturn, 1) := dk_172 (dk_at dksX5_dearest_3 18 rfl rfl)
abbrev cX5_keepToll : ByteArray := prog_17_method_91_code
def yX5_keepToll : MethodName := ⟨RX5, "keepToll", "(II)I"⟩
def dkwX5_keepToll_1 : List UInt8 := [182, 0, 176, 153, 0, 7, 3, 167, 0, 9, 42, 27, 28, 182, 1, 53, 172]
abbrev dktX5_keepToll_1 : List UInt8 := dkwX5_keepToll_1 ++ []
def dkwX5_keepToll_0 : List UInt8 := [42, 42, 27, 182, 0, 186, 153, 0, 15, 42, 28, 182, 0, 182, 153, 0, 7, 4, 167, 0, 4, 3, 4]
abbrev dktX5_keepToll_0 : List UInt8 := dkwX5_keepToll_0 ++ dktX5_keepToll_1
theorem dksX5_keepToll_0 : cX5_keepToll.data.toList.drop 0 = dktX5_keepToll_0 := by decide +kernel
theorem dksX5_keepToll_1 : cX5_keepToll.data.toList.drop 23 = dktX5_keepToll_1 := dk_seg dksX5_keepToll_0 23 rfl rfl
theorem dX5_keepToll_0 : decode cX5_keepToll 0 = .ok (.aload_n 0, 1) := dk_42 (dk_at dksX5_keepToll_0 0 rfl rfl)
theorem dX5_keepToll_1 : decode cX5_keepToll 1 = .ok (.aload_n 0, 1) := dk_42 (dk_at dksX5_keepToll_0 1 rfl rfl)
theorem dX5_keepToll_2 : decode cX5_keepToll 2 = .ok (.iload_n 1, 1) := dk_27 (dk_at dksX5_keepToll_0 2 rfl rfl)
theorem dX5_keepToll_3 : decode cX5_keepToll 3 = .ok (.invokevirtual 186, 3) := dk_182 0 186 (dk_at dksX5_keepToll_0 3 rfl rfl)
theorem dX5_keepToll_6 : decode cX5_keepToll 6 = .ok (.ifCond .eq 15, 3) := dk_153 0 15 (dk_at dksX5_keepToll_0 6 rfl rfl)
theorem dX5_keepToll_9 : decode cX5_keepToll 9 = .ok (.aload_n 0, 1) := dk_42 (dk_at dksX5_keepToll_0 9 rfl rfl)
theorem dX5_keepToll_10 : decode cX5_keepToll 10 = .ok (.iload_n 2, 1) := dk_28 (dk_at dksX5_keepToll_0 10 rfl rfl)
theorem dX5_keepToll_11 : decode cX5_keepToll 11 = .ok (.invokevirtual 182, 3) := dk_182 0 182 (dk_at dksX5_keepToll_0 11 rfl rfl)
theorem dX5_keepToll_14 : decode cX5_keepToll 14 = .ok (.ifCond .eq 7, 3) := dk_153 0 7 (dk_at dksX5_keepToll_0 14 rfl rfl)
theorem dX5_keepToll_17 : decode cX5_keepToll 17 = .ok (.iconst 1, 1) := dk_4 (dk_at dksX5_keepToll_0 17 rfl rfl)
theorem dX5_keepToll_18 : decode cX5_keepToll 18 = .ok (.goto 4, 3) := dk_167 0 4 (dk_at dksX5_keepToll_0 18 rfl rfl)
theorem dX5_keepToll_21 : decode cX5_keepToll 21 = .ok (.iconst 0, 1) := dk_3 (dk_at dksX5_keepToll_0 21 rfl rfl)
theorem dX5_keepToll_22 : decode cX5_keepToll 22 = .ok (.iconst 1, 1) := dk_4 (dk_at dksX5_keepToll_0 22 rfl rfl)
theorem dX5_keepToll_23 : decode cX5_keepToll 23 = .ok (.invokevirtual 176, 3) := dk_182 0 176 (dk_at dksX5_keepToll_1 0 rfl rfl)
theorem dX5_keepToll_26 : decode cX5_keepToll 26 = .ok (.ifCond .eq 7, 3) := dk_153 0 7 (dk_at dksX5_keepToll_1 3 rfl rfl)
theorem dX5_keepToll_29 : decode cX5_keepToll 29 = .ok (.iconst 0, 1) := dk_3 (dk_at dksX5_keepToll_1 6 rfl rfl)
theorem dX5_keepToll_30 : decode cX5_keepToll 30 = .ok (.goto 9, 3) := dk_167 0 9 (dk_at dksX5_keepToll_1 7 rfl rfl)
theorem dX5_keepToll_33 : decode cX5_keepToll 33 = .ok (.aload_n 0, 1) := dk_42 (dk_at dksX5_keepToll_1 10 rfl rfl)
theorem dX5_keepToll_34 : decode cX5_keepToll 34 = .ok (.iload_n 1, 1) := dk_27 (dk_at dksX5_keepToll_1 11 rfl rfl)
theorem dX5_keepToll_35 : decode cX5_keepToll 35 = .ok (.iload_n 2, 1) := dk_28 (dk_at dksX5_keepToll_1 12 rfl rfl)
theorem dX5_keepToll_36 : decode cX5_keepToll 36 = .ok (.invokevirtual 309, 3) := dk_182 1 53 (dk_at dksX5_keepToll_1 13 rfl rfl)
theorem dX5_keepToll_39 : decode cX5_keepToll 39 = .ok (.ireturn, 1) := dk_172 (dk_at dksX5_keepToll_1 16 rfl rfl)
abbrev cX5_keeps0 : ByteArray := prog_17_method_90_code
def yX5_keeps0 : MethodName := ⟨RX5, "keeps0", "(II)I"⟩
def dkwX5_keeps0_6 : List UInt8 := [21, 10, 182, 1, 50, 153, 0, 8, 21, 10, 167, 0, 7, 21, 10, 4, 100, 172]
abbrev dktX5_keeps0_6 : List UInt8 := dkwX5_keeps0_6 ++ []
def dkwX5_keeps0_5 : List UInt8 := [158, 0, 10, 42, 28, 6, 182, 0, 180, 172, 22, 6, 22, 4, 101, 22, 8, 109, 136, 54, 10, 42, 27, 28]
abbrev dktX5_keeps0_5 : List UInt8 := dkwX5_keeps0_5 ++ dktX5_keeps0_6
def dkwX5_keeps0_4 : List UInt8 := [20, 0, 223, 148, 156, 0, 22, 22, 6, 22, 4, 101, 22, 8, 109, 42, 28, 6, 182, 0, 180, 133, 148]
abbrev dktX5_keeps0_4 : List UInt8 := dkwX5_keeps0_4 ++ dktX5_keeps0_5
def dkwX5_keeps0_3 : List UInt8 := [180, 0, 11, 6, 46, 4, 160, 0, 9, 20, 0, 219, 167, 0, 6, 20, 0, 221, 97, 55, 8, 22, 6]
abbrev dktX5_keeps0_3 : List UInt8 := dkwX5_keeps0_3 ++ dktX5_keeps0_4
def dkwX5_keeps0_2 : List UInt8 := [55, 6, 42, 2, 181, 0, 40, 42, 180, 0, 11, 28, 7, 184, 0, 77, 29, 79, 20, 0, 214, 42]
abbrev dktX5_keeps0_2 : List UInt8 := dkwX5_keeps0_2 ++ dktX5_keeps0_3
def dkwX5_keeps0_1 : List UInt8 := [7, 184, 0, 77, 3, 79, 42, 27, 182, 0, 238, 55, 4, 42, 28, 181, 0, 40, 42, 27, 182, 0, 238]
abbrev dktX5_keeps0_1 : List UInt8 := dkwX5_keeps0_1 ++ dktX5_keeps0_2
def dkwX5_keeps0_0 : List UInt8 := [42, 27, 28, 3, 182, 1, 50, 154, 0, 5, 2, 172, 42, 28, 7, 182, 0, 180, 62, 42, 180, 0, 11, 28]
abbrev dktX5_keeps0_0 : List UInt8 := dkwX5_keeps0_0 ++ dktX5_keeps0_1
theorem dksX5_keeps0_0 : cX5_keeps0.data.toList.drop 0 = dktX5_keeps0_0 := by decide +kernel
theorem dksX5_keeps0_1 : cX5_keeps0.data.toList.drop 24 = dktX5_keeps0_1 := dk_seg dksX5_keeps0_0 24 rfl rfl
theorem dksX5_keeps0_2 : cX5_keeps0.data.toList.drop 47 = dktX5_keeps0_2 := dk_seg dksX5_keeps0_1 23 rfl rfl
theorem dksX5_keeps0_3 : cX5_keeps0.data.toList.drop 69 = dktX5_keeps0_3 := dk_seg dksX5_keeps0_2 22 rfl rfl
theorem dksX5_keeps0_4 : cX5_keeps0.data.toList.drop 92 = dktX5_keeps0_4 := dk_seg dksX5_keeps0_3 23 rfl rfl
theorem dksX5_keeps0_5 : cX5_keeps0.data.toList.drop 115 = dktX5_keeps0_5 := dk_seg dksX5_keeps0_4 23 rfl rfl
theorem dksX5_keeps0_6 : cX5_keeps0.data.toList.drop 139 = dktX5_keeps0_6 := dk_seg dksX5_keeps0_5 24 rfl rfl
theorem dX5_keeps0_0 : decode cX5_keeps0 0 = .ok (.aload_n 0, 1) := dk_42 (dk_at dksX5_keeps0_0 0 rfl rfl)
theorem dX5_keeps0_1 : decode cX5_keeps0 1 = .ok (.iload_n 1, 1) := dk_27 (dk_at dksX5_keeps0_0 1 rfl rfl)
theorem dX5_keeps0_2 : decode cX5_keeps0 2 = .ok (.iload_n 2, 1) := dk_28 (dk_at dksX5_keeps0_0 2 rfl rfl)
theorem dX5_keeps0_3 : decode cX5_keeps0 3 = .ok (.iconst 0, 1) := dk_3 (dk_at dksX5_keeps0_0 3 rfl rfl)
theorem dX5_keeps0_4 : decode cX5_keeps0 4 = .ok (.invokevirtual 306, 3) := dk_182 1 50 (dk_at dksX5_keeps0_0 4 rfl rfl)
theorem dX5_keeps0_7 : decode cX5_keeps0 7 = .ok (.ifCond .ne 5, 3) := dk_154 0 5 (dk_at dksX5_keeps0_0 7 rfl rfl)
theorem dX5_keeps0_10 : decode cX5_keeps0 10 = .ok (.iconst (-1), 1) := dk_2 (dk_at dksX5_keeps0_0 10 rfl rfl)
theorem dX5_keeps0_11 : decode cX5_keeps0 11 = .ok (.ireturn, 1) := dk_172 (dk_at dksX5_keeps0_0 11 rfl rfl)
theorem dX5_keeps0_12 : decode cX5_keeps0 12 = .ok (.aload_n 0, 1) := dk_42 (dk_at dksX5_keeps0_0 12 rfl rfl)
theorem dX5_keeps0_13 : decode cX5_keeps0 13 = .ok (.iload_n 2, 1) := dk_28 (dk_at dksX5_keeps0_0 13 rfl rfl)
theorem dX5_keeps0_14 : decode cX5_keeps0 14 = .ok (.iconst 4, 1) := dk_7 (dk_at dksX5_keeps0_0 14 rfl rfl)
theorem dX5_keeps0_15 : decode cX5_keeps0 15 = .ok (.invokevirtual 180, 3) := dk_182 0 180 (dk_at dksX5_keeps0_0 15 rfl rfl)
theorem dX5_keeps0_18 : decode cX5_keeps0 18 = .ok (.istore_n 3, 1) := dk_62 (dk_at dksX5_keeps0_0 18 rfl rfl)
theorem dX5_keeps0_19 : decode cX5_keeps0 19 = .ok (.aload_n 0, 1) := dk_42 (dk_at dksX5_keeps0_0 19 rfl rfl)
theorem dX5_keeps0_20 : decode cX5_keeps0 20 = .ok (.getfield 11, 3) := dk_180 0 11 (dk_at dksX5_keeps0_0 20 rfl rfl)
theorem dX5_keeps0_23 : decode cX5_keeps0 23 = .ok (.iload_n 2, 1) := dk_28 (dk_at dksX5_keeps0_0 23 rfl rfl)
theorem dX5_keeps0_24 : decode cX5_keeps0 24 = .ok (.iconst 4, 1) := dk_7 (dk_at dksX5_keeps0_1 0 rfl rfl)
theorem dX5_keeps0_25 : decode cX5_keeps0 25 = .ok (.invokestatic 77, 3) := dk_184 0 77 (dk_at dksX5_keeps0_1 1 rfl rfl)
theorem dX5_keeps0_28 : decode cX5_keeps0 28 = .ok (.iconst 0, 1) := dk_3 (dk_at dksX5_keeps0_1 4 rfl rfl)
theorem dX5_keeps0_29 : decode cX5_keeps0 29 = .ok (.iastore, 1) := dk_79 (dk_at dksX5_keeps0_1 5 rfl rfl)
theorem dX5_keeps0_30 : decode cX5_keeps0 30 = .ok (.aload_n 0, 1) := dk_42 (dk_at dksX5_keeps0_1 6 rfl rfl)
theorem dX5_keeps0_31 : decode cX5_keeps0 31 = .ok (.iload_n 1, 1) := dk_27 (dk_at dksX5_keeps0_1 7 rfl rfl)
theorem dX5_keeps0_32 : decode cX5_keeps0 32 = .ok (.invokevirtual 238, 3) := dk_182 0 238 (dk_at dksX5_keeps0_1 8 rfl rfl)
theorem dX5_keeps0_35 : decode cX5_keeps0 35 = .ok (.lstore 4, 2) := dk_55 4 (dk_at dksX5_keeps0_1 11 rfl rfl)
theorem dX5_keeps0_37 : decode cX5_keeps0 37 = .ok (.aload_n 0, 1) := dk_42 (dk_at dksX5_keeps0_1 13 rfl rfl)
theorem dX5_keeps0_38 : decode cX5_keeps0 38 = .ok (.iload_n 2, 1) := dk_28 (dk_at dksX5_keeps0_1 14 rfl rfl)
theorem dX5_keeps0_39 : decode cX5_keeps0 39 = .ok (.putfield 40, 3) := dk_181 0 40 (dk_at dksX5_keeps0_1 15 rfl rfl)
theorem dX5_keeps0_42 : decode cX5_keeps0 42 = .ok (.aload_n 0, 1) := dk_42 (dk_at dksX5_keeps0_1 18 rfl rfl)
theorem dX5_keeps0_43 : decode cX5_keeps0 43 = .ok (.iload_n 1, 1) := dk_27 (dk_at dksX5_keeps0_1 19 rfl rfl)
theorem dX5_keeps0_44 : decode cX5_keeps0 44 = .ok (.invokevirtual 238, 3) := dk_182 0 238 (dk_at dksX5_keeps0_1 20 rfl rfl)
theorem dX5_keeps0_47 : decode cX5_keeps0 47 = .ok (.lstore 6, 2) := dk_55 6 (dk_at dksX5_keeps0_2 0 rfl rfl)
theorem dX5_keeps0_49 : decode cX5_keeps0 49 = .ok (.aload_n 0, 1) := dk_42 (dk_at dksX5_keeps0_2 2 rfl rfl)
theorem dX5_keeps0_50 : decode cX5_keeps0 50 = .ok (.iconst (-1), 1) := dk_2 (dk_at dksX5_keeps0_2 3 rfl rfl)
theorem dX5_keeps0_51 : decode cX5_keeps0 51 = .ok (.putfield 40, 3) := dk_181 0 40 (dk_at dksX5_keeps0_2 4 rfl rfl)
theorem dX5_keeps0_54 : decode cX5_keeps0 54 = .ok (.aload_n 0, 1) := dk_42 (dk_at dksX5_keeps0_2 7 rfl rfl)
theorem dX5_keeps0_55 : decode cX5_keeps0 55 = .ok (.getfield 11, 3) := dk_180 0 11 (dk_at dksX5_keeps0_2 8 rfl rfl)
theorem dX5_keeps0_58 : decode cX5_keeps0 58 = .ok (.iload_n 2, 1) := dk_28 (dk_at dksX5_keeps0_2 11 rfl rfl)
theorem dX5_keeps0_59 : decode cX5_keeps0 59 = .ok (.iconst 4, 1) := dk_7 (dk_at dksX5_keeps0_2 12 rfl rfl)
theorem dX5_keeps0_60 : decode cX5_keeps0 60 = .ok (.invokestatic 77, 3) := dk_184 0 77 (dk_at dksX5_keeps0_2 13 rfl rfl)
theorem dX5_keeps0_63 : decode cX5_keeps0 63 = .ok (.iload_n 3, 1) := dk_29 (dk_at dksX5_keeps0_2 16 rfl rfl)
theorem dX5_keeps0_64 : decode cX5_keeps0 64 = .ok (.iastore, 1) := dk_79 (dk_at dksX5_keeps0_2 17 rfl rfl)
theorem dX5_keeps0_65 : decode cX5_keeps0 65 = .ok (.ldc2_w 214, 3) := dk_20 0 214 (dk_at dksX5_keeps0_2 18 rfl rfl)
theorem dX5_keeps0_68 : decode cX5_keeps0 68 = .ok (.aload_n 0, 1) := dk_42 (dk_at dksX5_keeps0_2 21 rfl rfl)
theorem dX5_keeps0_69 : decode cX5_keeps0 69 = .ok (.getfield 11, 3) := dk_180 0 11 (dk_at dksX5_keeps0_3 0 rfl rfl)
theorem dX5_keeps0_72 : decode cX5_keeps0 72 = .ok (.iconst 3, 1) := dk_6 (dk_at dksX5_keeps0_3 3 rfl rfl)
theorem dX5_keeps0_73 : decode cX5_keeps0 73 = .ok (.iaload, 1) := dk_46 (dk_at dksX5_keeps0_3 4 rfl rfl)
theorem dX5_keeps0_74 : decode cX5_keeps0 74 = .ok (.iconst 1, 1) := dk_4 (dk_at dksX5_keeps0_3 5 rfl rfl)
theorem dX5_keeps0_75 : decode cX5_keeps0 75 = .ok (.if_icmp .ne 9, 3) := dk_160 0 9 (dk_at dksX5_keeps0_3 6 rfl rfl)
theorem dX5_keeps0_78 : decode cX5_keeps0 78 = .ok (.ldc2_w 219, 3) := dk_20 0 219 (dk_at dksX5_keeps0_3 9 rfl rfl)
theorem dX5_keeps0_81 : decode cX5_keeps0 81 = .ok (.goto 6, 3) := dk_167 0 6 (dk_at dksX5_keeps0_3 12 rfl rfl)
theorem dX5_keeps0_84 : decode cX5_keeps0 84 = .ok (.ldc2_w 221, 3) := dk_20 0 221 (dk_at dksX5_keeps0_3 15 rfl rfl)
theorem dX5_keeps0_87 : decode cX5_keeps0 87 = .ok (.ladd, 1) := dk_97 (dk_at dksX5_keeps0_3 18 rfl rfl)
theorem dX5_keeps0_88 : decode cX5_keeps0 88 = .ok (.lstore 8, 2) := dk_55 8 (dk_at dksX5_keeps0_3 19 rfl rfl)
theorem dX5_keeps0_90 : decode cX5_keeps0 90 = .ok (.lload 6, 2) := dk_22 6 (dk_at dksX5_keeps0_3 21 rfl rfl)
theorem dX5_keeps0_92 : decode cX5_keeps0 92 = .ok (.ldc2_w 223, 3) := dk_20 0 223 (dk_at dksX5_keeps0_4 0 rfl rfl)
theorem dX5_keeps0_95 : decode cX5_keeps0 95 = .ok (.lcmp, 1) := dk_148 (dk_at dksX5_keeps0_4 3 rfl rfl)
theorem dX5_keeps0_96 : decode cX5_keeps0 96 = .ok (.ifCond .ge 22, 3) := dk_156 0 22 (dk_at dksX5_keeps0_4 4 rfl rfl)
theorem dX5_keeps0_99 : decode cX5_keeps0 99 = .ok (.lload 6, 2) := dk_22 6 (dk_at dksX5_keeps0_4 7 rfl rfl)
theorem dX5_keeps0_101 : decode cX5_keeps0 101 = .ok (.lload 4, 2) := dk_22 4 (dk_at dksX5_keeps0_4 9 rfl rfl)
theorem dX5_keeps0_103 : decode cX5_keeps0 103 = .ok (.lsub, 1) := dk_101 (dk_at dksX5_keeps0_4 11 rfl rfl)
theorem dX5_keeps0_104 : decode cX5_keeps0 104 = .ok (.lload 8, 2) := dk_22 8 (dk_at dksX5_keeps0_4 12 rfl rfl)
theorem dX5_keeps0_106 : decode cX5_keeps0 106 = .ok (.ldiv, 1) := dk_109 (dk_at dksX5_keeps0_4 14 rfl rfl)
theorem dX5_keeps0_107 : decode cX5_keeps0 107 = .ok (.aload_n 0, 1) := dk_42 (dk_at dksX5_keeps0_4 15 rfl rfl)
theorem dX5_keeps0_108 : decode cX5_keeps0 108 = .ok (.iload_n 2, 1) := dk_28 (dk_at dksX5_keeps0_4 16 rfl rfl)
theorem dX5_keeps0_109 : decode cX5_keeps0 109 = .ok (.iconst 3, 1) := dk_6 (dk_at dksX5_keeps0_4 17 rfl rfl)
theorem dX5_keeps0_110 : decode cX5_keeps0 110 = .ok (.invokevirtual 180, 3) := dk_182 0 180 (dk_at dksX5_keeps0_4 18 rfl rfl)
theorem dX5_keeps0_113 : decode cX5_keeps0 113 = .ok (.i2l, 1) := dk_133 (dk_at dksX5_keeps0_4 21 rfl rfl)
theorem dX5_keeps0_114 : decode cX5_keeps0 114 = .ok (.lcmp, 1) := dk_148 (dk_at dksX5_keeps0_4 22 rfl rfl)
theorem dX5_keeps0_115 : decode cX5_keeps0 115 = .ok (.ifCond .le 10, 3) := dk_158 0 10 (dk_at dksX5_keeps0_5 0 rfl rfl)
theorem dX5_keeps0_118 : decode cX5_keeps0 118 = .ok (.aload_n 0, 1) := dk_42 (dk_at dksX5_keeps0_5 3 rfl rfl)
theorem dX5_keeps0_119 : decode cX5_keeps0 119 = .ok (.iload_n 2, 1) := dk_28 (dk_at dksX5_keeps0_5 4 rfl rfl)
theorem dX5_keeps0_120 : decode cX5_keeps0 120 = .ok (.iconst 3, 1) := dk_6 (dk_at dksX5_keeps0_5 5 rfl rfl)
theorem dX5_keeps0_121 : decode cX5_keeps0 121 = .ok (.invokevirtual 180, 3) := dk_182 0 180 (dk_at dksX5_keeps0_5 6 rfl rfl)
theorem dX5_keeps0_124 : decode cX5_keeps0 124 = .ok (.ireturn, 1) := dk_172 (dk_at dksX5_keeps0_5 9 rfl rfl)
theorem dX5_keeps0_125 : decode cX5_keeps0 125 = .ok (.lload 6, 2) := dk_22 6 (dk_at dksX5_keeps0_5 10 rfl rfl)
theorem dX5_keeps0_127 : decode cX5_keeps0 127 = .ok (.lload 4, 2) := dk_22 4 (dk_at dksX5_keeps0_5 12 rfl rfl)
theorem dX5_keeps0_129 : decode cX5_keeps0 129 = .ok (.lsub, 1) := dk_101 (dk_at dksX5_keeps0_5 14 rfl rfl)
theorem dX5_keeps0_130 : decode cX5_keeps0 130 = .ok (.lload 8, 2) := dk_22 8 (dk_at dksX5_keeps0_5 15 rfl rfl)
theorem dX5_keeps0_132 : decode cX5_keeps0 132 = .ok (.ldiv, 1) := dk_109 (dk_at dksX5_keeps0_5 17 rfl rfl)
theorem dX5_keeps0_133 : decode cX5_keeps0 133 = .ok (.l2i, 1) := dk_136 (dk_at dksX5_keeps0_5 18 rfl rfl)
theorem dX5_keeps0_134 : decode cX5_keeps0 134 = .ok (.istore 10, 2) := dk_54 10 (dk_at dksX5_keeps0_5 19 rfl rfl)
theorem dX5_keeps0_136 : decode cX5_keeps0 136 = .ok (.aload_n 0, 1) := dk_42 (dk_at dksX5_keeps0_5 21 rfl rfl)
theorem dX5_keeps0_137 : decode cX5_keeps0 137 = .ok (.iload_n 1, 1) := dk_27 (dk_at dksX5_keeps0_5 22 rfl rfl)
theorem dX5_keeps0_138 : decode cX5_keeps0 138 = .ok (.iload_n 2, 1) := dk_28 (dk_at dksX5_keeps0_5 23 rfl rfl)
theorem dX5_keeps0_139 : decode cX5_keeps0 139 = .ok (.iload 10, 2) := dk_21 10 (dk_at dksX5_keeps0_6 0 rfl rfl)
theorem dX5_keeps0_141 : decode cX5_keeps0 141 = .ok (.invokevirtual 306, 3) := dk_182 1 50 (dk_at dksX5_keeps0_6 2 rfl rfl)
theorem dX5_keeps0_144 : decode cX5_keeps0 144 = .ok (.ifCond .eq 8, 3) := dk_153 0 8 (dk_at dksX5_keeps0_6 5 rfl rfl)
theorem dX5_keeps0_147 : decode cX5_keeps0 147 = .ok (.iload 10, 2) := dk_21 10 (dk_at dksX5_keeps0_6 8 rfl rfl)
theorem dX5_keeps0_149 : decode cX5_keeps0 149 = .ok (.goto 7, 3) := dk_167 0 7 (dk_at dksX5_keeps0_6 10 rfl rfl)
theorem dX5_keeps0_152 : decode cX5_keeps0 152 = .ok (.iload 10, 2) := dk_21 10 (dk_at dksX5_keeps0_6 13 rfl rfl)
theorem dX5_keeps0_154 : decode cX5_keeps0 154 = .ok (.iconst 1, 1) := dk_4 (dk_at dksX5_keeps0_6 15 rfl rfl)
theorem dX5_keeps0_155 : decode cX5_keeps0 155 = .ok (.isub, 1) := dk_100 (dk_at dksX5_keeps0_6 16 rfl rfl)
theorem dX5_keeps0_156 : decode cX5_keeps0 156 = .ok (.ireturn, 1) := dk_172 (dk_at dksX5_keeps0_6 17 rfl rfl)
abbrev cX5_doesUseWith : ByteArray := prog_17_method_89_code
def yX5_doesUseWith : MethodName := ⟨RX5, "doesUseWith", "(III)Z"⟩
def dkwX5_doesUseWith_1 : List UInt8 := [182, 1, 5, 54, 5, 42, 180, 0, 11, 28, 7, 184, 0, 77, 21, 4, 79, 21, 5, 172]
abbrev dktX5_doesUseWith_1 : List UInt8 := dkwX5_doesUseWith_1 ++ []
def dkwX5_doesUseWith_0 : List UInt8 := [42, 28, 7, 182, 0, 180, 54, 4, 42, 180, 0, 11, 28, 7, 184, 0, 77, 29, 79, 42, 27, 28]
abbrev dktX5_doesUseWith_0 : List UInt8 := dkwX5_doesUseWith_0 ++ dktX5_doesUseWith_1
theorem dksX5_doesUseWith_0 : cX5_doesUseWith.data.toList.drop 0 = dktX5_doesUseWith_0 := by decide +kernel
theorem dksX5_doesUseWith_1 : cX5_doesUseWith.data.toList.drop 22 = dktX5_doesUseWith_1 := dk_seg dksX5_doesUseWith_0 22 rfl rfl
theorem dX5_doesUseWith_0 : decode cX5_doesUseWith 0 = .ok (.aload_n 0, 1) := dk_42 (dk_at dksX5_doesUseWith_0 0 rfl rfl)
theorem dX5_doesUseWith_1 : decode cX5_doesUseWith 1 = .ok (.iload_n 2, 1) := dk_28 (dk_at dksX5_doesUseWith_0 1 rfl rfl)
theorem dX5_doesUseWith_2 : decode cX5_doesUseWith 2 = .ok (.iconst 4, 1) := dk_7 (dk_at dksX5_doesUseWith_0 2 rfl rfl)
theorem dX5_doesUseWith_3 : decode cX5_doesUseWith 3 = .ok (.invokevirtual 180, 3) := dk_182 0 180 (dk_at dksX5_doesUseWith_0 3 rfl rfl)
theorem dX5_doesUseWith_6 : decode cX5_doesUseWith 6 = .ok (.istore 4, 2) := dk_54 4 (dk_at dksX5_doesUseWith_0 6 rfl rfl)
theorem dX5_doesUseWith_8 : decode cX5_doesUseWith 8 = .ok (.aload_n 0, 1) := dk_42 (dk_at dksX5_doesUseWith_0 8 rfl rfl)
theorem dX5_doesUseWith_9 : decode cX5_doesUseWith 9 = .ok (.getfield 11, 3) := dk_180 0 11 (dk_at dksX5_doesUseWith_0 9 rfl rfl)
theorem dX5_doesUseWith_12 : decode cX5_doesUseWith 12 = .ok (.iload_n 2, 1) := dk_28 (dk_at dksX5_doesUseWith_0 12 rfl rfl)
theorem dX5_doesUseWith_13 : decode cX5_doesUseWith 13 = .ok (.iconst 4, 1) := dk_7 (dk_at dksX5_doesUseWith_0 13 rfl rfl)
theorem dX5_doesUseWith_14 : decode cX5_doesUseWith 14 = .ok (.invokestatic 77, 3) := dk_184 0 77 (dk_at dksX5_doesUseWith_0 14 rfl rfl)
theorem dX5_doesUseWith_17 : decode cX5_doesUseWith 17 = .ok (.iload_n 3, 1) := dk_29 (dk_at dksX5_doesUseWith_0 17 rfl rfl)
theorem dX5_doesUseWith_18 : decode cX5_doesUseWith 18 = .ok (.iastore, 1) := dk_79 (dk_at dksX5_doesUseWith_0 18 rfl rfl)
theorem dX5_doesUseWith_19 : decode cX5_doesUseWith 19 = .ok (.aload_n 0, 1) := dk_42 (dk_at dksX5_doesUseWith_0 19 rfl rfl)
theorem dX5_doesUseWith_20 : decode cX5_doesUseWith 20 = .ok (.iload_n 1, 1) := dk_27 (dk_at dksX5_doesUseWith_0 20 rfl rfl)
theorem dX5_doesUseWith_21 : decode cX5_doesUseWith 21 = .ok (.iload_n 2, 1) := dk_28 (dk_at dksX5_doesUseWith_0 21 rfl rfl)
theorem dX5_doesUseWith_22 : decode cX5_doesUseWith 22 = .ok (.invokevirtual 261, 3) := dk_182 1 5 (dk_at dksX5_doesUseWith_1 0 rfl rfl)
theorem dX5_doesUseWith_25 : decode cX5_doesUseWith 25 = .ok (.istore 5, 2) := dk_54 5 (dk_at dksX5_doesUseWith_1 3 rfl rfl)
theorem dX5_doesUseWith_27 : decode cX5_doesUseWith 27 = .ok (.aload_n 0, 1) := dk_42 (dk_at dksX5_doesUseWith_1 5 rfl rfl)
theorem dX5_doesUseWith_28 : decode cX5_doesUseWith 28 = .ok (.getfield 11, 3) := dk_180 0 11 (dk_at dksX5_doesUseWith_1 6 rfl rfl)
theorem dX5_doesUseWith_31 : decode cX5_doesUseWith 31 = .ok (.iload_n 2, 1) := dk_28 (dk_at dksX5_doesUseWith_1 9 rfl rfl)
theorem dX5_doesUseWith_32 : decode cX5_doesUseWith 32 = .ok (.iconst 4, 1) := dk_7 (dk_at dksX5_doesUseWith_1 10 rfl rfl)
theorem dX5_doesUseWith_33 : decode cX5_doesUseWith 33 = .ok (.invokestatic 77, 3) := dk_184 0 77 (dk_at dksX5_doesUseWith_1 11 rfl rfl)
theorem dX5_doesUseWith_36 : decode cX5_doesUseWith 36 = .ok (.iload 4, 2) := dk_21 4 (dk_at dksX5_doesUseWith_1 14 rfl rfl)
theorem dX5_doesUseWith_38 : decode cX5_doesUseWith 38 = .ok (.iastore, 1) := dk_79 (dk_at dksX5_doesUseWith_1 16 rfl rfl)
theorem dX5_doesUseWith_39 : decode cX5_doesUseWith 39 = .ok (.iload 5, 2) := dk_21 5 (dk_at dksX5_doesUseWith_1 17 rfl rfl)
theorem dX5_doesUseWith_41 : decode cX5_doesUseWith 41 = .ok (.ireturn, 1) := dk_172 (dk_at dksX5_doesUseWith_1 19 rfl rfl)
abbrev cX5_revenueWith : ByteArray := prog_17_method_93_code
def yX5_revenueWith : MethodName := ⟨RX5, "revenueWith", "(II)J"⟩
def dkwX5_revenueWith_1 : List UInt8 := [184, 0, 81, 5, 182, 0, 176, 153, 0, 5, 9, 173, 42, 27, 28, 182, 1, 56, 173]
abbrev dktX5_revenueWith_1 : List UInt8 := dkwX5_revenueWith_1 ++ []
def dkwX5_revenueWith_0 : List UInt8 := [42, 42, 27, 182, 0, 182, 4, 182, 0, 176, 154, 0, 22, 42, 28, 3, 42, 27, 6, 182, 0, 180]
abbrev dktX5_revenueWith_0 : List UInt8 := dkwX5_revenueWith_0 ++ dktX5_revenueWith_1
theorem dksX5_revenueWith_0 : cX5_revenueWith.data.toList.drop 0 = dktX5_revenueWith_0 := by decide +kernel
theorem dksX5_revenueWith_1 : cX5_revenueWith.data.toList.drop 22 = dktX5_revenueWith_1 := dk_seg dksX5_revenueWith_0 22 rfl rfl
theorem dX5_revenueWith_0 : decode cX5_revenueWith 0 = .ok (.aload_n 0, 1) := dk_42 (dk_at dksX5_revenueWith_0 0 rfl rfl)
theorem dX5_revenueWith_1 : decode cX5_revenueWith 1 = .ok (.aload_n 0, 1) := dk_42 (dk_at dksX5_revenueWith_0 1 rfl rfl)
theorem dX5_revenueWith_2 : decode cX5_revenueWith 2 = .ok (.iload_n 1, 1) := dk_27 (dk_at dksX5_revenueWith_0 2 rfl rfl)
theorem dX5_revenueWith_3 : decode cX5_revenueWith 3 = .ok (.invokevirtual 182, 3) := dk_182 0 182 (dk_at dksX5_revenueWith_0 3 rfl rfl)
theorem dX5_revenueWith_6 : decode cX5_revenueWith 6 = .ok (.iconst 1, 1) := dk_4 (dk_at dksX5_revenueWith_0 6 rfl rfl)
theorem dX5_revenueWith_7 : decode cX5_revenueWith 7 = .ok (.invokevirtual 176, 3) := dk_182 0 176 (dk_at dksX5_revenueWith_0 7 rfl rfl)
theorem dX5_revenueWith_10 : decode cX5_revenueWith 10 = .ok (.ifCond .ne 22, 3) := dk_154 0 22 (dk_at dksX5_revenueWith_0 10 rfl rfl)
theorem dX5_revenueWith_13 : decode cX5_revenueWith 13 = .ok (.aload_n 0, 1) := dk_42 (dk_at dksX5_revenueWith_0 13 rfl rfl)
theorem dX5_revenueWith_14 : decode cX5_revenueWith 14 = .ok (.iload_n 2, 1) := dk_28 (dk_at dksX5_revenueWith_0 14 rfl rfl)
theorem dX5_revenueWith_15 : decode cX5_revenueWith 15 = .ok (.iconst 0, 1) := dk_3 (dk_at dksX5_revenueWith_0 15 rfl rfl)
theorem dX5_revenueWith_16 : decode cX5_revenueWith 16 = .ok (.aload_n 0, 1) := dk_42 (dk_at dksX5_revenueWith_0 16 rfl rfl)
theorem dX5_revenueWith_17 : decode cX5_revenueWith 17 = .ok (.iload_n 1, 1) := dk_27 (dk_at dksX5_revenueWith_0 17 rfl rfl)
theorem dX5_revenueWith_18 : decode cX5_revenueWith 18 = .ok (.iconst 3, 1) := dk_6 (dk_at dksX5_revenueWith_0 18 rfl rfl)
theorem dX5_revenueWith_19 : decode cX5_revenueWith 19 = .ok (.invokevirtual 180, 3) := dk_182 0 180 (dk_at dksX5_revenueWith_0 19 rfl rfl)
theorem dX5_revenueWith_22 : decode cX5_revenueWith 22 = .ok (.invokestatic 81, 3) := dk_184 0 81 (dk_at dksX5_revenueWith_1 0 rfl rfl)
theorem dX5_revenueWith_25 : decode cX5_revenueWith 25 = .ok (.iconst 2, 1) := dk_5 (dk_at dksX5_revenueWith_1 3 rfl rfl)
theorem dX5_revenueWith_26 : decode cX5_revenueWith 26 = .ok (.invokevirtual 176, 3) := dk_182 0 176 (dk_at dksX5_revenueWith_1 4 rfl rfl)
theorem dX5_revenueWith_29 : decode cX5_revenueWith 29 = .ok (.ifCond .eq 5, 3) := dk_153 0 5 (dk_at dksX5_revenueWith_1 7 rfl rfl)
theorem dX5_revenueWith_32 : decode cX5_revenueWith 32 = .ok (.lconst 0, 1) := dk_9 (dk_at dksX5_revenueWith_1 10 rfl rfl)
theorem dX5_revenueWith_33 : decode cX5_revenueWith 33 = .ok (.lreturn, 1) := dk_173 (dk_at dksX5_revenueWith_1 11 rfl rfl)
theorem dX5_revenueWith_34 : decode cX5_revenueWith 34 = .ok (.aload_n 0, 1) := dk_42 (dk_at dksX5_revenueWith_1 12 rfl rfl)
theorem dX5_revenueWith_35 : decode cX5_revenueWith 35 = .ok (.iload_n 1, 1) := dk_27 (dk_at dksX5_revenueWith_1 13 rfl rfl)
theorem dX5_revenueWith_36 : decode cX5_revenueWith 36 = .ok (.iload_n 2, 1) := dk_28 (dk_at dksX5_revenueWith_1 14 rfl rfl)
theorem dX5_revenueWith_37 : decode cX5_revenueWith 37 = .ok (.invokevirtual 312, 3) := dk_182 1 56 (dk_at dksX5_revenueWith_1 15 rfl rfl)
theorem dX5_revenueWith_40 : decode cX5_revenueWith 40 = .ok (.lreturn, 1) := dk_173 (dk_at dksX5_revenueWith_1 18 rfl rfl)
abbrev cX5_allWith : ByteArray := prog_17_method_92_code
def yX5_allWith : MethodName := ⟨RX5, "allWith", "(II)J"⟩
def dkwX5_allWith_1 : List UInt8 := [42, 180, 0, 11, 27, 7, 184, 0, 77, 29, 79, 22, 4, 173]
abbrev dktX5_allWith_1 : List UInt8 := dkwX5_allWith_1 ++ []
def dkwX5_allWith_0 : List UInt8 := [42, 27, 7, 182, 0, 180, 62, 42, 180, 0, 11, 27, 7, 184, 0, 77, 28, 79, 42, 182, 1, 35, 55, 4]
abbrev dktX5_allWith_0 : List UInt8 := dkwX5_allWith_0 ++ dktX5_allWith_1
theorem dksX5_allWith_0 : cX5_allWith.data.toList.drop 0 = dktX5_allWith_0 := by decide +kernel
theorem dksX5_allWith_1 : cX5_allWith.data.toList.drop 24 = dktX5_allWith_1 := dk_seg dksX5_allWith_0 24 rfl rfl
theorem dX5_allWith_0 : decode cX5_allWith 0 = .ok (.aload_n 0, 1) := dk_42 (dk_at dksX5_allWith_0 0 rfl rfl)
theorem dX5_allWith_1 : decode cX5_allWith 1 = .ok (.iload_n 1, 1) := dk_27 (dk_at dksX5_allWith_0 1 rfl rfl)
theorem dX5_allWith_2 : decode cX5_allWith 2 = .ok (.iconst 4, 1) := dk_7 (dk_at dksX5_allWith_0 2 rfl rfl)
theorem dX5_allWith_3 : decode cX5_allWith 3 = .ok (.invokevirtual 180, 3) := dk_182 0 180 (dk_at dksX5_allWith_0 3 rfl rfl)
theorem dX5_allWith_6 : decode cX5_allWith 6 = .ok (.istore_n 3, 1) := dk_62 (dk_at dksX5_allWith_0 6 rfl rfl)
theorem dX5_allWith_7 : decode cX5_allWith 7 = .ok (.aload_n 0, 1) := dk_42 (dk_at dksX5_allWith_0 7 rfl rfl)
theorem dX5_allWith_8 : decode cX5_allWith 8 = .ok (.getfield 11, 3) := dk_180 0 11 (dk_at dksX5_allWith_0 8 rfl rfl)
theorem dX5_allWith_11 : decode cX5_allWith 11 = .ok (.iload_n 1, 1) := dk_27 (dk_at dksX5_allWith_0 11 rfl rfl)
theorem dX5_allWith_12 : decode cX5_allWith 12 = .ok (.iconst 4, 1) := dk_7 (dk_at dksX5_allWith_0 12 rfl rfl)
theorem dX5_allWith_13 : decode cX5_allWith 13 = .ok (.invokestatic 77, 3) := dk_184 0 77 (dk_at dksX5_allWith_0 13 rfl rfl)
theorem dX5_allWith_16 : decode cX5_allWith 16 = .ok (.iload_n 2, 1) := dk_28 (dk_at dksX5_allWith_0 16 rfl rfl)
theorem dX5_allWith_17 : decode cX5_allWith 17 = .ok (.iastore, 1) := dk_79 (dk_at dksX5_allWith_0 17 rfl rfl)
theorem dX5_allWith_18 : decode cX5_allWith 18 = .ok (.aload_n 0, 1) := dk_42 (dk_at dksX5_allWith_0 18 rfl rfl)
theorem dX5_allWith_19 : decode cX5_allWith 19 = .ok (.invokevirtual 291, 3) := dk_182 1 35 (dk_at dksX5_allWith_0 19 rfl rfl)
theorem dX5_allWith_22 : decode cX5_allWith 22 = .ok (.lstore 4, 2) := dk_55 4 (dk_at dksX5_allWith_0 22 rfl rfl)
theorem dX5_allWith_24 : decode cX5_allWith 24 = .ok (.aload_n 0, 1) := dk_42 (dk_at dksX5_allWith_1 0 rfl rfl)
theorem dX5_allWith_25 : decode cX5_allWith 25 = .ok (.getfield 11, 3) := dk_180 0 11 (dk_at dksX5_allWith_1 1 rfl rfl)
theorem dX5_allWith_28 : decode cX5_allWith 28 = .ok (.iload_n 1, 1) := dk_27 (dk_at dksX5_allWith_1 4 rfl rfl)
theorem dX5_allWith_29 : decode cX5_allWith 29 = .ok (.iconst 4, 1) := dk_7 (dk_at dksX5_allWith_1 5 rfl rfl)
theorem dX5_allWith_30 : decode cX5_allWith 30 = .ok (.invokestatic 77, 3) := dk_184 0 77 (dk_at dksX5_allWith_1 6 rfl rfl)
theorem dX5_allWith_33 : decode cX5_allWith 33 = .ok (.iload_n 3, 1) := dk_29 (dk_at dksX5_allWith_1 9 rfl rfl)
theorem dX5_allWith_34 : decode cX5_allWith 34 = .ok (.iastore, 1) := dk_79 (dk_at dksX5_allWith_1 10 rfl rfl)
theorem dX5_allWith_35 : decode cX5_allWith 35 = .ok (.lload 4, 2) := dk_22 4 (dk_at dksX5_allWith_1 11 rfl rfl)
theorem dX5_allWith_37 : decode cX5_allWith 37 = .ok (.lreturn, 1) := dk_173 (dk_at dksX5_allWith_1 13 rfl rfl)
abbrev cX5_bestToll : ByteArray := prog_17_method_96_code
def yX5_bestToll : MethodName := ⟨RX5, "bestToll", "(I)I"⟩
def dkwX5_bestToll_0 : List UInt8 := [42, 42, 27, 182, 0, 182, 4, 182, 0, 176, 153, 0, 7, 3, 167, 0, 8, 42, 27, 182, 1, 72, 172]
abbrev dktX5_bestToll_0 : List UInt8 := dkwX5_bestToll_0 ++ []
theorem dksX5_bestToll_0 : cX5_bestToll.data.toList.drop 0 = dktX5_bestToll_0 := by decide +kernel
theorem dX5_bestToll_0 : decode cX5_bestToll 0 = .ok (.aload_n 0, 1) := dk_42 (dk_at dksX5_bestToll_0 0 rfl rfl)
theorem dX5_bestToll_1 : decode cX5_bestToll 1 = .ok (.aload_n 0, 1) := dk_42 (dk_at dksX5_bestToll_0 1 rfl rfl)
theorem dX5_bestToll_2 : decode cX5_bestToll 2 = .ok (.iload_n 1, 1) := dk_27 (dk_at dksX5_bestToll_0 2 rfl rfl)
theorem dX5_bestToll_3 : decode cX5_bestToll 3 = .ok (.invokevirtual 182, 3) := dk_182 0 182 (dk_at dksX5_bestToll_0 3 rfl rfl)
theorem dX5_bestToll_6 : decode cX5_bestToll 6 = .ok (.iconst 1, 1) := dk_4 (dk_at dksX5_bestToll_0 6 rfl rfl)
theorem dX5_bestToll_7 : decode cX5_bestToll 7 = .ok (.invokevirtual 176, 3) := dk_182 0 176 (dk_at dksX5_bestToll_0 7 rfl rfl)
theorem dX5_bestToll_10 : decode cX5_bestToll 10 = .ok (.ifCond .eq 7, 3) := dk_153 0 7 (dk_at dksX5_bestToll_0 10 rfl rfl)
theorem dX5_bestToll_13 : decode cX5_bestToll 13 = .ok (.iconst 0, 1) := dk_3 (dk_at dksX5_bestToll_0 13 rfl rfl)
theorem dX5_bestToll_14 : decode cX5_bestToll 14 = .ok (.goto 8, 3) := dk_167 0 8 (dk_at dksX5_bestToll_0 14 rfl rfl)
theorem dX5_bestToll_17 : decode cX5_bestToll 17 = .ok (.aload_n 0, 1) := dk_42 (dk_at dksX5_bestToll_0 17 rfl rfl)
theorem dX5_bestToll_18 : decode cX5_bestToll 18 = .ok (.iload_n 1, 1) := dk_27 (dk_at dksX5_bestToll_0 18 rfl rfl)
theorem dX5_bestToll_19 : decode cX5_bestToll 19 = .ok (.invokevirtual 328, 3) := dk_182 1 72 (dk_at dksX5_bestToll_0 19 rfl rfl)
theorem dX5_bestToll_22 : decode cX5_bestToll 22 = .ok (.ireturn, 1) := dk_172 (dk_at dksX5_bestToll_0 22 rfl rfl)
abbrev cX5_bests : ByteArray := prog_17_method_95_code
def yX5_bests : MethodName := ⟨RX5, "bests", "(I)I"⟩
def dkwX5_bests_6 : List UInt8 := [132, 4, 1, 167, 255, 195, 29, 172]
abbrev dktX5_bests_6 : List UInt8 := dkwX5_bests_6 ++ []
def dkwX5_bests_5 : List UInt8 := [180, 0, 61, 21, 4, 46, 167, 0, 4, 29, 62, 42, 42, 180, 1, 65, 22, 5, 184, 1, 69, 181, 1, 65]
abbrev dktX5_bests_5 : List UInt8 := dkwX5_bests_5 ++ dktX5_bests_6
def dkwX5_bests_4 : List UInt8 := [180, 0, 61, 21, 4, 46, 182, 1, 56, 55, 5, 22, 5, 42, 180, 1, 65, 148, 158, 0, 13, 42]
abbrev dktX5_bests_4 : List UInt8 := dkwX5_bests_4 ++ dktX5_bests_5
def dkwX5_bests_3 : List UInt8 := [3, 62, 42, 20, 1, 45, 181, 1, 65, 3, 54, 4, 21, 4, 42, 180, 1, 59, 162, 0, 58, 42, 27, 42]
abbrev dktX5_bests_3 : List UInt8 := dkwX5_bests_3 ++ dktX5_bests_4
def dkwX5_bests_2 : List UInt8 := [42, 21, 4, 182, 1, 62, 42, 28, 21, 4, 4, 96, 184, 0, 126, 182, 1, 62, 132, 3, 1, 167, 255, 211]
abbrev dktX5_bests_2 : List UInt8 := dkwX5_bests_2 ++ dktX5_bests_3
def dkwX5_bests_1 : List UInt8 := [29, 42, 180, 0, 11, 5, 46, 162, 0, 41, 42, 29, 27, 182, 1, 53, 54, 4, 21, 4, 2, 159, 0, 21]
abbrev dktX5_bests_1 : List UInt8 := dkwX5_bests_1 ++ dktX5_bests_2
def dkwX5_bests_0 : List UInt8 := [42, 27, 6, 182, 0, 180, 61, 42, 3, 181, 1, 59, 42, 3, 182, 1, 62, 42, 28, 182, 1, 62, 3, 62]
abbrev dktX5_bests_0 : List UInt8 := dkwX5_bests_0 ++ dktX5_bests_1
theorem dksX5_bests_0 : cX5_bests.data.toList.drop 0 = dktX5_bests_0 := by decide +kernel
theorem dksX5_bests_1 : cX5_bests.data.toList.drop 24 = dktX5_bests_1 := dk_seg dksX5_bests_0 24 rfl rfl
theorem dksX5_bests_2 : cX5_bests.data.toList.drop 48 = dktX5_bests_2 := dk_seg dksX5_bests_1 24 rfl rfl
theorem dksX5_bests_3 : cX5_bests.data.toList.drop 72 = dktX5_bests_3 := dk_seg dksX5_bests_2 24 rfl rfl
theorem dksX5_bests_4 : cX5_bests.data.toList.drop 96 = dktX5_bests_4 := dk_seg dksX5_bests_3 24 rfl rfl
theorem dksX5_bests_5 : cX5_bests.data.toList.drop 118 = dktX5_bests_5 := dk_seg dksX5_bests_4 22 rfl rfl
theorem dksX5_bests_6 : cX5_bests.data.toList.drop 142 = dktX5_bests_6 := dk_seg dksX5_bests_5 24 rfl rfl
theorem dX5_bests_0 : decode cX5_bests 0 = .ok (.aload_n 0, 1) := dk_42 (dk_at dksX5_bests_0 0 rfl rfl)
theorem dX5_bests_1 : decode cX5_bests 1 = .ok (.iload_n 1, 1) := dk_27 (dk_at dksX5_bests_0 1 rfl rfl)
theorem dX5_bests_2 : decode cX5_bests 2 = .ok (.iconst 3, 1) := dk_6 (dk_at dksX5_bests_0 2 rfl rfl)
theorem dX5_bests_3 : decode cX5_bests 3 = .ok (.invokevirtual 180, 3) := dk_182 0 180 (dk_at dksX5_bests_0 3 rfl rfl)
theorem dX5_bests_6 : decode cX5_bests 6 = .ok (.istore_n 2, 1) := dk_61 (dk_at dksX5_bests_0 6 rfl rfl)
theorem dX5_bests_7 : decode cX5_bests 7 = .ok (.aload_n 0, 1) := dk_42 (dk_at dksX5_bests_0 7 rfl rfl)
theorem dX5_bests_8 : decode cX5_bests 8 = .ok (.iconst 0, 1) := dk_3 (dk_at dksX5_bests_0 8 rfl rfl)
theorem dX5_bests_9 : decode cX5_bests 9 = .ok (.putfield 315, 3) := dk_181 1 59 (dk_at dksX5_bests_0 9 rfl rfl)
theorem dX5_bests_12 : decode cX5_bests 12 = .ok (.aload_n 0, 1) := dk_42 (dk_at dksX5_bests_0 12 rfl rfl)
theorem dX5_bests_13 : decode cX5_bests 13 = .ok (.iconst 0, 1) := dk_3 (dk_at dksX5_bests_0 13 rfl rfl)
theorem dX5_bests_14 : decode cX5_bests 14 = .ok (.invokevirtual 318, 3) := dk_182 1 62 (dk_at dksX5_bests_0 14 rfl rfl)
theorem dX5_bests_17 : decode cX5_bests 17 = .ok (.aload_n 0, 1) := dk_42 (dk_at dksX5_bests_0 17 rfl rfl)
theorem dX5_bests_18 : decode cX5_bests 18 = .ok (.iload_n 2, 1) := dk_28 (dk_at dksX5_bests_0 18 rfl rfl)
theorem dX5_bests_19 : decode cX5_bests 19 = .ok (.invokevirtual 318, 3) := dk_182 1 62 (dk_at dksX5_bests_0 19 rfl rfl)
theorem dX5_bests_22 : decode cX5_bests 22 = .ok (.iconst 0, 1) := dk_3 (dk_at dksX5_bests_0 22 rfl rfl)
theorem dX5_bests_23 : decode cX5_bests 23 = .ok (.istore_n 3, 1) := dk_62 (dk_at dksX5_bests_0 23 rfl rfl)
theorem dX5_bests_24 : decode cX5_bests 24 = .ok (.iload_n 3, 1) := dk_29 (dk_at dksX5_bests_1 0 rfl rfl)
theorem dX5_bests_25 : decode cX5_bests 25 = .ok (.aload_n 0, 1) := dk_42 (dk_at dksX5_bests_1 1 rfl rfl)
theorem dX5_bests_26 : decode cX5_bests 26 = .ok (.getfield 11, 3) := dk_180 0 11 (dk_at dksX5_bests_1 2 rfl rfl)
theorem dX5_bests_29 : decode cX5_bests 29 = .ok (.iconst 2, 1) := dk_5 (dk_at dksX5_bests_1 5 rfl rfl)
theorem dX5_bests_30 : decode cX5_bests 30 = .ok (.iaload, 1) := dk_46 (dk_at dksX5_bests_1 6 rfl rfl)
theorem dX5_bests_31 : decode cX5_bests 31 = .ok (.if_icmp .ge 41, 3) := dk_162 0 41 (dk_at dksX5_bests_1 7 rfl rfl)
theorem dX5_bests_34 : decode cX5_bests 34 = .ok (.aload_n 0, 1) := dk_42 (dk_at dksX5_bests_1 10 rfl rfl)
theorem dX5_bests_35 : decode cX5_bests 35 = .ok (.iload_n 3, 1) := dk_29 (dk_at dksX5_bests_1 11 rfl rfl)
theorem dX5_bests_36 : decode cX5_bests 36 = .ok (.iload_n 1, 1) := dk_27 (dk_at dksX5_bests_1 12 rfl rfl)
theorem dX5_bests_37 : decode cX5_bests 37 = .ok (.invokevirtual 309, 3) := dk_182 1 53 (dk_at dksX5_bests_1 13 rfl rfl)
theorem dX5_bests_40 : decode cX5_bests 40 = .ok (.istore 4, 2) := dk_54 4 (dk_at dksX5_bests_1 16 rfl rfl)
theorem dX5_bests_42 : decode cX5_bests 42 = .ok (.iload 4, 2) := dk_21 4 (dk_at dksX5_bests_1 18 rfl rfl)
theorem dX5_bests_44 : decode cX5_bests 44 = .ok (.iconst (-1), 1) := dk_2 (dk_at dksX5_bests_1 20 rfl rfl)
theorem dX5_bests_45 : decode cX5_bests 45 = .ok (.if_icmp .eq 21, 3) := dk_159 0 21 (dk_at dksX5_bests_1 21 rfl rfl)
theorem dX5_bests_48 : decode cX5_bests 48 = .ok (.aload_n 0, 1) := dk_42 (dk_at dksX5_bests_2 0 rfl rfl)
theorem dX5_bests_49 : decode cX5_bests 49 = .ok (.iload 4, 2) := dk_21 4 (dk_at dksX5_bests_2 1 rfl rfl)
theorem dX5_bests_51 : decode cX5_bests 51 = .ok (.invokevirtual 318, 3) := dk_182 1 62 (dk_at dksX5_bests_2 3 rfl rfl)
theorem dX5_bests_54 : decode cX5_bests 54 = .ok (.aload_n 0, 1) := dk_42 (dk_at dksX5_bests_2 6 rfl rfl)
theorem dX5_bests_55 : decode cX5_bests 55 = .ok (.iload_n 2, 1) := dk_28 (dk_at dksX5_bests_2 7 rfl rfl)
theorem dX5_bests_56 : decode cX5_bests 56 = .ok (.iload 4, 2) := dk_21 4 (dk_at dksX5_bests_2 8 rfl rfl)
theorem dX5_bests_58 : decode cX5_bests 58 = .ok (.iconst 1, 1) := dk_4 (dk_at dksX5_bests_2 10 rfl rfl)
theorem dX5_bests_59 : decode cX5_bests 59 = .ok (.iadd, 1) := dk_96 (dk_at dksX5_bests_2 11 rfl rfl)
theorem dX5_bests_60 : decode cX5_bests 60 = .ok (.invokestatic 126, 3) := dk_184 0 126 (dk_at dksX5_bests_2 12 rfl rfl)
theorem dX5_bests_63 : decode cX5_bests 63 = .ok (.invokevirtual 318, 3) := dk_182 1 62 (dk_at dksX5_bests_2 15 rfl rfl)
theorem dX5_bests_66 : decode cX5_bests 66 = .ok (.iinc 3 1, 3) := dk_132 3 1 (dk_at dksX5_bests_2 18 rfl rfl)
theorem dX5_bests_69 : decode cX5_bests 69 = .ok (.goto (-45), 3) := dk_167 255 211 (dk_at dksX5_bests_2 21 rfl rfl)
theorem dX5_bests_72 : decode cX5_bests 72 = .ok (.iconst 0, 1) := dk_3 (dk_at dksX5_bests_3 0 rfl rfl)
theorem dX5_bests_73 : decode cX5_bests 73 = .ok (.istore_n 3, 1) := dk_62 (dk_at dksX5_bests_3 1 rfl rfl)
theorem dX5_bests_74 : decode cX5_bests 74 = .ok (.aload_n 0, 1) := dk_42 (dk_at dksX5_bests_3 2 rfl rfl)
theorem dX5_bests_75 : decode cX5_bests 75 = .ok (.ldc2_w 301, 3) := dk_20 1 45 (dk_at dksX5_bests_3 3 rfl rfl)
theorem dX5_bests_78 : decode cX5_bests 78 = .ok (.putfield 321, 3) := dk_181 1 65 (dk_at dksX5_bests_3 6 rfl rfl)
theorem dX5_bests_81 : decode cX5_bests 81 = .ok (.iconst 0, 1) := dk_3 (dk_at dksX5_bests_3 9 rfl rfl)
theorem dX5_bests_82 : decode cX5_bests 82 = .ok (.istore 4, 2) := dk_54 4 (dk_at dksX5_bests_3 10 rfl rfl)
theorem dX5_bests_84 : decode cX5_bests 84 = .ok (.iload 4, 2) := dk_21 4 (dk_at dksX5_bests_3 12 rfl rfl)
theorem dX5_bests_86 : decode cX5_bests 86 = .ok (.aload_n 0, 1) := dk_42 (dk_at dksX5_bests_3 14 rfl rfl)
theorem dX5_bests_87 : decode cX5_bests 87 = .ok (.getfield 315, 3) := dk_180 1 59 (dk_at dksX5_bests_3 15 rfl rfl)
theorem dX5_bests_90 : decode cX5_bests 90 = .ok (.if_icmp .ge 58, 3) := dk_162 0 58 (dk_at dksX5_bests_3 18 rfl rfl)
theorem dX5_bests_93 : decode cX5_bests 93 = .ok (.aload_n 0, 1) := dk_42 (dk_at dksX5_bests_3 21 rfl rfl)
theorem dX5_bests_94 : decode cX5_bests 94 = .ok (.iload_n 1, 1) := dk_27 (dk_at dksX5_bests_3 22 rfl rfl)
theorem dX5_bests_95 : decode cX5_bests 95 = .ok (.aload_n 0, 1) := dk_42 (dk_at dksX5_bests_3 23 rfl rfl)
theorem dX5_bests_96 : decode cX5_bests 96 = .ok (.getfield 61, 3) := dk_180 0 61 (dk_at dksX5_bests_4 0 rfl rfl)
theorem dX5_bests_99 : decode cX5_bests 99 = .ok (.iload 4, 2) := dk_21 4 (dk_at dksX5_bests_4 3 rfl rfl)
theorem dX5_bests_101 : decode cX5_bests 101 = .ok (.iaload, 1) := dk_46 (dk_at dksX5_bests_4 5 rfl rfl)
theorem dX5_bests_102 : decode cX5_bests 102 = .ok (.invokevirtual 312, 3) := dk_182 1 56 (dk_at dksX5_bests_4 6 rfl rfl)
theorem dX5_bests_105 : decode cX5_bests 105 = .ok (.lstore 5, 2) := dk_55 5 (dk_at dksX5_bests_4 9 rfl rfl)
theorem dX5_bests_107 : decode cX5_bests 107 = .ok (.lload 5, 2) := dk_22 5 (dk_at dksX5_bests_4 11 rfl rfl)
theorem dX5_bests_109 : decode cX5_bests 109 = .ok (.aload_n 0, 1) := dk_42 (dk_at dksX5_bests_4 13 rfl rfl)
theorem dX5_bests_110 : decode cX5_bests 110 = .ok (.getfield 321, 3) := dk_180 1 65 (dk_at dksX5_bests_4 14 rfl rfl)
theorem dX5_bests_113 : decode cX5_bests 113 = .ok (.lcmp, 1) := dk_148 (dk_at dksX5_bests_4 17 rfl rfl)
theorem dX5_bests_114 : decode cX5_bests 114 = .ok (.ifCond .le 13, 3) := dk_158 0 13 (dk_at dksX5_bests_4 18 rfl rfl)
theorem dX5_bests_117 : decode cX5_bests 117 = .ok (.aload_n 0, 1) := dk_42 (dk_at dksX5_bests_4 21 rfl rfl)
theorem dX5_bests_118 : decode cX5_bests 118 = .ok (.getfield 61, 3) := dk_180 0 61 (dk_at dksX5_bests_5 0 rfl rfl)
theorem dX5_bests_121 : decode cX5_bests 121 = .ok (.iload 4, 2) := dk_21 4 (dk_at dksX5_bests_5 3 rfl rfl)
theorem dX5_bests_123 : decode cX5_bests 123 = .ok (.iaload, 1) := dk_46 (dk_at dksX5_bests_5 5 rfl rfl)
theorem dX5_bests_124 : decode cX5_bests 124 = .ok (.goto 4, 3) := dk_167 0 4 (dk_at dksX5_bests_5 6 rfl rfl)
theorem dX5_bests_127 : decode cX5_bests 127 = .ok (.iload_n 3, 1) := dk_29 (dk_at dksX5_bests_5 9 rfl rfl)
theorem dX5_bests_128 : decode cX5_bests 128 = .ok (.istore_n 3, 1) := dk_62 (dk_at dksX5_bests_5 10 rfl rfl)
theorem dX5_bests_129 : decode cX5_bests 129 = .ok (.aload_n 0, 1) := dk_42 (dk_at dksX5_bests_5 11 rfl rfl)
theorem dX5_bests_130 : decode cX5_bests 130 = .ok (.aload_n 0, 1) := dk_42 (dk_at dksX5_bests_5 12 rfl rfl)
theorem dX5_bests_131 : decode cX5_bests 131 = .ok (.getfield 321, 3) := dk_180 1 65 (dk_at dksX5_bests_5 13 rfl rfl)
theorem dX5_bests_134 : decode cX5_bests 134 = .ok (.lload 5, 2) := dk_22 5 (dk_at dksX5_bests_5 16 rfl rfl)
theorem dX5_bests_136 : decode cX5_bests 136 = .ok (.invokestatic 325, 3) := dk_184 1 69 (dk_at dksX5_bests_5 18 rfl rfl)
theorem dX5_bests_139 : decode cX5_bests 139 = .ok (.putfield 321, 3) := dk_181 1 65 (dk_at dksX5_bests_5 21 rfl rfl)
theorem dX5_bests_142 : decode cX5_bests 142 = .ok (.iinc 4 1, 3) := dk_132 4 1 (dk_at dksX5_bests_6 0 rfl rfl)
theorem dX5_bests_145 : decode cX5_bests 145 = .ok (.goto (-61), 3) := dk_167 255 195 (dk_at dksX5_bests_6 3 rfl rfl)
theorem dX5_bests_148 : decode cX5_bests 148 = .ok (.iload_n 3, 1) := dk_29 (dk_at dksX5_bests_6 6 rfl rfl)
theorem dX5_bests_149 : decode cX5_bests 149 = .ok (.ireturn, 1) := dk_172 (dk_at dksX5_bests_6 7 rfl rfl)
abbrev cX5_addsTurn : ByteArray := prog_17_method_94_code
def yX5_addsTurn : MethodName := ⟨RX5, "addsTurn", "(I)V"⟩
def dkwX5_addsTurn_3 : List UInt8 := [167, 255, 234, 42, 180, 0, 61, 28, 27, 79, 42, 89, 180, 1, 59, 4, 96, 181, 1, 59, 177]
abbrev dktX5_addsTurn_3 : List UInt8 := dkwX5_addsTurn_3 ++ []
def dkwX5_addsTurn_2 : List UInt8 := [62, 29, 28, 164, 0, 23, 42, 180, 0, 61, 29, 42, 180, 0, 61, 29, 4, 100, 46, 79, 132, 3, 255]
abbrev dktX5_addsTurn_2 : List UInt8 := dkwX5_addsTurn_2 ++ dktX5_addsTurn_3
def dkwX5_addsTurn_1 : List UInt8 := [167, 255, 237, 28, 158, 0, 16, 42, 180, 0, 61, 28, 4, 100, 46, 27, 160, 0, 4, 177, 42, 180, 1, 59]
abbrev dktX5_addsTurn_1 : List UInt8 := dkwX5_addsTurn_1 ++ dktX5_addsTurn_2
def dkwX5_addsTurn_0 : List UInt8 := [42, 180, 1, 59, 61, 28, 158, 0, 21, 42, 180, 0, 61, 28, 4, 100, 46, 27, 164, 0, 9, 132, 2, 255]
abbrev dktX5_addsTurn_0 : List UInt8 := dkwX5_addsTurn_0 ++ dktX5_addsTurn_1
theorem dksX5_addsTurn_0 : cX5_addsTurn.data.toList.drop 0 = dktX5_addsTurn_0 := by decide +kernel
theorem dksX5_addsTurn_1 : cX5_addsTurn.data.toList.drop 24 = dktX5_addsTurn_1 := dk_seg dksX5_addsTurn_0 24 rfl rfl
theorem dksX5_addsTurn_2 : cX5_addsTurn.data.toList.drop 48 = dktX5_addsTurn_2 := dk_seg dksX5_addsTurn_1 24 rfl rfl
theorem dksX5_addsTurn_3 : cX5_addsTurn.data.toList.drop 71 = dktX5_addsTurn_3 := dk_seg dksX5_addsTurn_2 23 rfl rfl
theorem dX5_addsTurn_0 : decode cX5_addsTurn 0 = .ok (.aload_n 0, 1) := dk_42 (dk_at dksX5_addsTurn_0 0 rfl rfl)
theorem dX5_addsTurn_1 : decode cX5_addsTurn 1 = .ok (.getfield 315, 3) := dk_180 1 59 (dk_at dksX5_addsTurn_0 1 rfl rfl)
theorem dX5_addsTurn_4 : decode cX5_addsTurn 4 = .ok (.istore_n 2, 1) := dk_61 (dk_at dksX5_addsTurn_0 4 rfl rfl)
theorem dX5_addsTurn_5 : decode cX5_addsTurn 5 = .ok (.iload_n 2, 1) := dk_28 (dk_at dksX5_addsTurn_0 5 rfl rfl)
theorem dX5_addsTurn_6 : decode cX5_addsTurn 6 = .ok (.ifCond .le 21, 3) := dk_158 0 21 (dk_at dksX5_addsTurn_0 6 rfl rfl)
theorem dX5_addsTurn_9 : decode cX5_addsTurn 9 = .ok (.aload_n 0, 1) := dk_42 (dk_at dksX5_addsTurn_0 9 rfl rfl)
theorem dX5_addsTurn_10 : decode cX5_addsTurn 10 = .ok (.getfield 61, 3) := dk_180 0 61 (dk_at dksX5_addsTurn_0 10 rfl rfl)
theorem dX5_addsTurn_13 : decode cX5_addsTurn 13 = .ok (.iload_n 2, 1) := dk_28 (dk_at dksX5_addsTurn_0 13 rfl rfl)
theorem dX5_addsTurn_14 : decode cX5_addsTurn 14 = .ok (.iconst 1, 1) := dk_4 (dk_at dksX5_addsTurn_0 14 rfl rfl)
theorem dX5_addsTurn_15 : decode cX5_addsTurn 15 = .ok (.isub, 1) := dk_100 (dk_at dksX5_addsTurn_0 15 rfl rfl)
theorem dX5_addsTurn_16 : decode cX5_addsTurn 16 = .ok (.iaload, 1) := dk_46 (dk_at dksX5_addsTurn_0 16 rfl rfl)
theorem dX5_addsTurn_17 : decode cX5_addsTurn 17 = .ok (.iload_n 1, 1) := dk_27 (dk_at dksX5_addsTurn_0 17 rfl rfl)
theorem dX5_addsTurn_18 : decode cX5_addsTurn 18 = .ok (.if_icmp .le 9, 3) := dk_164 0 9 (dk_at dksX5_addsTurn_0 18 rfl rfl)
theorem dX5_addsTurn_21 : decode cX5_addsTurn 21 = .ok (.iinc 2 (-1), 3) := dk_132 2 255 (dk_at dksX5_addsTurn_0 21 rfl rfl)
theorem dX5_addsTurn_24 : decode cX5_addsTurn 24 = .ok (.goto (-19), 3) := dk_167 255 237 (dk_at dksX5_addsTurn_1 0 rfl rfl)
theorem dX5_addsTurn_27 : decode cX5_addsTurn 27 = .ok (.iload_n 2, 1) := dk_28 (dk_at dksX5_addsTurn_1 3 rfl rfl)
theorem dX5_addsTurn_28 : decode cX5_addsTurn 28 = .ok (.ifCond .le 16, 3) := dk_158 0 16 (dk_at dksX5_addsTurn_1 4 rfl rfl)
theorem dX5_addsTurn_31 : decode cX5_addsTurn 31 = .ok (.aload_n 0, 1) := dk_42 (dk_at dksX5_addsTurn_1 7 rfl rfl)
theorem dX5_addsTurn_32 : decode cX5_addsTurn 32 = .ok (.getfield 61, 3) := dk_180 0 61 (dk_at dksX5_addsTurn_1 8 rfl rfl)
theorem dX5_addsTurn_35 : decode cX5_addsTurn 35 = .ok (.iload_n 2, 1) := dk_28 (dk_at dksX5_addsTurn_1 11 rfl rfl)
theorem dX5_addsTurn_36 : decode cX5_addsTurn 36 = .ok (.iconst 1, 1) := dk_4 (dk_at dksX5_addsTurn_1 12 rfl rfl)
theorem dX5_addsTurn_37 : decode cX5_addsTurn 37 = .ok (.isub, 1) := dk_100 (dk_at dksX5_addsTurn_1 13 rfl rfl)
theorem dX5_addsTurn_38 : decode cX5_addsTurn 38 = .ok (.iaload, 1) := dk_46 (dk_at dksX5_addsTurn_1 14 rfl rfl)
theorem dX5_addsTurn_39 : decode cX5_addsTurn 39 = .ok (.iload_n 1, 1) := dk_27 (dk_at dksX5_addsTurn_1 15 rfl rfl)
theorem dX5_addsTurn_40 : decode cX5_addsTurn 40 = .ok (.if_icmp .ne 4, 3) := dk_160 0 4 (dk_at dksX5_addsTurn_1 16 rfl rfl)
theorem dX5_addsTurn_43 : decode cX5_addsTurn 43 = .ok (.return_, 1) := dk_177 (dk_at dksX5_addsTurn_1 19 rfl rfl)
theorem dX5_addsTurn_44 : decode cX5_addsTurn 44 = .ok (.aload_n 0, 1) := dk_42 (dk_at dksX5_addsTurn_1 20 rfl rfl)
theorem dX5_addsTurn_45 : decode cX5_addsTurn 45 = .ok (.getfield 315, 3) := dk_180 1 59 (dk_at dksX5_addsTurn_1 21 rfl rfl)
theorem dX5_addsTurn_48 : decode cX5_addsTurn 48 = .ok (.istore_n 3, 1) := dk_62 (dk_at dksX5_addsTurn_2 0 rfl rfl)
theorem dX5_addsTurn_49 : decode cX5_addsTurn 49 = .ok (.iload_n 3, 1) := dk_29 (dk_at dksX5_addsTurn_2 1 rfl rfl)
theorem dX5_addsTurn_50 : decode cX5_addsTurn 50 = .ok (.iload_n 2, 1) := dk_28 (dk_at dksX5_addsTurn_2 2 rfl rfl)
theorem dX5_addsTurn_51 : decode cX5_addsTurn 51 = .ok (.if_icmp .le 23, 3) := dk_164 0 23 (dk_at dksX5_addsTurn_2 3 rfl rfl)
theorem dX5_addsTurn_54 : decode cX5_addsTurn 54 = .ok (.aload_n 0, 1) := dk_42 (dk_at dksX5_addsTurn_2 6 rfl rfl)
theorem dX5_addsTurn_55 : decode cX5_addsTurn 55 = .ok (.getfield 61, 3) := dk_180 0 61 (dk_at dksX5_addsTurn_2 7 rfl rfl)
theorem dX5_addsTurn_58 : decode cX5_addsTurn 58 = .ok (.iload_n 3, 1) := dk_29 (dk_at dksX5_addsTurn_2 10 rfl rfl)
theorem dX5_addsTurn_59 : decode cX5_addsTurn 59 = .ok (.aload_n 0, 1) := dk_42 (dk_at dksX5_addsTurn_2 11 rfl rfl)
theorem dX5_addsTurn_60 : decode cX5_addsTurn 60 = .ok (.getfield 61, 3) := dk_180 0 61 (dk_at dksX5_addsTurn_2 12 rfl rfl)
theorem dX5_addsTurn_63 : decode cX5_addsTurn 63 = .ok (.iload_n 3, 1) := dk_29 (dk_at dksX5_addsTurn_2 15 rfl rfl)
theorem dX5_addsTurn_64 : decode cX5_addsTurn 64 = .ok (.iconst 1, 1) := dk_4 (dk_at dksX5_addsTurn_2 16 rfl rfl)
theorem dX5_addsTurn_65 : decode cX5_addsTurn 65 = .ok (.isub, 1) := dk_100 (dk_at dksX5_addsTurn_2 17 rfl rfl)
theorem dX5_addsTurn_66 : decode cX5_addsTurn 66 = .ok (.iaload, 1) := dk_46 (dk_at dksX5_addsTurn_2 18 rfl rfl)
theorem dX5_addsTurn_67 : decode cX5_addsTurn 67 = .ok (.iastore, 1) := dk_79 (dk_at dksX5_addsTurn_2 19 rfl rfl)
theorem dX5_addsTurn_68 : decode cX5_addsTurn 68 = .ok (.iinc 3 (-1), 3) := dk_132 3 255 (dk_at dksX5_addsTurn_2 20 rfl rfl)
theorem dX5_addsTurn_71 : decode cX5_addsTurn 71 = .ok (.goto (-22), 3) := dk_167 255 234 (dk_at dksX5_addsTurn_3 0 rfl rfl)
theorem dX5_addsTurn_74 : decode cX5_addsTurn 74 = .ok (.aload_n 0, 1) := dk_42 (dk_at dksX5_addsTurn_3 3 rfl rfl)
theorem dX5_addsTurn_75 : decode cX5_addsTurn 75 = .ok (.getfield 61, 3) := dk_180 0 61 (dk_at dksX5_addsTurn_3 4 rfl rfl)
theorem dX5_addsTurn_78 : decode cX5_addsTurn 78 = .ok (.iload_n 2, 1) := dk_28 (dk_at dksX5_addsTurn_3 7 rfl rfl)
theorem dX5_addsTurn_79 : decode cX5_addsTurn 79 = .ok (.iload_n 1, 1) := dk_27 (dk_at dksX5_addsTurn_3 8 rfl rfl)
theorem dX5_addsTurn_80 : decode cX5_addsTurn 80 = .ok (.iastore, 1) := dk_79 (dk_at dksX5_addsTurn_3 9 rfl rfl)
theorem dX5_addsTurn_81 : decode cX5_addsTurn 81 = .ok (.aload_n 0, 1) := dk_42 (dk_at dksX5_addsTurn_3 10 rfl rfl)
theorem dX5_addsTurn_82 : decode cX5_addsTurn 82 = .ok (.dup, 1) := dk_89 (dk_at dksX5_addsTurn_3 11 rfl rfl)
theorem dX5_addsTurn_83 : decode cX5_addsTurn 83 = .ok (.getfield 315, 3) := dk_180 1 59 (dk_at dksX5_addsTurn_3 12 rfl rfl)
theorem dX5_addsTurn_86 : decode cX5_addsTurn 86 = .ok (.iconst 1, 1) := dk_4 (dk_at dksX5_addsTurn_3 15 rfl rfl)
theorem dX5_addsTurn_87 : decode cX5_addsTurn 87 = .ok (.iadd, 1) := dk_96 (dk_at dksX5_addsTurn_3 16 rfl rfl)
theorem dX5_addsTurn_88 : decode cX5_addsTurn 88 = .ok (.putfield 315, 3) := dk_181 1 59 (dk_at dksX5_addsTurn_3 17 rfl rfl)
theorem dX5_addsTurn_91 : decode cX5_addsTurn 91 = .ok (.return_, 1) := dk_177 (dk_at dksX5_addsTurn_3 20 rfl rfl)
abbrev cX5_improve : ByteArray := prog_17_method_98_code
def yX5_improve : MethodName := ⟨RX5, "improve", "()I"⟩
def dkwX5_improve_0 : List UInt8 := [42, 3, 181, 0, 74, 42, 182, 0, 191, 42, 182, 1, 75, 172]
abbrev dktX5_improve_0 : List UInt8 := dkwX5_improve_0 ++ []
theorem dksX5_improve_0 : cX5_improve.data.toList.drop 0 = dktX5_improve_0 := by decide +kernel
theorem dX5_improve_0 : decode cX5_improve 0 = .ok (.aload_n 0, 1) := dk_42 (dk_at dksX5_improve_0 0 rfl rfl)
theorem dX5_improve_1 : decode cX5_improve 1 = .ok (.iconst 0, 1) := dk_3 (dk_at dksX5_improve_0 1 rfl rfl)
theorem dX5_improve_2 : decode cX5_improve 2 = .ok (.putfield 74, 3) := dk_181 0 74 (dk_at dksX5_improve_0 2 rfl rfl)
theorem dX5_improve_5 : decode cX5_improve 5 = .ok (.aload_n 0, 1) := dk_42 (dk_at dksX5_improve_0 5 rfl rfl)
theorem dX5_improve_6 : decode cX5_improve 6 = .ok (.invokevirtual 191, 3) := dk_182 0 191 (dk_at dksX5_improve_0 6 rfl rfl)
theorem dX5_improve_9 : decode cX5_improve 9 = .ok (.aload_n 0, 1) := dk_42 (dk_at dksX5_improve_0 9 rfl rfl)
theorem dX5_improve_10 : decode cX5_improve 10 = .ok (.invokevirtual 331, 3) := dk_182 1 75 (dk_at dksX5_improve_0 10 rfl rfl)
theorem dX5_improve_13 : decode cX5_improve 13 = .ok (.ireturn, 1) := dk_172 (dk_at dksX5_improve_0 13 rfl rfl)
abbrev cX5_improves : ByteArray := prog_17_method_97_code
def yX5_improves : MethodName := ⟨RX5, "improves", "()I"⟩
def dkwX5_improves_2 : List UInt8 := [132, 2, 1, 167, 255, 211, 27, 172]
abbrev dktX5_improves_2 : List UInt8 := dkwX5_improves_2 ++ []
def dkwX5_improves_1 : List UInt8 := [42, 182, 1, 35, 148, 158, 0, 17, 42, 180, 0, 11, 28, 7, 184, 0, 77, 29, 79, 132, 1, 1]
abbrev dktX5_improves_1 : List UInt8 := dkwX5_improves_1 ++ dktX5_improves_2
def dkwX5_improves_0 : List UInt8 := [3, 60, 3, 61, 28, 42, 180, 0, 11, 4, 46, 162, 0, 41, 42, 28, 182, 1, 72, 62, 42, 180, 1, 65]
abbrev dktX5_improves_0 : List UInt8 := dkwX5_improves_0 ++ dktX5_improves_1
theorem dksX5_improves_0 : cX5_improves.data.toList.drop 0 = dktX5_improves_0 := by decide +kernel
theorem dksX5_improves_1 : cX5_improves.data.toList.drop 24 = dktX5_improves_1 := dk_seg dksX5_improves_0 24 rfl rfl
theorem dksX5_improves_2 : cX5_improves.data.toList.drop 46 = dktX5_improves_2 := dk_seg dksX5_improves_1 22 rfl rfl
theorem dX5_improves_0 : decode cX5_improves 0 = .ok (.iconst 0, 1) := dk_3 (dk_at dksX5_improves_0 0 rfl rfl)
theorem dX5_improves_1 : decode cX5_improves 1 = .ok (.istore_n 1, 1) := dk_60 (dk_at dksX5_improves_0 1 rfl rfl)
theorem dX5_improves_2 : decode cX5_improves 2 = .ok (.iconst 0, 1) := dk_3 (dk_at dksX5_improves_0 2 rfl rfl)
theorem dX5_improves_3 : decode cX5_improves 3 = .ok (.istore_n 2, 1) := dk_61 (dk_at dksX5_improves_0 3 rfl rfl)
theorem dX5_improves_4 : decode cX5_improves 4 = .ok (.iload_n 2, 1) := dk_28 (dk_at dksX5_improves_0 4 rfl rfl)
theorem dX5_improves_5 : decode cX5_improves 5 = .ok (.aload_n 0, 1) := dk_42 (dk_at dksX5_improves_0 5 rfl rfl)
theorem dX5_improves_6 : decode cX5_improves 6 = .ok (.getfield 11, 3) := dk_180 0 11 (dk_at dksX5_improves_0 6 rfl rfl)
theorem dX5_improves_9 : decode cX5_improves 9 = .ok (.iconst 1, 1) := dk_4 (dk_at dksX5_improves_0 9 rfl rfl)
theorem dX5_improves_10 : decode cX5_improves 10 = .ok (.iaload, 1) := dk_46 (dk_at dksX5_improves_0 10 rfl rfl)
theorem dX5_improves_11 : decode cX5_improves 11 = .ok (.if_icmp .ge 41, 3) := dk_162 0 41 (dk_at dksX5_improves_0 11 rfl rfl)
theorem dX5_improves_14 : decode cX5_improves 14 = .ok (.aload_n 0, 1) := dk_42 (dk_at dksX5_improves_0 14 rfl rfl)
theorem dX5_improves_15 : decode cX5_improves 15 = .ok (.iload_n 2, 1) := dk_28 (dk_at dksX5_improves_0 15 rfl rfl)
theorem dX5_improves_16 : decode cX5_improves 16 = .ok (.invokevirtual 328, 3) := dk_182 1 72 (dk_at dksX5_improves_0 16 rfl rfl)
theorem dX5_improves_19 : decode cX5_improves 19 = .ok (.istore_n 3, 1) := dk_62 (dk_at dksX5_improves_0 19 rfl rfl)
theorem dX5_improves_20 : decode cX5_improves 20 = .ok (.aload_n 0, 1) := dk_42 (dk_at dksX5_improves_0 20 rfl rfl)
theorem dX5_improves_21 : decode cX5_improves 21 = .ok (.getfield 321, 3) := dk_180 1 65 (dk_at dksX5_improves_0 21 rfl rfl)
theorem dX5_improves_24 : decode cX5_improves 24 = .ok (.aload_n 0, 1) := dk_42 (dk_at dksX5_improves_1 0 rfl rfl)
theorem dX5_improves_25 : decode cX5_improves 25 = .ok (.invokevirtual 291, 3) := dk_182 1 35 (dk_at dksX5_improves_1 1 rfl rfl)
theorem dX5_improves_28 : decode cX5_improves 28 = .ok (.lcmp, 1) := dk_148 (dk_at dksX5_improves_1 4 rfl rfl)
theorem dX5_improves_29 : decode cX5_improves 29 = .ok (.ifCond .le 17, 3) := dk_158 0 17 (dk_at dksX5_improves_1 5 rfl rfl)
theorem dX5_improves_32 : decode cX5_improves 32 = .ok (.aload_n 0, 1) := dk_42 (dk_at dksX5_improves_1 8 rfl rfl)
theorem dX5_improves_33 : decode cX5_improves 33 = .ok (.getfield 11, 3) := dk_180 0 11 (dk_at dksX5_improves_1 9 rfl rfl)
theorem dX5_improves_36 : decode cX5_improves 36 = .ok (.iload_n 2, 1) := dk_28 (dk_at dksX5_improves_1 12 rfl rfl)
theorem dX5_improves_37 : decode cX5_improves 37 = .ok (.iconst 4, 1) := dk_7 (dk_at dksX5_improves_1 13 rfl rfl)
theorem dX5_improves_38 : decode cX5_improves 38 = .ok (.invokestatic 77, 3) := dk_184 0 77 (dk_at dksX5_improves_1 14 rfl rfl)
theorem dX5_improves_41 : decode cX5_improves 41 = .ok (.iload_n 3, 1) := dk_29 (dk_at dksX5_improves_1 17 rfl rfl)
theorem dX5_improves_42 : decode cX5_improves 42 = .ok (.iastore, 1) := dk_79 (dk_at dksX5_improves_1 18 rfl rfl)
theorem dX5_improves_43 : decode cX5_improves 43 = .ok (.iinc 1 1, 3) := dk_132 1 1 (dk_at dksX5_improves_1 19 rfl rfl)
theorem dX5_improves_46 : decode cX5_improves 46 = .ok (.iinc 2 1, 3) := dk_132 2 1 (dk_at dksX5_improves_2 0 rfl rfl)
theorem dX5_improves_49 : decode cX5_improves 49 = .ok (.goto (-45), 3) := dk_167 255 211 (dk_at dksX5_improves_2 3 rfl rfl)
theorem dX5_improves_52 : decode cX5_improves 52 = .ok (.iload_n 1, 1) := dk_27 (dk_at dksX5_improves_2 6 rfl rfl)
theorem dX5_improves_53 : decode cX5_improves 53 = .ok (.ireturn, 1) := dk_172 (dk_at dksX5_improves_2 7 rfl rfl)
abbrev cX5_optimize : ByteArray := prog_17_method_99_code
def yX5_optimize : MethodName := ⟨RX5, "optimize", "(I)I"⟩
def dkwX5_optimize_1 : List UInt8 := [182, 1, 75, 158, 0, 14, 28, 27, 162, 0, 9, 132, 2, 1, 167, 255, 241, 28, 172]
abbrev dktX5_optimize_1 : List UInt8 := dkwX5_optimize_1 ++ []
def dkwX5_optimize_0 : List UInt8 := [42, 27, 4, 16, 10, 184, 0, 81, 4, 182, 0, 176, 153, 0, 5, 3, 172, 42, 182, 0, 191, 4, 61, 42]
abbrev dktX5_optimize_0 : List UInt8 := dkwX5_optimize_0 ++ dktX5_optimize_1
theorem dksX5_optimize_0 : cX5_optimize.data.toList.drop 0 = dktX5_optimize_0 := by decide +kernel
theorem dksX5_optimize_1 : cX5_optimize.data.toList.drop 24 = dktX5_optimize_1 := dk_seg dksX5_optimize_0 24 rfl rfl
theorem dX5_optimize_0 : decode cX5_optimize 0 = .ok (.aload_n 0, 1) := dk_42 (dk_at dksX5_optimize_0 0 rfl rfl)
theorem dX5_optimize_1 : decode cX5_optimize 1 = .ok (.iload_n 1, 1) := dk_27 (dk_at dksX5_optimize_0 1 rfl rfl)
theorem dX5_optimize_2 : decode cX5_optimize 2 = .ok (.iconst 1, 1) := dk_4 (dk_at dksX5_optimize_0 2 rfl rfl)
theorem dX5_optimize_3 : decode cX5_optimize 3 = .ok (.bipush 10, 2) := dk_16 10 (dk_at dksX5_optimize_0 3 rfl rfl)
theorem dX5_optimize_5 : decode cX5_optimize 5 = .ok (.invokestatic 81, 3) := dk_184 0 81 (dk_at dksX5_optimize_0 5 rfl rfl)
theorem dX5_optimize_8 : decode cX5_optimize 8 = .ok (.iconst 1, 1) := dk_4 (dk_at dksX5_optimize_0 8 rfl rfl)
theorem dX5_optimize_9 : decode cX5_optimize 9 = .ok (.invokevirtual 176, 3) := dk_182 0 176 (dk_at dksX5_optimize_0 9 rfl rfl)
theorem dX5_optimize_12 : decode cX5_optimize 12 = .ok (.ifCond .eq 5, 3) := dk_153 0 5 (dk_at dksX5_optimize_0 12 rfl rfl)
theorem dX5_optimize_15 : decode cX5_optimize 15 = .ok (.iconst 0, 1) := dk_3 (dk_at dksX5_optimize_0 15 rfl rfl)
theorem dX5_optimize_16 : decode cX5_optimize 16 = .ok (.ireturn, 1) := dk_172 (dk_at dksX5_optimize_0 16 rfl rfl)
theorem dX5_optimize_17 : decode cX5_optimize 17 = .ok (.aload_n 0, 1) := dk_42 (dk_at dksX5_optimize_0 17 rfl rfl)
theorem dX5_optimize_18 : decode cX5_optimize 18 = .ok (.invokevirtual 191, 3) := dk_182 0 191 (dk_at dksX5_optimize_0 18 rfl rfl)
theorem dX5_optimize_21 : decode cX5_optimize 21 = .ok (.iconst 1, 1) := dk_4 (dk_at dksX5_optimize_0 21 rfl rfl)
theorem dX5_optimize_22 : decode cX5_optimize 22 = .ok (.istore_n 2, 1) := dk_61 (dk_at dksX5_optimize_0 22 rfl rfl)
theorem dX5_optimize_23 : decode cX5_optimize 23 = .ok (.aload_n 0, 1) := dk_42 (dk_at dksX5_optimize_0 23 rfl rfl)
theorem dX5_optimize_24 : decode cX5_optimize 24 = .ok (.invokevirtual 331, 3) := dk_182 1 75 (dk_at dksX5_optimize_1 0 rfl rfl)
theorem dX5_optimize_27 : decode cX5_optimize 27 = .ok (.ifCond .le 14, 3) := dk_158 0 14 (dk_at dksX5_optimize_1 3 rfl rfl)
theorem dX5_optimize_30 : decode cX5_optimize 30 = .ok (.iload_n 2, 1) := dk_28 (dk_at dksX5_optimize_1 6 rfl rfl)
theorem dX5_optimize_31 : decode cX5_optimize 31 = .ok (.iload_n 1, 1) := dk_27 (dk_at dksX5_optimize_1 7 rfl rfl)
theorem dX5_optimize_32 : decode cX5_optimize 32 = .ok (.if_icmp .ge 9, 3) := dk_162 0 9 (dk_at dksX5_optimize_1 8 rfl rfl)
theorem dX5_optimize_35 : decode cX5_optimize 35 = .ok (.iinc 2 1, 3) := dk_132 2 1 (dk_at dksX5_optimize_1 11 rfl rfl)
theorem dX5_optimize_38 : decode cX5_optimize 38 = .ok (.goto (-15), 3) := dk_167 255 241 (dk_at dksX5_optimize_1 14 rfl rfl)
theorem dX5_optimize_41 : decode cX5_optimize 41 = .ok (.iload_n 2, 1) := dk_28 (dk_at dksX5_optimize_1 17 rfl rfl)
theorem dX5_optimize_42 : decode cX5_optimize 42 = .ok (.ireturn, 1) := dk_172 (dk_at dksX5_optimize_1 18 rfl rfl)
abbrev cX5_improvable : ByteArray := prog_17_method_100_code
def yX5_improvable : MethodName := ⟨RX5, "improvable", "()I"⟩
def dkwX5_improvable_2 : List UInt8 := [132, 2, 1, 167, 255, 215, 27, 172]
abbrev dktX5_improvable_2 : List UInt8 := dkwX5_improvable_2 ++ []
def dkwX5_improvable_1 : List UInt8 := [62, 27, 42, 180, 1, 65, 42, 182, 1, 35, 148, 158, 0, 9, 4, 28, 120, 167, 0, 4, 3, 128, 60]
abbrev dktX5_improvable_1 : List UInt8 := dkwX5_improvable_1 ++ dktX5_improvable_2
def dkwX5_improvable_0 : List UInt8 := [42, 3, 181, 0, 74, 3, 60, 3, 61, 28, 42, 180, 0, 11, 4, 46, 162, 0, 37, 42, 28, 182, 1, 72]
abbrev dktX5_improvable_0 : List UInt8 := dkwX5_improvable_0 ++ dktX5_improvable_1
theorem dksX5_improvable_0 : cX5_improvable.data.toList.drop 0 = dktX5_improvable_0 := by decide +kernel
theorem dksX5_improvable_1 : cX5_improvable.data.toList.drop 24 = dktX5_improvable_1 := dk_seg dksX5_improvable_0 24 rfl rfl
theorem dksX5_improvable_2 : cX5_improvable.data.toList.drop 47 = dktX5_improvable_2 := dk_seg dksX5_improvable_1 23 rfl rfl
theorem dX5_improvable_0 : decode cX5_improvable 0 = .ok (.aload_n 0, 1) := dk_42 (dk_at dksX5_improvable_0 0 rfl rfl)
theorem dX5_improvable_1 : decode cX5_improvable 1 = .ok (.iconst 0, 1) := dk_3 (dk_at dksX5_improvable_0 1 rfl rfl)
theorem dX5_improvable_2 : decode cX5_improvable 2 = .ok (.putfield 74, 3) := dk_181 0 74 (dk_at dksX5_improvable_0 2 rfl rfl)
theorem dX5_improvable_5 : decode cX5_improvable 5 = .ok (.iconst 0, 1) := dk_3 (dk_at dksX5_improvable_0 5 rfl rfl)
theorem dX5_improvable_6 : decode cX5_improvable 6 = .ok (.istore_n 1, 1) := dk_60 (dk_at dksX5_improvable_0 6 rfl rfl)
theorem dX5_improvable_7 : decode cX5_improvable 7 = .ok (.iconst 0, 1) := dk_3 (dk_at dksX5_improvable_0 7 rfl rfl)
theorem dX5_improvable_8 : decode cX5_improvable 8 = .ok (.istore_n 2, 1) := dk_61 (dk_at dksX5_improvable_0 8 rfl rfl)
theorem dX5_improvable_9 : decode cX5_improvable 9 = .ok (.iload_n 2, 1) := dk_28 (dk_at dksX5_improvable_0 9 rfl rfl)
theorem dX5_improvable_10 : decode cX5_improvable 10 = .ok (.aload_n 0, 1) := dk_42 (dk_at dksX5_improvable_0 10 rfl rfl)
theorem dX5_improvable_11 : decode cX5_improvable 11 = .ok (.getfield 11, 3) := dk_180 0 11 (dk_at dksX5_improvable_0 11 rfl rfl)
theorem dX5_improvable_14 : decode cX5_improvable 14 = .ok (.iconst 1, 1) := dk_4 (dk_at dksX5_improvable_0 14 rfl rfl)
theorem dX5_improvable_15 : decode cX5_improvable 15 = .ok (.iaload, 1) := dk_46 (dk_at dksX5_improvable_0 15 rfl rfl)
theorem dX5_improvable_16 : decode cX5_improvable 16 = .ok (.if_icmp .ge 37, 3) := dk_162 0 37 (dk_at dksX5_improvable_0 16 rfl rfl)
theorem dX5_improvable_19 : decode cX5_improvable 19 = .ok (.aload_n 0, 1) := dk_42 (dk_at dksX5_improvable_0 19 rfl rfl)
theorem dX5_improvable_20 : decode cX5_improvable 20 = .ok (.iload_n 2, 1) := dk_28 (dk_at dksX5_improvable_0 20 rfl rfl)
theorem dX5_improvable_21 : decode cX5_improvable 21 = .ok (.invokevirtual 328, 3) := dk_182 1 72 (dk_at dksX5_improvable_0 21 rfl rfl)
theorem dX5_improvable_24 : decode cX5_improvable 24 = .ok (.istore_n 3, 1) := dk_62 (dk_at dksX5_improvable_1 0 rfl rfl)
theorem dX5_improvable_25 : decode cX5_improvable 25 = .ok (.iload_n 1, 1) := dk_27 (dk_at dksX5_improvable_1 1 rfl rfl)
theorem dX5_improvable_26 : decode cX5_improvable 26 = .ok (.aload_n 0, 1) := dk_42 (dk_at dksX5_improvable_1 2 rfl rfl)
theorem dX5_improvable_27 : decode cX5_improvable 27 = .ok (.getfield 321, 3) := dk_180 1 65 (dk_at dksX5_improvable_1 3 rfl rfl)
theorem dX5_improvable_30 : decode cX5_improvable 30 = .ok (.aload_n 0, 1) := dk_42 (dk_at dksX5_improvable_1 6 rfl rfl)
theorem dX5_improvable_31 : decode cX5_improvable 31 = .ok (.invokevirtual 291, 3) := dk_182 1 35 (dk_at dksX5_improvable_1 7 rfl rfl)
theorem dX5_improvable_34 : decode cX5_improvable 34 = .ok (.lcmp, 1) := dk_148 (dk_at dksX5_improvable_1 10 rfl rfl)
theorem dX5_improvable_35 : decode cX5_improvable 35 = .ok (.ifCond .le 9, 3) := dk_158 0 9 (dk_at dksX5_improvable_1 11 rfl rfl)
theorem dX5_improvable_38 : decode cX5_improvable 38 = .ok (.iconst 1, 1) := dk_4 (dk_at dksX5_improvable_1 14 rfl rfl)
theorem dX5_improvable_39 : decode cX5_improvable 39 = .ok (.iload_n 2, 1) := dk_28 (dk_at dksX5_improvable_1 15 rfl rfl)
theorem dX5_improvable_40 : decode cX5_improvable 40 = .ok (.ishl, 1) := dk_120 (dk_at dksX5_improvable_1 16 rfl rfl)
theorem dX5_improvable_41 : decode cX5_improvable 41 = .ok (.goto 4, 3) := dk_167 0 4 (dk_at dksX5_improvable_1 17 rfl rfl)
theorem dX5_improvable_44 : decode cX5_improvable 44 = .ok (.iconst 0, 1) := dk_3 (dk_at dksX5_improvable_1 20 rfl rfl)
theorem dX5_improvable_45 : decode cX5_improvable 45 = .ok (.ior, 1) := dk_128 (dk_at dksX5_improvable_1 21 rfl rfl)
theorem dX5_improvable_46 : decode cX5_improvable 46 = .ok (.istore_n 1, 1) := dk_60 (dk_at dksX5_improvable_1 22 rfl rfl)
theorem dX5_improvable_47 : decode cX5_improvable 47 = .ok (.iinc 2 1, 3) := dk_132 2 1 (dk_at dksX5_improvable_2 0 rfl rfl)
theorem dX5_improvable_50 : decode cX5_improvable 50 = .ok (.goto (-41), 3) := dk_167 255 215 (dk_at dksX5_improvable_2 3 rfl rfl)
theorem dX5_improvable_53 : decode cX5_improvable 53 = .ok (.iload_n 1, 1) := dk_27 (dk_at dksX5_improvable_2 6 rfl rfl)
theorem dX5_improvable_54 : decode cX5_improvable 54 = .ok (.ireturn, 1) := dk_172 (dk_at dksX5_improvable_2 7 rfl rfl)
abbrev cX5_bestPair : ByteArray := prog_17_method_101_code
def yX5_bestPair : MethodName := ⟨RX5, "bestPair", "(III)I"⟩
def dkwX5_bestPair_9 : List UInt8 := [27, 7, 184, 0, 77, 21, 4, 79, 21, 7, 172]
abbrev dktX5_bestPair_9 : List UInt8 := dkwX5_bestPair_9 ++ []
def dkwX5_bestPair_8 : List UInt8 := [55, 5, 21, 9, 29, 96, 54, 9, 167, 255, 197, 21, 8, 29, 96, 54, 8, 167, 255, 162, 42, 180, 0, 11]
abbrev dktX5_bestPair_8 : List UInt8 := dkwX5_bestPair_8 ++ dktX5_bestPair_9
def dkwX5_bestPair_7 : List UInt8 := [17, 39, 16, 21, 8, 104, 21, 9, 96, 167, 0, 5, 21, 7, 54, 7, 22, 5, 22, 10, 184, 1, 69]
abbrev dktX5_bestPair_7 : List UInt8 := dkwX5_bestPair_7 ++ dktX5_bestPair_8
def dkwX5_bestPair_6 : List UInt8 := [182, 0, 180, 163, 0, 54, 42, 28, 21, 9, 182, 1, 56, 55, 10, 22, 10, 22, 5, 148, 158, 0, 15]
abbrev dktX5_bestPair_6 : List UInt8 := dkwX5_bestPair_6 ++ dktX5_bestPair_7
def dkwX5_bestPair_5 : List UInt8 := [163, 0, 89, 42, 180, 0, 11, 27, 7, 184, 0, 77, 21, 8, 79, 3, 54, 9, 21, 9, 42, 28, 6]
abbrev dktX5_bestPair_5 : List UInt8 := dkwX5_bestPair_5 ++ dktX5_bestPair_6
def dkwX5_bestPair_4 : List UInt8 := [182, 0, 180, 54, 4, 20, 1, 45, 55, 5, 3, 54, 7, 3, 54, 8, 21, 8, 42, 27, 6, 182, 0, 180]
abbrev dktX5_bestPair_4 : List UInt8 := dkwX5_bestPair_4 ++ dktX5_bestPair_5
def dkwX5_bestPair_3 : List UInt8 := [28, 6, 182, 0, 180, 29, 108, 4, 96, 104, 17, 1, 144, 164, 0, 6, 16, 253, 172, 42, 27, 7]
abbrev dktX5_bestPair_3 : List UInt8 := dkwX5_bestPair_3 ++ dktX5_bestPair_4
def dkwX5_bestPair_2 : List UInt8 := [167, 0, 4, 3, 5, 182, 0, 176, 153, 0, 5, 3, 172, 42, 27, 6, 182, 0, 180, 29, 108, 4, 96, 42]
abbrev dktX5_bestPair_2 : List UInt8 := dkwX5_bestPair_2 ++ dktX5_bestPair_3
def dkwX5_bestPair_1 : List UInt8 := [182, 0, 176, 154, 0, 32, 42, 27, 28, 159, 0, 18, 29, 4, 17, 39, 15, 184, 0, 81, 153, 0, 7, 4]
abbrev dktX5_bestPair_1 : List UInt8 := dkwX5_bestPair_1 ++ dktX5_bestPair_2
def dkwX5_bestPair_0 : List UInt8 := [42, 42, 27, 182, 0, 182, 153, 0, 15, 42, 28, 182, 0, 182, 153, 0, 7, 4, 167, 0, 4, 3, 4]
abbrev dktX5_bestPair_0 : List UInt8 := dkwX5_bestPair_0 ++ dktX5_bestPair_1
theorem dksX5_bestPair_0 : cX5_bestPair.data.toList.drop 0 = dktX5_bestPair_0 := by decide +kernel
theorem dksX5_bestPair_1 : cX5_bestPair.data.toList.drop 23 = dktX5_bestPair_1 := dk_seg dksX5_bestPair_0 23 rfl rfl
theorem dksX5_bestPair_2 : cX5_bestPair.data.toList.drop 47 = dktX5_bestPair_2 := dk_seg dksX5_bestPair_1 24 rfl rfl
theorem dksX5_bestPair_3 : cX5_bestPair.data.toList.drop 71 = dktX5_bestPair_3 := dk_seg dksX5_bestPair_2 24 rfl rfl
theorem dksX5_bestPair_4 : cX5_bestPair.data.toList.drop 93 = dktX5_bestPair_4 := dk_seg dksX5_bestPair_3 22 rfl rfl
theorem dksX5_bestPair_5 : cX5_bestPair.data.toList.drop 117 = dktX5_bestPair_5 := dk_seg dksX5_bestPair_4 24 rfl rfl
theorem dksX5_bestPair_6 : cX5_bestPair.data.toList.drop 140 = dktX5_bestPair_6 := dk_seg dksX5_bestPair_5 23 rfl rfl
theorem dksX5_bestPair_7 : cX5_bestPair.data.toList.drop 163 = dktX5_bestPair_7 := dk_seg dksX5_bestPair_6 23 rfl rfl
theorem dksX5_bestPair_8 : cX5_bestPair.data.toList.drop 186 = dktX5_bestPair_8 := dk_seg dksX5_bestPair_7 23 rfl rfl
theorem dksX5_bestPair_9 : cX5_bestPair.data.toList.drop 210 = dktX5_bestPair_9 := dk_seg dksX5_bestPair_8 24 rfl rfl
theorem dX5_bestPair_0 : decode cX5_bestPair 0 = .ok (.aload_n 0, 1) := dk_42 (dk_at dksX5_bestPair_0 0 rfl rfl)
theorem dX5_bestPair_1 : decode cX5_bestPair 1 = .ok (.aload_n 0, 1) := dk_42 (dk_at dksX5_bestPair_0 1 rfl rfl)
theorem dX5_bestPair_2 : decode cX5_bestPair 2 = .ok (.iload_n 1, 1) := dk_27 (dk_at dksX5_bestPair_0 2 rfl rfl)
theorem dX5_bestPair_3 : decode cX5_bestPair 3 = .ok (.invokevirtual 182, 3) := dk_182 0 182 (dk_at dksX5_bestPair_0 3 rfl rfl)
theorem dX5_bestPair_6 : decode cX5_bestPair 6 = .ok (.ifCond .eq 15, 3) := dk_153 0 15 (dk_at dksX5_bestPair_0 6 rfl rfl)
theorem dX5_bestPair_9 : decode cX5_bestPair 9 = .ok (.aload_n 0, 1) := dk_42 (dk_at dksX5_bestPair_0 9 rfl rfl)
theorem dX5_bestPair_10 : decode cX5_bestPair 10 = .ok (.iload_n 2, 1) := dk_28 (dk_at dksX5_bestPair_0 10 rfl rfl)
theorem dX5_bestPair_11 : decode cX5_bestPair 11 = .ok (.invokevirtual 182, 3) := dk_182 0 182 (dk_at dksX5_bestPair_0 11 rfl rfl)
theorem dX5_bestPair_14 : decode cX5_bestPair 14 = .ok (.ifCond .eq 7, 3) := dk_153 0 7 (dk_at dksX5_bestPair_0 14 rfl rfl)
theorem dX5_bestPair_17 : decode cX5_bestPair 17 = .ok (.iconst 1, 1) := dk_4 (dk_at dksX5_bestPair_0 17 rfl rfl)
theorem dX5_bestPair_18 : decode cX5_bestPair 18 = .ok (.goto 4, 3) := dk_167 0 4 (dk_at dksX5_bestPair_0 18 rfl rfl)
theorem dX5_bestPair_21 : decode cX5_bestPair 21 = .ok (.iconst 0, 1) := dk_3 (dk_at dksX5_bestPair_0 21 rfl rfl)
theorem dX5_bestPair_22 : decode cX5_bestPair 22 = .ok (.iconst 1, 1) := dk_4 (dk_at dksX5_bestPair_0 22 rfl rfl)
theorem dX5_bestPair_23 : decode cX5_bestPair 23 = .ok (.invokevirtual 176, 3) := dk_182 0 176 (dk_at dksX5_bestPair_1 0 rfl rfl)
theorem dX5_bestPair_26 : decode cX5_bestPair 26 = .ok (.ifCond .ne 32, 3) := dk_154 0 32 (dk_at dksX5_bestPair_1 3 rfl rfl)
theorem dX5_bestPair_29 : decode cX5_bestPair 29 = .ok (.aload_n 0, 1) := dk_42 (dk_at dksX5_bestPair_1 6 rfl rfl)
theorem dX5_bestPair_30 : decode cX5_bestPair 30 = .ok (.iload_n 1, 1) := dk_27 (dk_at dksX5_bestPair_1 7 rfl rfl)
theorem dX5_bestPair_31 : decode cX5_bestPair 31 = .ok (.iload_n 2, 1) := dk_28 (dk_at dksX5_bestPair_1 8 rfl rfl)
theorem dX5_bestPair_32 : decode cX5_bestPair 32 = .ok (.if_icmp .eq 18, 3) := dk_159 0 18 (dk_at dksX5_bestPair_1 9 rfl rfl)
theorem dX5_bestPair_35 : decode cX5_bestPair 35 = .ok (.iload_n 3, 1) := dk_29 (dk_at dksX5_bestPair_1 12 rfl rfl)
theorem dX5_bestPair_36 : decode cX5_bestPair 36 = .ok (.iconst 1, 1) := dk_4 (dk_at dksX5_bestPair_1 13 rfl rfl)
theorem dX5_bestPair_37 : decode cX5_bestPair 37 = .ok (.sipush 9999, 3) := dk_17 39 15 (dk_at dksX5_bestPair_1 14 rfl rfl)
theorem dX5_bestPair_40 : decode cX5_bestPair 40 = .ok (.invokestatic 81, 3) := dk_184 0 81 (dk_at dksX5_bestPair_1 17 rfl rfl)
theorem dX5_bestPair_43 : decode cX5_bestPair 43 = .ok (.ifCond .eq 7, 3) := dk_153 0 7 (dk_at dksX5_bestPair_1 20 rfl rfl)
theorem dX5_bestPair_46 : decode cX5_bestPair 46 = .ok (.iconst 1, 1) := dk_4 (dk_at dksX5_bestPair_1 23 rfl rfl)
theorem dX5_bestPair_47 : decode cX5_bestPair 47 = .ok (.goto 4, 3) := dk_167 0 4 (dk_at dksX5_bestPair_2 0 rfl rfl)
theorem dX5_bestPair_50 : decode cX5_bestPair 50 = .ok (.iconst 0, 1) := dk_3 (dk_at dksX5_bestPair_2 3 rfl rfl)
theorem dX5_bestPair_51 : decode cX5_bestPair 51 = .ok (.iconst 2, 1) := dk_5 (dk_at dksX5_bestPair_2 4 rfl rfl)
theorem dX5_bestPair_52 : decode cX5_bestPair 52 = .ok (.invokevirtual 176, 3) := dk_182 0 176 (dk_at dksX5_bestPair_2 5 rfl rfl)
theorem dX5_bestPair_55 : decode cX5_bestPair 55 = .ok (.ifCond .eq 5, 3) := dk_153 0 5 (dk_at dksX5_bestPair_2 8 rfl rfl)
theorem dX5_bestPair_58 : decode cX5_bestPair 58 = .ok (.iconst 0, 1) := dk_3 (dk_at dksX5_bestPair_2 11 rfl rfl)
theorem dX5_bestPair_59 : decode cX5_bestPair 59 = .ok (.ireturn, 1) := dk_172 (dk_at dksX5_bestPair_2 12 rfl rfl)
theorem dX5_bestPair_60 : decode cX5_bestPair 60 = .ok (.aload_n 0, 1) := dk_42 (dk_at dksX5_bestPair_2 13 rfl rfl)
theorem dX5_bestPair_61 : decode cX5_bestPair 61 = .ok (.iload_n 1, 1) := dk_27 (dk_at dksX5_bestPair_2 14 rfl rfl)
theorem dX5_bestPair_62 : decode cX5_bestPair 62 = .ok (.iconst 3, 1) := dk_6 (dk_at dksX5_bestPair_2 15 rfl rfl)
theorem dX5_bestPair_63 : decode cX5_bestPair 63 = .ok (.invokevirtual 180, 3) := dk_182 0 180 (dk_at dksX5_bestPair_2 16 rfl rfl)
theorem dX5_bestPair_66 : decode cX5_bestPair 66 = .ok (.iload_n 3, 1) := dk_29 (dk_at dksX5_bestPair_2 19 rfl rfl)
theorem dX5_bestPair_67 : decode cX5_bestPair 67 = .ok (.idiv, 1) := dk_108 (dk_at dksX5_bestPair_2 20 rfl rfl)
theorem dX5_bestPair_68 : decode cX5_bestPair 68 = .ok (.iconst 1, 1) := dk_4 (dk_at dksX5_bestPair_2 21 rfl rfl)
theorem dX5_bestPair_69 : decode cX5_bestPair 69 = .ok (.iadd, 1) := dk_96 (dk_at dksX5_bestPair_2 22 rfl rfl)
theorem dX5_bestPair_70 : decode cX5_bestPair 70 = .ok (.aload_n 0, 1) := dk_42 (dk_at dksX5_bestPair_2 23 rfl rfl)
theorem dX5_bestPair_71 : decode cX5_bestPair 71 = .ok (.iload_n 2, 1) := dk_28 (dk_at dksX5_bestPair_3 0 rfl rfl)
theorem dX5_bestPair_72 : decode cX5_bestPair 72 = .ok (.iconst 3, 1) := dk_6 (dk_at dksX5_bestPair_3 1 rfl rfl)
theorem dX5_bestPair_73 : decode cX5_bestPair 73 = .ok (.invokevirtual 180, 3) := dk_182 0 180 (dk_at dksX5_bestPair_3 2 rfl rfl)
theorem dX5_bestPair_76 : decode cX5_bestPair 76 = .ok (.iload_n 3, 1) := dk_29 (dk_at dksX5_bestPair_3 5 rfl rfl)
theorem dX5_bestPair_77 : decode cX5_bestPair 77 = .ok (.idiv, 1) := dk_108 (dk_at dksX5_bestPair_3 6 rfl rfl)
theorem dX5_bestPair_78 : decode cX5_bestPair 78 = .ok (.iconst 1, 1) := dk_4 (dk_at dksX5_bestPair_3 7 rfl rfl)
theorem dX5_bestPair_79 : decode cX5_bestPair 79 = .ok (.iadd, 1) := dk_96 (dk_at dksX5_bestPair_3 8 rfl rfl)
theorem dX5_bestPair_80 : decode cX5_bestPair 80 = .ok (.imul, 1) := dk_104 (dk_at dksX5_bestPair_3 9 rfl rfl)
theorem dX5_bestPair_81 : decode cX5_bestPair 81 = .ok (.sipush 400, 3) := dk_17 1 144 (dk_at dksX5_bestPair_3 10 rfl rfl)
theorem dX5_bestPair_84 : decode cX5_bestPair 84 = .ok (.if_icmp .le 6, 3) := dk_164 0 6 (dk_at dksX5_bestPair_3 13 rfl rfl)
theorem dX5_bestPair_87 : decode cX5_bestPair 87 = .ok (.bipush (-3), 2) := dk_16 253 (dk_at dksX5_bestPair_3 16 rfl rfl)
theorem dX5_bestPair_89 : decode cX5_bestPair 89 = .ok (.ireturn, 1) := dk_172 (dk_at dksX5_bestPair_3 18 rfl rfl)
theorem dX5_bestPair_90 : decode cX5_bestPair 90 = .ok (.aload_n 0, 1) := dk_42 (dk_at dksX5_bestPair_3 19 rfl rfl)
theorem dX5_bestPair_91 : decode cX5_bestPair 91 = .ok (.iload_n 1, 1) := dk_27 (dk_at dksX5_bestPair_3 20 rfl rfl)
theorem dX5_bestPair_92 : decode cX5_bestPair 92 = .ok (.iconst 4, 1) := dk_7 (dk_at dksX5_bestPair_3 21 rfl rfl)
theorem dX5_bestPair_93 : decode cX5_bestPair 93 = .ok (.invokevirtual 180, 3) := dk_182 0 180 (dk_at dksX5_bestPair_4 0 rfl rfl)
theorem dX5_bestPair_96 : decode cX5_bestPair 96 = .ok (.istore 4, 2) := dk_54 4 (dk_at dksX5_bestPair_4 3 rfl rfl)
theorem dX5_bestPair_98 : decode cX5_bestPair 98 = .ok (.ldc2_w 301, 3) := dk_20 1 45 (dk_at dksX5_bestPair_4 5 rfl rfl)
theorem dX5_bestPair_101 : decode cX5_bestPair 101 = .ok (.lstore 5, 2) := dk_55 5 (dk_at dksX5_bestPair_4 8 rfl rfl)
theorem dX5_bestPair_103 : decode cX5_bestPair 103 = .ok (.iconst 0, 1) := dk_3 (dk_at dksX5_bestPair_4 10 rfl rfl)
theorem dX5_bestPair_104 : decode cX5_bestPair 104 = .ok (.istore 7, 2) := dk_54 7 (dk_at dksX5_bestPair_4 11 rfl rfl)
theorem dX5_bestPair_106 : decode cX5_bestPair 106 = .ok (.iconst 0, 1) := dk_3 (dk_at dksX5_bestPair_4 13 rfl rfl)
theorem dX5_bestPair_107 : decode cX5_bestPair 107 = .ok (.istore 8, 2) := dk_54 8 (dk_at dksX5_bestPair_4 14 rfl rfl)
theorem dX5_bestPair_109 : decode cX5_bestPair 109 = .ok (.iload 8, 2) := dk_21 8 (dk_at dksX5_bestPair_4 16 rfl rfl)
theorem dX5_bestPair_111 : decode cX5_bestPair 111 = .ok (.aload_n 0, 1) := dk_42 (dk_at dksX5_bestPair_4 18 rfl rfl)
theorem dX5_bestPair_112 : decode cX5_bestPair 112 = .ok (.iload_n 1, 1) := dk_27 (dk_at dksX5_bestPair_4 19 rfl rfl)
theorem dX5_bestPair_113 : decode cX5_bestPair 113 = .ok (.iconst 3, 1) := dk_6 (dk_at dksX5_bestPair_4 20 rfl rfl)
theorem dX5_bestPair_114 : decode cX5_bestPair 114 = .ok (.invokevirtual 180, 3) := dk_182 0 180 (dk_at dksX5_bestPair_4 21 rfl rfl)
theorem dX5_bestPair_117 : decode cX5_bestPair 117 = .ok (.if_icmp .gt 89, 3) := dk_163 0 89 (dk_at dksX5_bestPair_5 0 rfl rfl)
theorem dX5_bestPair_120 : decode cX5_bestPair 120 = .ok (.aload_n 0, 1) := dk_42 (dk_at dksX5_bestPair_5 3 rfl rfl)
theorem dX5_bestPair_121 : decode cX5_bestPair 121 = .ok (.getfield 11, 3) := dk_180 0 11 (dk_at dksX5_bestPair_5 4 rfl rfl)
theorem dX5_bestPair_124 : decode cX5_bestPair 124 = .ok (.iload_n 1, 1) := dk_27 (dk_at dksX5_bestPair_5 7 rfl rfl)
theorem dX5_bestPair_125 : decode cX5_bestPair 125 = .ok (.iconst 4, 1) := dk_7 (dk_at dksX5_bestPair_5 8 rfl rfl)
theorem dX5_bestPair_126 : decode cX5_bestPair 126 = .ok (.invokestatic 77, 3) := dk_184 0 77 (dk_at dksX5_bestPair_5 9 rfl rfl)
theorem dX5_bestPair_129 : decode cX5_bestPair 129 = .ok (.iload 8, 2) := dk_21 8 (dk_at dksX5_bestPair_5 12 rfl rfl)
theorem dX5_bestPair_131 : decode cX5_bestPair 131 = .ok (.iastore, 1) := dk_79 (dk_at dksX5_bestPair_5 14 rfl rfl)
theorem dX5_bestPair_132 : decode cX5_bestPair 132 = .ok (.iconst 0, 1) := dk_3 (dk_at dksX5_bestPair_5 15 rfl rfl)
theorem dX5_bestPair_133 : decode cX5_bestPair 133 = .ok (.istore 9, 2) := dk_54 9 (dk_at dksX5_bestPair_5 16 rfl rfl)
theorem dX5_bestPair_135 : decode cX5_bestPair 135 = .ok (.iload 9, 2) := dk_21 9 (dk_at dksX5_bestPair_5 18 rfl rfl)
theorem dX5_bestPair_137 : decode cX5_bestPair 137 = .ok (.aload_n 0, 1) := dk_42 (dk_at dksX5_bestPair_5 20 rfl rfl)
theorem dX5_bestPair_138 : decode cX5_bestPair 138 = .ok (.iload_n 2, 1) := dk_28 (dk_at dksX5_bestPair_5 21 rfl rfl)
theorem dX5_bestPair_139 : decode cX5_bestPair 139 = .ok (.iconst 3, 1) := dk_6 (dk_at dksX5_bestPair_5 22 rfl rfl)
theorem dX5_bestPair_140 : decode cX5_bestPair 140 = .ok (.invokevirtual 180, 3) := dk_182 0 180 (dk_at dksX5_bestPair_6 0 rfl rfl)
theorem dX5_bestPair_143 : decode cX5_bestPair 143 = .ok (.if_icmp .gt 54, 3) := dk_163 0 54 (dk_at dksX5_bestPair_6 3 rfl rfl)
theorem dX5_bestPair_146 : decode cX5_bestPair 146 = .ok (.aload_n 0, 1) := dk_42 (dk_at dksX5_bestPair_6 6 rfl rfl)
theorem dX5_bestPair_147 : decode cX5_bestPair 147 = .ok (.iload_n 2, 1) := dk_28 (dk_at dksX5_bestPair_6 7 rfl rfl)
theorem dX5_bestPair_148 : decode cX5_bestPair 148 = .ok (.iload 9, 2) := dk_21 9 (dk_at dksX5_bestPair_6 8 rfl rfl)
theorem dX5_bestPair_150 : decode cX5_bestPair 150 = .ok (.invokevirtual 312, 3) := dk_182 1 56 (dk_at dksX5_bestPair_6 10 rfl rfl)
theorem dX5_bestPair_153 : decode cX5_bestPair 153 = .ok (.lstore 10, 2) := dk_55 10 (dk_at dksX5_bestPair_6 13 rfl rfl)
theorem dX5_bestPair_155 : decode cX5_bestPair 155 = .ok (.lload 10, 2) := dk_22 10 (dk_at dksX5_bestPair_6 15 rfl rfl)
theorem dX5_bestPair_157 : decode cX5_bestPair 157 = .ok (.lload 5, 2) := dk_22 5 (dk_at dksX5_bestPair_6 17 rfl rfl)
theorem dX5_bestPair_159 : decode cX5_bestPair 159 = .ok (.lcmp, 1) := dk_148 (dk_at dksX5_bestPair_6 19 rfl rfl)
theorem dX5_bestPair_160 : decode cX5_bestPair 160 = .ok (.ifCond .le 15, 3) := dk_158 0 15 (dk_at dksX5_bestPair_6 20 rfl rfl)
theorem dX5_bestPair_163 : decode cX5_bestPair 163 = .ok (.sipush 10000, 3) := dk_17 39 16 (dk_at dksX5_bestPair_7 0 rfl rfl)
theorem dX5_bestPair_166 : decode cX5_bestPair 166 = .ok (.iload 8, 2) := dk_21 8 (dk_at dksX5_bestPair_7 3 rfl rfl)
theorem dX5_bestPair_168 : decode cX5_bestPair 168 = .ok (.imul, 1) := dk_104 (dk_at dksX5_bestPair_7 5 rfl rfl)
theorem dX5_bestPair_169 : decode cX5_bestPair 169 = .ok (.iload 9, 2) := dk_21 9 (dk_at dksX5_bestPair_7 6 rfl rfl)
theorem dX5_bestPair_171 : decode cX5_bestPair 171 = .ok (.iadd, 1) := dk_96 (dk_at dksX5_bestPair_7 8 rfl rfl)
theorem dX5_bestPair_172 : decode cX5_bestPair 172 = .ok (.goto 5, 3) := dk_167 0 5 (dk_at dksX5_bestPair_7 9 rfl rfl)
theorem dX5_bestPair_175 : decode cX5_bestPair 175 = .ok (.iload 7, 2) := dk_21 7 (dk_at dksX5_bestPair_7 12 rfl rfl)
theorem dX5_bestPair_177 : decode cX5_bestPair 177 = .ok (.istore 7, 2) := dk_54 7 (dk_at dksX5_bestPair_7 14 rfl rfl)
theorem dX5_bestPair_179 : decode cX5_bestPair 179 = .ok (.lload 5, 2) := dk_22 5 (dk_at dksX5_bestPair_7 16 rfl rfl)
theorem dX5_bestPair_181 : decode cX5_bestPair 181 = .ok (.lload 10, 2) := dk_22 10 (dk_at dksX5_bestPair_7 18 rfl rfl)
theorem dX5_bestPair_183 : decode cX5_bestPair 183 = .ok (.invokestatic 325, 3) := dk_184 1 69 (dk_at dksX5_bestPair_7 20 rfl rfl)
theorem dX5_bestPair_186 : decode cX5_bestPair 186 = .ok (.lstore 5, 2) := dk_55 5 (dk_at dksX5_bestPair_8 0 rfl rfl)
theorem dX5_bestPair_188 : decode cX5_bestPair 188 = .ok (.iload 9, 2) := dk_21 9 (dk_at dksX5_bestPair_8 2 rfl rfl)
theorem dX5_bestPair_190 : decode cX5_bestPair 190 = .ok (.iload_n 3, 1) := dk_29 (dk_at dksX5_bestPair_8 4 rfl rfl)
theorem dX5_bestPair_191 : decode cX5_bestPair 191 = .ok (.iadd, 1) := dk_96 (dk_at dksX5_bestPair_8 5 rfl rfl)
theorem dX5_bestPair_192 : decode cX5_bestPair 192 = .ok (.istore 9, 2) := dk_54 9 (dk_at dksX5_bestPair_8 6 rfl rfl)
theorem dX5_bestPair_194 : decode cX5_bestPair 194 = .ok (.goto (-59), 3) := dk_167 255 197 (dk_at dksX5_bestPair_8 8 rfl rfl)
theorem dX5_bestPair_197 : decode cX5_bestPair 197 = .ok (.iload 8, 2) := dk_21 8 (dk_at dksX5_bestPair_8 11 rfl rfl)
theorem dX5_bestPair_199 : decode cX5_bestPair 199 = .ok (.iload_n 3, 1) := dk_29 (dk_at dksX5_bestPair_8 13 rfl rfl)
theorem dX5_bestPair_200 : decode cX5_bestPair 200 = .ok (.iadd, 1) := dk_96 (dk_at dksX5_bestPair_8 14 rfl rfl)
theorem dX5_bestPair_201 : decode cX5_bestPair 201 = .ok (.istore 8, 2) := dk_54 8 (dk_at dksX5_bestPair_8 15 rfl rfl)
theorem dX5_bestPair_203 : decode cX5_bestPair 203 = .ok (.goto (-94), 3) := dk_167 255 162 (dk_at dksX5_bestPair_8 17 rfl rfl)
theorem dX5_bestPair_206 : decode cX5_bestPair 206 = .ok (.aload_n 0, 1) := dk_42 (dk_at dksX5_bestPair_8 20 rfl rfl)
theorem dX5_bestPair_207 : decode cX5_bestPair 207 = .ok (.getfield 11, 3) := dk_180 0 11 (dk_at dksX5_bestPair_8 21 rfl rfl)
theorem dX5_bestPair_210 : decode cX5_bestPair 210 = .ok (.iload_n 1, 1) := dk_27 (dk_at dksX5_bestPair_9 0 rfl rfl)
theorem dX5_bestPair_211 : decode cX5_bestPair 211 = .ok (.iconst 4, 1) := dk_7 (dk_at dksX5_bestPair_9 1 rfl rfl)
theorem dX5_bestPair_212 : decode cX5_bestPair 212 = .ok (.invokestatic 77, 3) := dk_184 0 77 (dk_at dksX5_bestPair_9 2 rfl rfl)
theorem dX5_bestPair_215 : decode cX5_bestPair 215 = .ok (.iload 4, 2) := dk_21 4 (dk_at dksX5_bestPair_9 5 rfl rfl)
theorem dX5_bestPair_217 : decode cX5_bestPair 217 = .ok (.iastore, 1) := dk_79 (dk_at dksX5_bestPair_9 7 rfl rfl)
theorem dX5_bestPair_218 : decode cX5_bestPair 218 = .ok (.iload 7, 2) := dk_21 7 (dk_at dksX5_bestPair_9 8 rfl rfl)
theorem dX5_bestPair_220 : decode cX5_bestPair 220 = .ok (.ireturn, 1) := dk_172 (dk_at dksX5_bestPair_9 10 rfl rfl)
abbrev cX5_stepCount : ByteArray := prog_17_method_103_code
def yX5_stepCount : MethodName := ⟨RX5, "stepCount", "(I)I"⟩
def dkwX5_stepCount_0 : List UInt8 := [42, 42, 27, 182, 0, 182, 4, 182, 0, 176, 153, 0, 7, 3, 167, 0, 8, 42, 27, 182, 1, 78, 172]
abbrev dktX5_stepCount_0 : List UInt8 := dkwX5_stepCount_0 ++ []
theorem dksX5_stepCount_0 : cX5_stepCount.data.toList.drop 0 = dktX5_stepCount_0 := by decide +kernel
theorem dX5_stepCount_0 : decode cX5_stepCount 0 = .ok (.aload_n 0, 1) := dk_42 (dk_at dksX5_stepCount_0 0 rfl rfl)
theorem dX5_stepCount_1 : decode cX5_stepCount 1 = .ok (.aload_n 0, 1) := dk_42 (dk_at dksX5_stepCount_0 1 rfl rfl)
theorem dX5_stepCount_2 : decode cX5_stepCount 2 = .ok (.iload_n 1, 1) := dk_27 (dk_at dksX5_stepCount_0 2 rfl rfl)
theorem dX5_stepCount_3 : decode cX5_stepCount 3 = .ok (.invokevirtual 182, 3) := dk_182 0 182 (dk_at dksX5_stepCount_0 3 rfl rfl)
theorem dX5_stepCount_6 : decode cX5_stepCount 6 = .ok (.iconst 1, 1) := dk_4 (dk_at dksX5_stepCount_0 6 rfl rfl)
theorem dX5_stepCount_7 : decode cX5_stepCount 7 = .ok (.invokevirtual 176, 3) := dk_182 0 176 (dk_at dksX5_stepCount_0 7 rfl rfl)
theorem dX5_stepCount_10 : decode cX5_stepCount 10 = .ok (.ifCond .eq 7, 3) := dk_153 0 7 (dk_at dksX5_stepCount_0 10 rfl rfl)
theorem dX5_stepCount_13 : decode cX5_stepCount 13 = .ok (.iconst 0, 1) := dk_3 (dk_at dksX5_stepCount_0 13 rfl rfl)
theorem dX5_stepCount_14 : decode cX5_stepCount 14 = .ok (.goto 8, 3) := dk_167 0 8 (dk_at dksX5_stepCount_0 14 rfl rfl)
theorem dX5_stepCount_17 : decode cX5_stepCount 17 = .ok (.aload_n 0, 1) := dk_42 (dk_at dksX5_stepCount_0 17 rfl rfl)
theorem dX5_stepCount_18 : decode cX5_stepCount 18 = .ok (.iload_n 1, 1) := dk_27 (dk_at dksX5_stepCount_0 18 rfl rfl)
theorem dX5_stepCount_19 : decode cX5_stepCount 19 = .ok (.invokevirtual 334, 3) := dk_182 1 78 (dk_at dksX5_stepCount_0 19 rfl rfl)
theorem dX5_stepCount_22 : decode cX5_stepCount 22 = .ok (.ireturn, 1) := dk_172 (dk_at dksX5_stepCount_0 22 rfl rfl)
abbrev cX5_laysSteps : ByteArray := prog_17_method_102_code
def yX5_laysSteps : MethodName := ⟨RX5, "laysSteps", "(I)I"⟩
def dkwX5_laysSteps_2 : List UInt8 := [167, 255, 216, 42, 180, 1, 59, 172]
abbrev dktX5_laysSteps_2 : List UInt8 := dkwX5_laysSteps_2 ++ []
def dkwX5_laysSteps_1 : List UInt8 := [29, 2, 159, 0, 18, 29, 42, 27, 6, 182, 0, 180, 162, 0, 8, 42, 29, 182, 1, 62, 132, 2, 1]
abbrev dktX5_laysSteps_1 : List UInt8 := dkwX5_laysSteps_1 ++ dktX5_laysSteps_2
def dkwX5_laysSteps_0 : List UInt8 := [42, 3, 181, 1, 59, 3, 61, 28, 42, 180, 0, 11, 5, 46, 162, 0, 36, 42, 28, 27, 182, 1, 53, 62]
abbrev dktX5_laysSteps_0 : List UInt8 := dkwX5_laysSteps_0 ++ dktX5_laysSteps_1
theorem dksX5_laysSteps_0 : cX5_laysSteps.data.toList.drop 0 = dktX5_laysSteps_0 := by decide +kernel
theorem dksX5_laysSteps_1 : cX5_laysSteps.data.toList.drop 24 = dktX5_laysSteps_1 := dk_seg dksX5_laysSteps_0 24 rfl rfl
theorem dksX5_laysSteps_2 : cX5_laysSteps.data.toList.drop 47 = dktX5_laysSteps_2 := dk_seg dksX5_laysSteps_1 23 rfl rfl
theorem dX5_laysSteps_0 : decode cX5_laysSteps 0 = .ok (.aload_n 0, 1) := dk_42 (dk_at dksX5_laysSteps_0 0 rfl rfl)
theorem dX5_laysSteps_1 : decode cX5_laysSteps 1 = .ok (.iconst 0, 1) := dk_3 (dk_at dksX5_laysSteps_0 1 rfl rfl)
theorem dX5_laysSteps_2 : decode cX5_laysSteps 2 = .ok (.putfield 315, 3) := dk_181 1 59 (dk_at dksX5_laysSteps_0 2 rfl rfl)
theorem dX5_laysSteps_5 : decode cX5_laysSteps 5 = .ok (.iconst 0, 1) := dk_3 (dk_at dksX5_laysSteps_0 5 rfl rfl)
theorem dX5_laysSteps_6 : decode cX5_laysSteps 6 = .ok (.istore_n 2, 1) := dk_61 (dk_at dksX5_laysSteps_0 6 rfl rfl)
theorem dX5_laysSteps_7 : decode cX5_laysSteps 7 = .ok (.iload_n 2, 1) := dk_28 (dk_at dksX5_laysSteps_0 7 rfl rfl)
theorem dX5_laysSteps_8 : decode cX5_laysSteps 8 = .ok (.aload_n 0, 1) := dk_42 (dk_at dksX5_laysSteps_0 8 rfl rfl)
theorem dX5_laysSteps_9 : decode cX5_laysSteps 9 = .ok (.getfield 11, 3) := dk_180 0 11 (dk_at dksX5_laysSteps_0 9 rfl rfl)
theorem dX5_laysSteps_12 : decode cX5_laysSteps 12 = .ok (.iconst 2, 1) := dk_5 (dk_at dksX5_laysSteps_0 12 rfl rfl)
theorem dX5_laysSteps_13 : decode cX5_laysSteps 13 = .ok (.iaload, 1) := dk_46 (dk_at dksX5_laysSteps_0 13 rfl rfl)
theorem dX5_laysSteps_14 : decode cX5_laysSteps 14 = .ok (.if_icmp .ge 36, 3) := dk_162 0 36 (dk_at dksX5_laysSteps_0 14 rfl rfl)
theorem dX5_laysSteps_17 : decode cX5_laysSteps 17 = .ok (.aload_n 0, 1) := dk_42 (dk_at dksX5_laysSteps_0 17 rfl rfl)
theorem dX5_laysSteps_18 : decode cX5_laysSteps 18 = .ok (.iload_n 2, 1) := dk_28 (dk_at dksX5_laysSteps_0 18 rfl rfl)
theorem dX5_laysSteps_19 : decode cX5_laysSteps 19 = .ok (.iload_n 1, 1) := dk_27 (dk_at dksX5_laysSteps_0 19 rfl rfl)
theorem dX5_laysSteps_20 : decode cX5_laysSteps 20 = .ok (.invokevirtual 309, 3) := dk_182 1 53 (dk_at dksX5_laysSteps_0 20 rfl rfl)
theorem dX5_laysSteps_23 : decode cX5_laysSteps 23 = .ok (.istore_n 3, 1) := dk_62 (dk_at dksX5_laysSteps_0 23 rfl rfl)
theorem dX5_laysSteps_24 : decode cX5_laysSteps 24 = .ok (.iload_n 3, 1) := dk_29 (dk_at dksX5_laysSteps_1 0 rfl rfl)
theorem dX5_laysSteps_25 : decode cX5_laysSteps 25 = .ok (.iconst (-1), 1) := dk_2 (dk_at dksX5_laysSteps_1 1 rfl rfl)
theorem dX5_laysSteps_26 : decode cX5_laysSteps 26 = .ok (.if_icmp .eq 18, 3) := dk_159 0 18 (dk_at dksX5_laysSteps_1 2 rfl rfl)
theorem dX5_laysSteps_29 : decode cX5_laysSteps 29 = .ok (.iload_n 3, 1) := dk_29 (dk_at dksX5_laysSteps_1 5 rfl rfl)
theorem dX5_laysSteps_30 : decode cX5_laysSteps 30 = .ok (.aload_n 0, 1) := dk_42 (dk_at dksX5_laysSteps_1 6 rfl rfl)
theorem dX5_laysSteps_31 : decode cX5_laysSteps 31 = .ok (.iload_n 1, 1) := dk_27 (dk_at dksX5_laysSteps_1 7 rfl rfl)
theorem dX5_laysSteps_32 : decode cX5_laysSteps 32 = .ok (.iconst 3, 1) := dk_6 (dk_at dksX5_laysSteps_1 8 rfl rfl)
theorem dX5_laysSteps_33 : decode cX5_laysSteps 33 = .ok (.invokevirtual 180, 3) := dk_182 0 180 (dk_at dksX5_laysSteps_1 9 rfl rfl)
theorem dX5_laysSteps_36 : decode cX5_laysSteps 36 = .ok (.if_icmp .ge 8, 3) := dk_162 0 8 (dk_at dksX5_laysSteps_1 12 rfl rfl)
theorem dX5_laysSteps_39 : decode cX5_laysSteps 39 = .ok (.aload_n 0, 1) := dk_42 (dk_at dksX5_laysSteps_1 15 rfl rfl)
theorem dX5_laysSteps_40 : decode cX5_laysSteps 40 = .ok (.iload_n 3, 1) := dk_29 (dk_at dksX5_laysSteps_1 16 rfl rfl)
theorem dX5_laysSteps_41 : decode cX5_laysSteps 41 = .ok (.invokevirtual 318, 3) := dk_182 1 62 (dk_at dksX5_laysSteps_1 17 rfl rfl)
theorem dX5_laysSteps_44 : decode cX5_laysSteps 44 = .ok (.iinc 2 1, 3) := dk_132 2 1 (dk_at dksX5_laysSteps_1 20 rfl rfl)
theorem dX5_laysSteps_47 : decode cX5_laysSteps 47 = .ok (.goto (-40), 3) := dk_167 255 216 (dk_at dksX5_laysSteps_2 0 rfl rfl)
theorem dX5_laysSteps_50 : decode cX5_laysSteps 50 = .ok (.aload_n 0, 1) := dk_42 (dk_at dksX5_laysSteps_2 3 rfl rfl)
theorem dX5_laysSteps_51 : decode cX5_laysSteps 51 = .ok (.getfield 315, 3) := dk_180 1 59 (dk_at dksX5_laysSteps_2 4 rfl rfl)
theorem dX5_laysSteps_54 : decode cX5_laysSteps 54 = .ok (.ireturn, 1) := dk_172 (dk_at dksX5_laysSteps_2 7 rfl rfl)
abbrev cX5_step : ByteArray := prog_17_method_104_code
def yX5_step : MethodName := ⟨RX5, "step", "(II)I"⟩
def dkwX5_step_1 : List UInt8 := [184, 0, 81, 153, 0, 12, 42, 180, 0, 61, 28, 46, 167, 0, 4, 2, 172]
abbrev dktX5_step_1 : List UInt8 := dkwX5_step_1 ++ []
def dkwX5_step_0 : List UInt8 := [42, 42, 27, 182, 0, 182, 4, 182, 0, 176, 153, 0, 5, 3, 172, 28, 3, 42, 27, 182, 1, 78, 4, 100]
abbrev dktX5_step_0 : List UInt8 := dkwX5_step_0 ++ dktX5_step_1
theorem dksX5_step_0 : cX5_step.data.toList.drop 0 = dktX5_step_0 := by decide +kernel
theorem dksX5_step_1 : cX5_step.data.toList.drop 24 = dktX5_step_1 := dk_seg dksX5_step_0 24 rfl rfl
theorem dX5_step_0 : decode cX5_step 0 = .ok (.aload_n 0, 1) := dk_42 (dk_at dksX5_step_0 0 rfl rfl)
theorem dX5_step_1 : decode cX5_step 1 = .ok (.aload_n 0, 1) := dk_42 (dk_at dksX5_step_0 1 rfl rfl)
theorem dX5_step_2 : decode cX5_step 2 = .ok (.iload_n 1, 1) := dk_27 (dk_at dksX5_step_0 2 rfl rfl)
theorem dX5_step_3 : decode cX5_step 3 = .ok (.invokevirtual 182, 3) := dk_182 0 182 (dk_at dksX5_step_0 3 rfl rfl)
theorem dX5_step_6 : decode cX5_step 6 = .ok (.iconst 1, 1) := dk_4 (dk_at dksX5_step_0 6 rfl rfl)
theorem dX5_step_7 : decode cX5_step 7 = .ok (.invokevirtual 176, 3) := dk_182 0 176 (dk_at dksX5_step_0 7 rfl rfl)
theorem dX5_step_10 : decode cX5_step 10 = .ok (.ifCond .eq 5, 3) := dk_153 0 5 (dk_at dksX5_step_0 10 rfl rfl)
theorem dX5_step_13 : decode cX5_step 13 = .ok (.iconst 0, 1) := dk_3 (dk_at dksX5_step_0 13 rfl rfl)
theorem dX5_step_14 : decode cX5_step 14 = .ok (.ireturn, 1) := dk_172 (dk_at dksX5_step_0 14 rfl rfl)
theorem dX5_step_15 : decode cX5_step 15 = .ok (.iload_n 2, 1) := dk_28 (dk_at dksX5_step_0 15 rfl rfl)
theorem dX5_step_16 : decode cX5_step 16 = .ok (.iconst 0, 1) := dk_3 (dk_at dksX5_step_0 16 rfl rfl)
theorem dX5_step_17 : decode cX5_step 17 = .ok (.aload_n 0, 1) := dk_42 (dk_at dksX5_step_0 17 rfl rfl)
theorem dX5_step_18 : decode cX5_step 18 = .ok (.iload_n 1, 1) := dk_27 (dk_at dksX5_step_0 18 rfl rfl)
theorem dX5_step_19 : decode cX5_step 19 = .ok (.invokevirtual 334, 3) := dk_182 1 78 (dk_at dksX5_step_0 19 rfl rfl)
theorem dX5_step_22 : decode cX5_step 22 = .ok (.iconst 1, 1) := dk_4 (dk_at dksX5_step_0 22 rfl rfl)
theorem dX5_step_23 : decode cX5_step 23 = .ok (.isub, 1) := dk_100 (dk_at dksX5_step_0 23 rfl rfl)
theorem dX5_step_24 : decode cX5_step 24 = .ok (.invokestatic 81, 3) := dk_184 0 81 (dk_at dksX5_step_1 0 rfl rfl)
theorem dX5_step_27 : decode cX5_step 27 = .ok (.ifCond .eq 12, 3) := dk_153 0 12 (dk_at dksX5_step_1 3 rfl rfl)
theorem dX5_step_30 : decode cX5_step 30 = .ok (.aload_n 0, 1) := dk_42 (dk_at dksX5_step_1 6 rfl rfl)
theorem dX5_step_31 : decode cX5_step 31 = .ok (.getfield 61, 3) := dk_180 0 61 (dk_at dksX5_step_1 7 rfl rfl)
theorem dX5_step_34 : decode cX5_step 34 = .ok (.iload_n 2, 1) := dk_28 (dk_at dksX5_step_1 10 rfl rfl)
theorem dX5_step_35 : decode cX5_step 35 = .ok (.iaload, 1) := dk_46 (dk_at dksX5_step_1 11 rfl rfl)
theorem dX5_step_36 : decode cX5_step 36 = .ok (.goto 4, 3) := dk_167 0 4 (dk_at dksX5_step_1 12 rfl rfl)
theorem dX5_step_39 : decode cX5_step 39 = .ok (.iconst (-1), 1) := dk_2 (dk_at dksX5_step_1 15 rfl rfl)
theorem dX5_step_40 : decode cX5_step 40 = .ok (.ireturn, 1) := dk_172 (dk_at dksX5_step_1 16 rfl rfl)
abbrev cX5_detour : ByteArray := prog_17_method_105_code
def yX5_detour : MethodName := ⟨RX5, "detour", "(II)I"⟩
def dkwX5_detour_3 : List UInt8 := [54, 4, 42, 2, 181, 0, 40, 21, 4, 2, 160, 0, 7, 2, 167, 0, 7, 21, 4, 29, 100, 172]
abbrev dktX5_detour_3 : List UInt8 := dkwX5_detour_3 ++ []
def dkwX5_detour_2 : List UInt8 := [154, 0, 14, 29, 2, 160, 0, 7, 2, 167, 0, 4, 3, 172, 42, 28, 181, 0, 40, 42, 27, 182, 0, 255]
abbrev dktX5_detour_2 : List UInt8 := dkwX5_detour_2 ++ dktX5_detour_3
def dkwX5_detour_1 : List UInt8 := [182, 0, 176, 153, 0, 5, 3, 172, 42, 27, 182, 0, 255, 62, 29, 2, 159, 0, 11, 42, 28, 182, 1, 2]
abbrev dktX5_detour_1 : List UInt8 := dkwX5_detour_1 ++ dktX5_detour_2
def dkwX5_detour_0 : List UInt8 := [42, 42, 27, 182, 0, 186, 153, 0, 15, 42, 28, 182, 0, 182, 153, 0, 7, 4, 167, 0, 4, 3, 4]
abbrev dktX5_detour_0 : List UInt8 := dkwX5_detour_0 ++ dktX5_detour_1
theorem dksX5_detour_0 : cX5_detour.data.toList.drop 0 = dktX5_detour_0 := by decide +kernel
theorem dksX5_detour_1 : cX5_detour.data.toList.drop 23 = dktX5_detour_1 := dk_seg dksX5_detour_0 23 rfl rfl
theorem dksX5_detour_2 : cX5_detour.data.toList.drop 47 = dktX5_detour_2 := dk_seg dksX5_detour_1 24 rfl rfl
theorem dksX5_detour_3 : cX5_detour.data.toList.drop 71 = dktX5_detour_3 := dk_seg dksX5_detour_2 24 rfl rfl
theorem dX5_detour_0 : decode cX5_detour 0 = .ok (.aload_n 0, 1) := dk_42 (dk_at dksX5_detour_0 0 rfl rfl)
theorem dX5_detour_1 : decode cX5_detour 1 = .ok (.aload_n 0, 1) := dk_42 (dk_at dksX5_detour_0 1 rfl rfl)
theorem dX5_detour_2 : decode cX5_detour 2 = .ok (.iload_n 1, 1) := dk_27 (dk_at dksX5_detour_0 2 rfl rfl)
theorem dX5_detour_3 : decode cX5_detour 3 = .ok (.invokevirtual 186, 3) := dk_182 0 186 (dk_at dksX5_detour_0 3 rfl rfl)
theorem dX5_detour_6 : decode cX5_detour 6 = .ok (.ifCond .eq 15, 3) := dk_153 0 15 (dk_at dksX5_detour_0 6 rfl rfl)
theorem dX5_detour_9 : decode cX5_detour 9 = .ok (.aload_n 0, 1) := dk_42 (dk_at dksX5_detour_0 9 rfl rfl)
theorem dX5_detour_10 : decode cX5_detour 10 = .ok (.iload_n 2, 1) := dk_28 (dk_at dksX5_detour_0 10 rfl rfl)
theorem dX5_detour_11 : decode cX5_detour 11 = .ok (.invokevirtual 182, 3) := dk_182 0 182 (dk_at dksX5_detour_0 11 rfl rfl)
theorem dX5_detour_14 : decode cX5_detour 14 = .ok (.ifCond .eq 7, 3) := dk_153 0 7 (dk_at dksX5_detour_0 14 rfl rfl)
theorem dX5_detour_17 : decode cX5_detour 17 = .ok (.iconst 1, 1) := dk_4 (dk_at dksX5_detour_0 17 rfl rfl)
theorem dX5_detour_18 : decode cX5_detour 18 = .ok (.goto 4, 3) := dk_167 0 4 (dk_at dksX5_detour_0 18 rfl rfl)
theorem dX5_detour_21 : decode cX5_detour 21 = .ok (.iconst 0, 1) := dk_3 (dk_at dksX5_detour_0 21 rfl rfl)
theorem dX5_detour_22 : decode cX5_detour 22 = .ok (.iconst 1, 1) := dk_4 (dk_at dksX5_detour_0 22 rfl rfl)
theorem dX5_detour_23 : decode cX5_detour 23 = .ok (.invokevirtual 176, 3) := dk_182 0 176 (dk_at dksX5_detour_1 0 rfl rfl)
theorem dX5_detour_26 : decode cX5_detour 26 = .ok (.ifCond .eq 5, 3) := dk_153 0 5 (dk_at dksX5_detour_1 3 rfl rfl)
theorem dX5_detour_29 : decode cX5_detour 29 = .ok (.iconst 0, 1) := dk_3 (dk_at dksX5_detour_1 6 rfl rfl)
theorem dX5_detour_30 : decode cX5_detour 30 = .ok (.ireturn, 1) := dk_172 (dk_at dksX5_detour_1 7 rfl rfl)
theorem dX5_detour_31 : decode cX5_detour 31 = .ok (.aload_n 0, 1) := dk_42 (dk_at dksX5_detour_1 8 rfl rfl)
theorem dX5_detour_32 : decode cX5_detour 32 = .ok (.iload_n 1, 1) := dk_27 (dk_at dksX5_detour_1 9 rfl rfl)
theorem dX5_detour_33 : decode cX5_detour 33 = .ok (.invokevirtual 255, 3) := dk_182 0 255 (dk_at dksX5_detour_1 10 rfl rfl)
theorem dX5_detour_36 : decode cX5_detour 36 = .ok (.istore_n 3, 1) := dk_62 (dk_at dksX5_detour_1 13 rfl rfl)
theorem dX5_detour_37 : decode cX5_detour 37 = .ok (.iload_n 3, 1) := dk_29 (dk_at dksX5_detour_1 14 rfl rfl)
theorem dX5_detour_38 : decode cX5_detour 38 = .ok (.iconst (-1), 1) := dk_2 (dk_at dksX5_detour_1 15 rfl rfl)
theorem dX5_detour_39 : decode cX5_detour 39 = .ok (.if_icmp .eq 11, 3) := dk_159 0 11 (dk_at dksX5_detour_1 16 rfl rfl)
theorem dX5_detour_42 : decode cX5_detour 42 = .ok (.aload_n 0, 1) := dk_42 (dk_at dksX5_detour_1 19 rfl rfl)
theorem dX5_detour_43 : decode cX5_detour 43 = .ok (.iload_n 2, 1) := dk_28 (dk_at dksX5_detour_1 20 rfl rfl)
theorem dX5_detour_44 : decode cX5_detour 44 = .ok (.invokevirtual 258, 3) := dk_182 1 2 (dk_at dksX5_detour_1 21 rfl rfl)
theorem dX5_detour_47 : decode cX5_detour 47 = .ok (.ifCond .ne 14, 3) := dk_154 0 14 (dk_at dksX5_detour_2 0 rfl rfl)
theorem dX5_detour_50 : decode cX5_detour 50 = .ok (.iload_n 3, 1) := dk_29 (dk_at dksX5_detour_2 3 rfl rfl)
theorem dX5_detour_51 : decode cX5_detour 51 = .ok (.iconst (-1), 1) := dk_2 (dk_at dksX5_detour_2 4 rfl rfl)
theorem dX5_detour_52 : decode cX5_detour 52 = .ok (.if_icmp .ne 7, 3) := dk_160 0 7 (dk_at dksX5_detour_2 5 rfl rfl)
theorem dX5_detour_55 : decode cX5_detour 55 = .ok (.iconst (-1), 1) := dk_2 (dk_at dksX5_detour_2 8 rfl rfl)
theorem dX5_detour_56 : decode cX5_detour 56 = .ok (.goto 4, 3) := dk_167 0 4 (dk_at dksX5_detour_2 9 rfl rfl)
theorem dX5_detour_59 : decode cX5_detour 59 = .ok (.iconst 0, 1) := dk_3 (dk_at dksX5_detour_2 12 rfl rfl)
theorem dX5_detour_60 : decode cX5_detour 60 = .ok (.ireturn, 1) := dk_172 (dk_at dksX5_detour_2 13 rfl rfl)
theorem dX5_detour_61 : decode cX5_detour 61 = .ok (.aload_n 0, 1) := dk_42 (dk_at dksX5_detour_2 14 rfl rfl)
theorem dX5_detour_62 : decode cX5_detour 62 = .ok (.iload_n 2, 1) := dk_28 (dk_at dksX5_detour_2 15 rfl rfl)
theorem dX5_detour_63 : decode cX5_detour 63 = .ok (.putfield 40, 3) := dk_181 0 40 (dk_at dksX5_detour_2 16 rfl rfl)
theorem dX5_detour_66 : decode cX5_detour 66 = .ok (.aload_n 0, 1) := dk_42 (dk_at dksX5_detour_2 19 rfl rfl)
theorem dX5_detour_67 : decode cX5_detour 67 = .ok (.iload_n 1, 1) := dk_27 (dk_at dksX5_detour_2 20 rfl rfl)
theorem dX5_detour_68 : decode cX5_detour 68 = .ok (.invokevirtual 255, 3) := dk_182 0 255 (dk_at dksX5_detour_2 21 rfl rfl)
theorem dX5_detour_71 : decode cX5_detour 71 = .ok (.istore 4, 2) := dk_54 4 (dk_at dksX5_detour_3 0 rfl rfl)
theorem dX5_detour_73 : decode cX5_detour 73 = .ok (.aload_n 0, 1) := dk_42 (dk_at dksX5_detour_3 2 rfl rfl)
theorem dX5_detour_74 : decode cX5_detour 74 = .ok (.iconst (-1), 1) := dk_2 (dk_at dksX5_detour_3 3 rfl rfl)
theorem dX5_detour_75 : decode cX5_detour 75 = .ok (.putfield 40, 3) := dk_181 0 40 (dk_at dksX5_detour_3 4 rfl rfl)
theorem dX5_detour_78 : decode cX5_detour 78 = .ok (.iload 4, 2) := dk_21 4 (dk_at dksX5_detour_3 7 rfl rfl)
theorem dX5_detour_80 : decode cX5_detour 80 = .ok (.iconst (-1), 1) := dk_2 (dk_at dksX5_detour_3 9 rfl rfl)
theorem dX5_detour_81 : decode cX5_detour 81 = .ok (.if_icmp .ne 7, 3) := dk_160 0 7 (dk_at dksX5_detour_3 10 rfl rfl)
theorem dX5_detour_84 : decode cX5_detour 84 = .ok (.iconst (-1), 1) := dk_2 (dk_at dksX5_detour_3 13 rfl rfl)
theorem dX5_detour_85 : decode cX5_detour 85 = .ok (.goto 7, 3) := dk_167 0 7 (dk_at dksX5_detour_3 14 rfl rfl)
theorem dX5_detour_88 : decode cX5_detour 88 = .ok (.iload 4, 2) := dk_21 4 (dk_at dksX5_detour_3 17 rfl rfl)
theorem dX5_detour_90 : decode cX5_detour 90 = .ok (.iload_n 3, 1) := dk_29 (dk_at dksX5_detour_3 19 rfl rfl)
theorem dX5_detour_91 : decode cX5_detour 91 = .ok (.isub, 1) := dk_100 (dk_at dksX5_detour_3 20 rfl rfl)
theorem dX5_detour_92 : decode cX5_detour 92 = .ok (.ireturn, 1) := dk_172 (dk_at dksX5_detour_3 21 rfl rfl)
abbrev cX5_captives : ByteArray := prog_17_method_106_code
def yX5_captives : MethodName := ⟨RX5, "captives", "(I)I"⟩
def dkwX5_captives_3 : List UInt8 := [167, 255, 203, 28, 172]
abbrev dktX5_captives_3 : List UInt8 := dkwX5_captives_3 ++ []
def dkwX5_captives_2 : List UInt8 := [29, 182, 0, 249, 154, 0, 9, 4, 29, 120, 167, 0, 4, 3, 128, 61, 42, 2, 181, 0, 40, 132, 3, 1]
abbrev dktX5_captives_2 : List UInt8 := dkwX5_captives_2 ++ dktX5_captives_3
def dkwX5_captives_1 : List UInt8 := [5, 46, 162, 0, 49, 42, 29, 182, 0, 249, 54, 4, 42, 27, 181, 0, 40, 28, 21, 4, 153, 0, 17, 42]
abbrev dktX5_captives_1 : List UInt8 := dkwX5_captives_1 ++ dktX5_captives_2
def dkwX5_captives_0 : List UInt8 := [42, 42, 27, 182, 0, 182, 4, 182, 0, 176, 153, 0, 5, 3, 172, 3, 61, 3, 62, 29, 42, 180, 0, 11]
abbrev dktX5_captives_0 : List UInt8 := dkwX5_captives_0 ++ dktX5_captives_1
theorem dksX5_captives_0 : cX5_captives.data.toList.drop 0 = dktX5_captives_0 := by decide +kernel
theorem dksX5_captives_1 : cX5_captives.data.toList.drop 24 = dktX5_captives_1 := dk_seg dksX5_captives_0 24 rfl rfl
theorem dksX5_captives_2 : cX5_captives.data.toList.drop 48 = dktX5_captives_2 := dk_seg dksX5_captives_1 24 rfl rfl
theorem dksX5_captives_3 : cX5_captives.data.toList.drop 72 = dktX5_captives_3 := dk_seg dksX5_captives_2 24 rfl rfl
theorem dX5_captives_0 : decode cX5_captives 0 = .ok (.aload_n 0, 1) := dk_42 (dk_at dksX5_captives_0 0 rfl rfl)
theorem dX5_captives_1 : decode cX5_captives 1 = .ok (.aload_n 0, 1) := dk_42 (dk_at dksX5_captives_0 1 rfl rfl)
theorem dX5_captives_2 : decode cX5_captives 2 = .ok (.iload_n 1, 1) := dk_27 (dk_at dksX5_captives_0 2 rfl rfl)
theorem dX5_captives_3 : decode cX5_captives 3 = .ok (.invokevirtual 182, 3) := dk_182 0 182 (dk_at dksX5_captives_0 3 rfl rfl)
theorem dX5_captives_6 : decode cX5_captives 6 = .ok (.iconst 1, 1) := dk_4 (dk_at dksX5_captives_0 6 rfl rfl)
theorem dX5_captives_7 : decode cX5_captives 7 = .ok (.invokevirtual 176, 3) := dk_182 0 176 (dk_at dksX5_captives_0 7 rfl rfl)
theorem dX5_captives_10 : decode cX5_captives 10 = .ok (.ifCond .eq 5, 3) := dk_153 0 5 (dk_at dksX5_captives_0 10 rfl rfl)
theorem dX5_captives_13 : decode cX5_captives 13 = .ok (.iconst 0, 1) := dk_3 (dk_at dksX5_captives_0 13 rfl rfl)
theorem dX5_captives_14 : decode cX5_captives 14 = .ok (.ireturn, 1) := dk_172 (dk_at dksX5_captives_0 14 rfl rfl)
theorem dX5_captives_15 : decode cX5_captives 15 = .ok (.iconst 0, 1) := dk_3 (dk_at dksX5_captives_0 15 rfl rfl)
theorem dX5_captives_16 : decode cX5_captives 16 = .ok (.istore_n 2, 1) := dk_61 (dk_at dksX5_captives_0 16 rfl rfl)
theorem dX5_captives_17 : decode cX5_captives 17 = .ok (.iconst 0, 1) := dk_3 (dk_at dksX5_captives_0 17 rfl rfl)
theorem dX5_captives_18 : decode cX5_captives 18 = .ok (.istore_n 3, 1) := dk_62 (dk_at dksX5_captives_0 18 rfl rfl)
theorem dX5_captives_19 : decode cX5_captives 19 = .ok (.iload_n 3, 1) := dk_29 (dk_at dksX5_captives_0 19 rfl rfl)
theorem dX5_captives_20 : decode cX5_captives 20 = .ok (.aload_n 0, 1) := dk_42 (dk_at dksX5_captives_0 20 rfl rfl)
theorem dX5_captives_21 : decode cX5_captives 21 = .ok (.getfield 11, 3) := dk_180 0 11 (dk_at dksX5_captives_0 21 rfl rfl)
theorem dX5_captives_24 : decode cX5_captives 24 = .ok (.iconst 2, 1) := dk_5 (dk_at dksX5_captives_1 0 rfl rfl)
theorem dX5_captives_25 : decode cX5_captives 25 = .ok (.iaload, 1) := dk_46 (dk_at dksX5_captives_1 1 rfl rfl)
theorem dX5_captives_26 : decode cX5_captives 26 = .ok (.if_icmp .ge 49, 3) := dk_162 0 49 (dk_at dksX5_captives_1 2 rfl rfl)
theorem dX5_captives_29 : decode cX5_captives 29 = .ok (.aload_n 0, 1) := dk_42 (dk_at dksX5_captives_1 5 rfl rfl)
theorem dX5_captives_30 : decode cX5_captives 30 = .ok (.iload_n 3, 1) := dk_29 (dk_at dksX5_captives_1 6 rfl rfl)
theorem dX5_captives_31 : decode cX5_captives 31 = .ok (.invokevirtual 249, 3) := dk_182 0 249 (dk_at dksX5_captives_1 7 rfl rfl)
theorem dX5_captives_34 : decode cX5_captives 34 = .ok (.istore 4, 2) := dk_54 4 (dk_at dksX5_captives_1 10 rfl rfl)
theorem dX5_captives_36 : decode cX5_captives 36 = .ok (.aload_n 0, 1) := dk_42 (dk_at dksX5_captives_1 12 rfl rfl)
theorem dX5_captives_37 : decode cX5_captives 37 = .ok (.iload_n 1, 1) := dk_27 (dk_at dksX5_captives_1 13 rfl rfl)
theorem dX5_captives_38 : decode cX5_captives 38 = .ok (.putfield 40, 3) := dk_181 0 40 (dk_at dksX5_captives_1 14 rfl rfl)
theorem dX5_captives_41 : decode cX5_captives 41 = .ok (.iload_n 2, 1) := dk_28 (dk_at dksX5_captives_1 17 rfl rfl)
theorem dX5_captives_42 : decode cX5_captives 42 = .ok (.iload 4, 2) := dk_21 4 (dk_at dksX5_captives_1 18 rfl rfl)
theorem dX5_captives_44 : decode cX5_captives 44 = .ok (.ifCond .eq 17, 3) := dk_153 0 17 (dk_at dksX5_captives_1 20 rfl rfl)
theorem dX5_captives_47 : decode cX5_captives 47 = .ok (.aload_n 0, 1) := dk_42 (dk_at dksX5_captives_1 23 rfl rfl)
theorem dX5_captives_48 : decode cX5_captives 48 = .ok (.iload_n 3, 1) := dk_29 (dk_at dksX5_captives_2 0 rfl rfl)
theorem dX5_captives_49 : decode cX5_captives 49 = .ok (.invokevirtual 249, 3) := dk_182 0 249 (dk_at dksX5_captives_2 1 rfl rfl)
theorem dX5_captives_52 : decode cX5_captives 52 = .ok (.ifCond .ne 9, 3) := dk_154 0 9 (dk_at dksX5_captives_2 4 rfl rfl)
theorem dX5_captives_55 : decode cX5_captives 55 = .ok (.iconst 1, 1) := dk_4 (dk_at dksX5_captives_2 7 rfl rfl)
theorem dX5_captives_56 : decode cX5_captives 56 = .ok (.iload_n 3, 1) := dk_29 (dk_at dksX5_captives_2 8 rfl rfl)
theorem dX5_captives_57 : decode cX5_captives 57 = .ok (.ishl, 1) := dk_120 (dk_at dksX5_captives_2 9 rfl rfl)
theorem dX5_captives_58 : decode cX5_captives 58 = .ok (.goto 4, 3) := dk_167 0 4 (dk_at dksX5_captives_2 10 rfl rfl)
theorem dX5_captives_61 : decode cX5_captives 61 = .ok (.iconst 0, 1) := dk_3 (dk_at dksX5_captives_2 13 rfl rfl)
theorem dX5_captives_62 : decode cX5_captives 62 = .ok (.ior, 1) := dk_128 (dk_at dksX5_captives_2 14 rfl rfl)
theorem dX5_captives_63 : decode cX5_captives 63 = .ok (.istore_n 2, 1) := dk_61 (dk_at dksX5_captives_2 15 rfl rfl)
theorem dX5_captives_64 : decode cX5_captives 64 = .ok (.aload_n 0, 1) := dk_42 (dk_at dksX5_captives_2 16 rfl rfl)
theorem dX5_captives_65 : decode cX5_captives 65 = .ok (.iconst (-1), 1) := dk_2 (dk_at dksX5_captives_2 17 rfl rfl)
theorem dX5_captives_66 : decode cX5_captives 66 = .ok (.putfield 40, 3) := dk_181 0 40 (dk_at dksX5_captives_2 18 rfl rfl)
theorem dX5_captives_69 : decode cX5_captives 69 = .ok (.iinc 3 1, 3) := dk_132 3 1 (dk_at dksX5_captives_2 21 rfl rfl)
theorem dX5_captives_72 : decode cX5_captives 72 = .ok (.goto (-53), 3) := dk_167 255 203 (dk_at dksX5_captives_3 0 rfl rfl)
theorem dX5_captives_75 : decode cX5_captives 75 = .ok (.iload_n 2, 1) := dk_28 (dk_at dksX5_captives_3 3 rfl rfl)
theorem dX5_captives_76 : decode cX5_captives 76 = .ok (.ireturn, 1) := dk_172 (dk_at dksX5_captives_3 4 rfl rfl)
abbrev cX5_worth : ByteArray := prog_17_method_107_code
def yX5_worth : MethodName := ⟨RX5, "worth", "(I)J"⟩
def dkwX5_worth_1 : List UInt8 := [181, 0, 40, 42, 182, 1, 35, 55, 4, 42, 2, 181, 0, 40, 32, 22, 4, 101, 173]
abbrev dktX5_worth_1 : List UInt8 := dkwX5_worth_1 ++ []
def dkwX5_worth_0 : List UInt8 := [42, 42, 27, 182, 0, 182, 4, 182, 0, 176, 153, 0, 5, 9, 173, 42, 182, 1, 35, 65, 42, 27]
abbrev dktX5_worth_0 : List UInt8 := dkwX5_worth_0 ++ dktX5_worth_1
theorem dksX5_worth_0 : cX5_worth.data.toList.drop 0 = dktX5_worth_0 := by decide +kernel
theorem dksX5_worth_1 : cX5_worth.data.toList.drop 22 = dktX5_worth_1 := dk_seg dksX5_worth_0 22 rfl rfl
theorem dX5_worth_0 : decode cX5_worth 0 = .ok (.aload_n 0, 1) := dk_42 (dk_at dksX5_worth_0 0 rfl rfl)
theorem dX5_worth_1 : decode cX5_worth 1 = .ok (.aload_n 0, 1) := dk_42 (dk_at dksX5_worth_0 1 rfl rfl)
theorem dX5_worth_2 : decode cX5_worth 2 = .ok (.iload_n 1, 1) := dk_27 (dk_at dksX5_worth_0 2 rfl rfl)
theorem dX5_worth_3 : decode cX5_worth 3 = .ok (.invokevirtual 182, 3) := dk_182 0 182 (dk_at dksX5_worth_0 3 rfl rfl)
theorem dX5_worth_6 : decode cX5_worth 6 = .ok (.iconst 1, 1) := dk_4 (dk_at dksX5_worth_0 6 rfl rfl)
theorem dX5_worth_7 : decode cX5_worth 7 = .ok (.invokevirtual 176, 3) := dk_182 0 176 (dk_at dksX5_worth_0 7 rfl rfl)
theorem dX5_worth_10 : decode cX5_worth 10 = .ok (.ifCond .eq 5, 3) := dk_153 0 5 (dk_at dksX5_worth_0 10 rfl rfl)
theorem dX5_worth_13 : decode cX5_worth 13 = .ok (.lconst 0, 1) := dk_9 (dk_at dksX5_worth_0 13 rfl rfl)
theorem dX5_worth_14 : decode cX5_worth 14 = .ok (.lreturn, 1) := dk_173 (dk_at dksX5_worth_0 14 rfl rfl)
theorem dX5_worth_15 : decode cX5_worth 15 = .ok (.aload_n 0, 1) := dk_42 (dk_at dksX5_worth_0 15 rfl rfl)
theorem dX5_worth_16 : decode cX5_worth 16 = .ok (.invokevirtual 291, 3) := dk_182 1 35 (dk_at dksX5_worth_0 16 rfl rfl)
theorem dX5_worth_19 : decode cX5_worth 19 = .ok (.lstore_n 2, 1) := dk_65 (dk_at dksX5_worth_0 19 rfl rfl)
theorem dX5_worth_20 : decode cX5_worth 20 = .ok (.aload_n 0, 1) := dk_42 (dk_at dksX5_worth_0 20 rfl rfl)
theorem dX5_worth_21 : decode cX5_worth 21 = .ok (.iload_n 1, 1) := dk_27 (dk_at dksX5_worth_0 21 rfl rfl)
theorem dX5_worth_22 : decode cX5_worth 22 = .ok (.putfield 40, 3) := dk_181 0 40 (dk_at dksX5_worth_1 0 rfl rfl)
theorem dX5_worth_25 : decode cX5_worth 25 = .ok (.aload_n 0, 1) := dk_42 (dk_at dksX5_worth_1 3 rfl rfl)
theorem dX5_worth_26 : decode cX5_worth 26 = .ok (.invokevirtual 291, 3) := dk_182 1 35 (dk_at dksX5_worth_1 4 rfl rfl)
theorem dX5_worth_29 : decode cX5_worth 29 = .ok (.lstore 4, 2) := dk_55 4 (dk_at dksX5_worth_1 7 rfl rfl)
theorem dX5_worth_31 : decode cX5_worth 31 = .ok (.aload_n 0, 1) := dk_42 (dk_at dksX5_worth_1 9 rfl rfl)
theorem dX5_worth_32 : decode cX5_worth 32 = .ok (.iconst (-1), 1) := dk_2 (dk_at dksX5_worth_1 10 rfl rfl)
theorem dX5_worth_33 : decode cX5_worth 33 = .ok (.putfield 40, 3) := dk_181 0 40 (dk_at dksX5_worth_1 11 rfl rfl)
theorem dX5_worth_36 : decode cX5_worth 36 = .ok (.lload_n 2, 1) := dk_32 (dk_at dksX5_worth_1 14 rfl rfl)
theorem dX5_worth_37 : decode cX5_worth 37 = .ok (.lload 4, 2) := dk_22 4 (dk_at dksX5_worth_1 15 rfl rfl)
theorem dX5_worth_39 : decode cX5_worth 39 = .ok (.lsub, 1) := dk_101 (dk_at dksX5_worth_1 17 rfl rfl)
theorem dX5_worth_40 : decode cX5_worth 40 = .ok (.lreturn, 1) := dk_173 (dk_at dksX5_worth_1 18 rfl rfl)
abbrev cX5_reachable : ByteArray := prog_17_method_108_code
def yX5_reachable : MethodName := ⟨RX5, "reachable", "(I)I"⟩
def dkwX5_reachable_4 : List UInt8 := [28, 21, 4, 159, 0, 7, 4, 167, 0, 4, 3, 62, 167, 255, 178, 28, 172]
abbrev dktX5_reachable_4 : List UInt8 := dkwX5_reachable_4 ++ []
def dkwX5_reachable_3 : List UInt8 := [153, 0, 15, 4, 42, 21, 5, 4, 182, 0, 180, 120, 167, 0, 4, 3, 128, 61, 132, 5, 1, 167, 255, 203]
abbrev dktX5_reachable_3 : List UInt8 := dkwX5_reachable_3 ++ dktX5_reachable_4
def dkwX5_reachable_2 : List UInt8 := [162, 0, 48, 28, 42, 21, 5, 182, 0, 225, 153, 0, 29, 28, 42, 21, 5, 3, 182, 0, 180, 184, 0, 206]
abbrev dktX5_reachable_2 : List UInt8 := dkwX5_reachable_2 ++ dktX5_reachable_3
def dkwX5_reachable_1 : List UInt8 := [27, 120, 61, 4, 62, 29, 153, 0, 80, 28, 54, 4, 3, 54, 5, 21, 5, 42, 180, 0, 11, 4, 46]
abbrev dktX5_reachable_1 : List UInt8 := dkwX5_reachable_1 ++ dktX5_reachable_2
def dkwX5_reachable_0 : List UInt8 := [42, 27, 3, 42, 180, 0, 11, 3, 46, 4, 100, 184, 0, 81, 4, 182, 0, 176, 153, 0, 5, 3, 172, 4]
abbrev dktX5_reachable_0 : List UInt8 := dkwX5_reachable_0 ++ dktX5_reachable_1
theorem dksX5_reachable_0 : cX5_reachable.data.toList.drop 0 = dktX5_reachable_0 := by decide +kernel
theorem dksX5_reachable_1 : cX5_reachable.data.toList.drop 24 = dktX5_reachable_1 := dk_seg dksX5_reachable_0 24 rfl rfl
theorem dksX5_reachable_2 : cX5_reachable.data.toList.drop 47 = dktX5_reachable_2 := dk_seg dksX5_reachable_1 23 rfl rfl
theorem dksX5_reachable_3 : cX5_reachable.data.toList.drop 71 = dktX5_reachable_3 := dk_seg dksX5_reachable_2 24 rfl rfl
theorem dksX5_reachable_4 : cX5_reachable.data.toList.drop 95 = dktX5_reachable_4 := dk_seg dksX5_reachable_3 24 rfl rfl
theorem dX5_reachable_0 : decode cX5_reachable 0 = .ok (.aload_n 0, 1) := dk_42 (dk_at dksX5_reachable_0 0 rfl rfl)
theorem dX5_reachable_1 : decode cX5_reachable 1 = .ok (.iload_n 1, 1) := dk_27 (dk_at dksX5_reachable_0 1 rfl rfl)
theorem dX5_reachable_2 : decode cX5_reachable 2 = .ok (.iconst 0, 1) := dk_3 (dk_at dksX5_reachable_0 2 rfl rfl)
theorem dX5_reachable_3 : decode cX5_reachable 3 = .ok (.aload_n 0, 1) := dk_42 (dk_at dksX5_reachable_0 3 rfl rfl)
theorem dX5_reachable_4 : decode cX5_reachable 4 = .ok (.getfield 11, 3) := dk_180 0 11 (dk_at dksX5_reachable_0 4 rfl rfl)
theorem dX5_reachable_7 : decode cX5_reachable 7 = .ok (.iconst 0, 1) := dk_3 (dk_at dksX5_reachable_0 7 rfl rfl)
theorem dX5_reachable_8 : decode cX5_reachable 8 = .ok (.iaload, 1) := dk_46 (dk_at dksX5_reachable_0 8 rfl rfl)
theorem dX5_reachable_9 : decode cX5_reachable 9 = .ok (.iconst 1, 1) := dk_4 (dk_at dksX5_reachable_0 9 rfl rfl)
theorem dX5_reachable_10 : decode cX5_reachable 10 = .ok (.isub, 1) := dk_100 (dk_at dksX5_reachable_0 10 rfl rfl)
theorem dX5_reachable_11 : decode cX5_reachable 11 = .ok (.invokestatic 81, 3) := dk_184 0 81 (dk_at dksX5_reachable_0 11 rfl rfl)
theorem dX5_reachable_14 : decode cX5_reachable 14 = .ok (.iconst 1, 1) := dk_4 (dk_at dksX5_reachable_0 14 rfl rfl)
theorem dX5_reachable_15 : decode cX5_reachable 15 = .ok (.invokevirtual 176, 3) := dk_182 0 176 (dk_at dksX5_reachable_0 15 rfl rfl)
theorem dX5_reachable_18 : decode cX5_reachable 18 = .ok (.ifCond .eq 5, 3) := dk_153 0 5 (dk_at dksX5_reachable_0 18 rfl rfl)
theorem dX5_reachable_21 : decode cX5_reachable 21 = .ok (.iconst 0, 1) := dk_3 (dk_at dksX5_reachable_0 21 rfl rfl)
theorem dX5_reachable_22 : decode cX5_reachable 22 = .ok (.ireturn, 1) := dk_172 (dk_at dksX5_reachable_0 22 rfl rfl)
theorem dX5_reachable_23 : decode cX5_reachable 23 = .ok (.iconst 1, 1) := dk_4 (dk_at dksX5_reachable_0 23 rfl rfl)
theorem dX5_reachable_24 : decode cX5_reachable 24 = .ok (.iload_n 1, 1) := dk_27 (dk_at dksX5_reachable_1 0 rfl rfl)
theorem dX5_reachable_25 : decode cX5_reachable 25 = .ok (.ishl, 1) := dk_120 (dk_at dksX5_reachable_1 1 rfl rfl)
theorem dX5_reachable_26 : decode cX5_reachable 26 = .ok (.istore_n 2, 1) := dk_61 (dk_at dksX5_reachable_1 2 rfl rfl)
theorem dX5_reachable_27 : decode cX5_reachable 27 = .ok (.iconst 1, 1) := dk_4 (dk_at dksX5_reachable_1 3 rfl rfl)
theorem dX5_reachable_28 : decode cX5_reachable 28 = .ok (.istore_n 3, 1) := dk_62 (dk_at dksX5_reachable_1 4 rfl rfl)
theorem dX5_reachable_29 : decode cX5_reachable 29 = .ok (.iload_n 3, 1) := dk_29 (dk_at dksX5_reachable_1 5 rfl rfl)
theorem dX5_reachable_30 : decode cX5_reachable 30 = .ok (.ifCond .eq 80, 3) := dk_153 0 80 (dk_at dksX5_reachable_1 6 rfl rfl)
theorem dX5_reachable_33 : decode cX5_reachable 33 = .ok (.iload_n 2, 1) := dk_28 (dk_at dksX5_reachable_1 9 rfl rfl)
theorem dX5_reachable_34 : decode cX5_reachable 34 = .ok (.istore 4, 2) := dk_54 4 (dk_at dksX5_reachable_1 10 rfl rfl)
theorem dX5_reachable_36 : decode cX5_reachable 36 = .ok (.iconst 0, 1) := dk_3 (dk_at dksX5_reachable_1 12 rfl rfl)
theorem dX5_reachable_37 : decode cX5_reachable 37 = .ok (.istore 5, 2) := dk_54 5 (dk_at dksX5_reachable_1 13 rfl rfl)
theorem dX5_reachable_39 : decode cX5_reachable 39 = .ok (.iload 5, 2) := dk_21 5 (dk_at dksX5_reachable_1 15 rfl rfl)
theorem dX5_reachable_41 : decode cX5_reachable 41 = .ok (.aload_n 0, 1) := dk_42 (dk_at dksX5_reachable_1 17 rfl rfl)
theorem dX5_reachable_42 : decode cX5_reachable 42 = .ok (.getfield 11, 3) := dk_180 0 11 (dk_at dksX5_reachable_1 18 rfl rfl)
theorem dX5_reachable_45 : decode cX5_reachable 45 = .ok (.iconst 1, 1) := dk_4 (dk_at dksX5_reachable_1 21 rfl rfl)
theorem dX5_reachable_46 : decode cX5_reachable 46 = .ok (.iaload, 1) := dk_46 (dk_at dksX5_reachable_1 22 rfl rfl)
theorem dX5_reachable_47 : decode cX5_reachable 47 = .ok (.if_icmp .ge 48, 3) := dk_162 0 48 (dk_at dksX5_reachable_2 0 rfl rfl)
theorem dX5_reachable_50 : decode cX5_reachable 50 = .ok (.iload_n 2, 1) := dk_28 (dk_at dksX5_reachable_2 3 rfl rfl)
theorem dX5_reachable_51 : decode cX5_reachable 51 = .ok (.aload_n 0, 1) := dk_42 (dk_at dksX5_reachable_2 4 rfl rfl)
theorem dX5_reachable_52 : decode cX5_reachable 52 = .ok (.iload 5, 2) := dk_21 5 (dk_at dksX5_reachable_2 5 rfl rfl)
theorem dX5_reachable_54 : decode cX5_reachable 54 = .ok (.invokevirtual 225, 3) := dk_182 0 225 (dk_at dksX5_reachable_2 7 rfl rfl)
theorem dX5_reachable_57 : decode cX5_reachable 57 = .ok (.ifCond .eq 29, 3) := dk_153 0 29 (dk_at dksX5_reachable_2 10 rfl rfl)
theorem dX5_reachable_60 : decode cX5_reachable 60 = .ok (.iload_n 2, 1) := dk_28 (dk_at dksX5_reachable_2 13 rfl rfl)
theorem dX5_reachable_61 : decode cX5_reachable 61 = .ok (.aload_n 0, 1) := dk_42 (dk_at dksX5_reachable_2 14 rfl rfl)
theorem dX5_reachable_62 : decode cX5_reachable 62 = .ok (.iload 5, 2) := dk_21 5 (dk_at dksX5_reachable_2 15 rfl rfl)
theorem dX5_reachable_64 : decode cX5_reachable 64 = .ok (.iconst 0, 1) := dk_3 (dk_at dksX5_reachable_2 17 rfl rfl)
theorem dX5_reachable_65 : decode cX5_reachable 65 = .ok (.invokevirtual 180, 3) := dk_182 0 180 (dk_at dksX5_reachable_2 18 rfl rfl)
theorem dX5_reachable_68 : decode cX5_reachable 68 = .ok (.invokestatic 206, 3) := dk_184 0 206 (dk_at dksX5_reachable_2 21 rfl rfl)
theorem dX5_reachable_71 : decode cX5_reachable 71 = .ok (.ifCond .eq 15, 3) := dk_153 0 15 (dk_at dksX5_reachable_3 0 rfl rfl)
theorem dX5_reachable_74 : decode cX5_reachable 74 = .ok (.iconst 1, 1) := dk_4 (dk_at dksX5_reachable_3 3 rfl rfl)
theorem dX5_reachable_75 : decode cX5_reachable 75 = .ok (.aload_n 0, 1) := dk_42 (dk_at dksX5_reachable_3 4 rfl rfl)
theorem dX5_reachable_76 : decode cX5_reachable 76 = .ok (.iload 5, 2) := dk_21 5 (dk_at dksX5_reachable_3 5 rfl rfl)
theorem dX5_reachable_78 : decode cX5_reachable 78 = .ok (.iconst 1, 1) := dk_4 (dk_at dksX5_reachable_3 7 rfl rfl)
theorem dX5_reachable_79 : decode cX5_reachable 79 = .ok (.invokevirtual 180, 3) := dk_182 0 180 (dk_at dksX5_reachable_3 8 rfl rfl)
theorem dX5_reachable_82 : decode cX5_reachable 82 = .ok (.ishl, 1) := dk_120 (dk_at dksX5_reachable_3 11 rfl rfl)
theorem dX5_reachable_83 : decode cX5_reachable 83 = .ok (.goto 4, 3) := dk_167 0 4 (dk_at dksX5_reachable_3 12 rfl rfl)
theorem dX5_reachable_86 : decode cX5_reachable 86 = .ok (.iconst 0, 1) := dk_3 (dk_at dksX5_reachable_3 15 rfl rfl)
theorem dX5_reachable_87 : decode cX5_reachable 87 = .ok (.ior, 1) := dk_128 (dk_at dksX5_reachable_3 16 rfl rfl)
theorem dX5_reachable_88 : decode cX5_reachable 88 = .ok (.istore_n 2, 1) := dk_61 (dk_at dksX5_reachable_3 17 rfl rfl)
theorem dX5_reachable_89 : decode cX5_reachable 89 = .ok (.iinc 5 1, 3) := dk_132 5 1 (dk_at dksX5_reachable_3 18 rfl rfl)
theorem dX5_reachable_92 : decode cX5_reachable 92 = .ok (.goto (-53), 3) := dk_167 255 203 (dk_at dksX5_reachable_3 21 rfl rfl)
theorem dX5_reachable_95 : decode cX5_reachable 95 = .ok (.iload_n 2, 1) := dk_28 (dk_at dksX5_reachable_4 0 rfl rfl)
theorem dX5_reachable_96 : decode cX5_reachable 96 = .ok (.iload 4, 2) := dk_21 4 (dk_at dksX5_reachable_4 1 rfl rfl)
theorem dX5_reachable_98 : decode cX5_reachable 98 = .ok (.if_icmp .eq 7, 3) := dk_159 0 7 (dk_at dksX5_reachable_4 3 rfl rfl)
theorem dX5_reachable_101 : decode cX5_reachable 101 = .ok (.iconst 1, 1) := dk_4 (dk_at dksX5_reachable_4 6 rfl rfl)
theorem dX5_reachable_102 : decode cX5_reachable 102 = .ok (.goto 4, 3) := dk_167 0 4 (dk_at dksX5_reachable_4 7 rfl rfl)
theorem dX5_reachable_105 : decode cX5_reachable 105 = .ok (.iconst 0, 1) := dk_3 (dk_at dksX5_reachable_4 10 rfl rfl)
theorem dX5_reachable_106 : decode cX5_reachable 106 = .ok (.istore_n 3, 1) := dk_62 (dk_at dksX5_reachable_4 11 rfl rfl)
theorem dX5_reachable_107 : decode cX5_reachable 107 = .ok (.goto (-78), 3) := dk_167 255 178 (dk_at dksX5_reachable_4 12 rfl rfl)
theorem dX5_reachable_110 : decode cX5_reachable 110 = .ok (.iload_n 2, 1) := dk_28 (dk_at dksX5_reachable_4 15 rfl rfl)
theorem dX5_reachable_111 : decode cX5_reachable 111 = .ok (.ireturn, 1) := dk_172 (dk_at dksX5_reachable_4 16 rfl rfl)
abbrev cX5_judge : ByteArray := prog_17_method_110_code
def yX5_judge : MethodName := ⟨RX5, "judge", "(I)I"⟩
def dkwX5_judge_1 : List UInt8 := [181, 0, 91, 28, 2, 160, 0, 8, 16, 252, 167, 0, 10, 28, 42, 27, 182, 0, 255, 100, 172]
abbrev dktX5_judge_1 : List UInt8 := dkwX5_judge_1 ++ []
def dkwX5_judge_0 : List UInt8 := [42, 42, 27, 182, 0, 186, 4, 182, 0, 176, 153, 0, 5, 3, 172, 42, 27, 182, 1, 81, 61, 42, 3]
abbrev dktX5_judge_0 : List UInt8 := dkwX5_judge_0 ++ dktX5_judge_1
theorem dksX5_judge_0 : cX5_judge.data.toList.drop 0 = dktX5_judge_0 := by decide +kernel
theorem dksX5_judge_1 : cX5_judge.data.toList.drop 23 = dktX5_judge_1 := dk_seg dksX5_judge_0 23 rfl rfl
theorem dX5_judge_0 : decode cX5_judge 0 = .ok (.aload_n 0, 1) := dk_42 (dk_at dksX5_judge_0 0 rfl rfl)
theorem dX5_judge_1 : decode cX5_judge 1 = .ok (.aload_n 0, 1) := dk_42 (dk_at dksX5_judge_0 1 rfl rfl)
theorem dX5_judge_2 : decode cX5_judge 2 = .ok (.iload_n 1, 1) := dk_27 (dk_at dksX5_judge_0 2 rfl rfl)
theorem dX5_judge_3 : decode cX5_judge 3 = .ok (.invokevirtual 186, 3) := dk_182 0 186 (dk_at dksX5_judge_0 3 rfl rfl)
theorem dX5_judge_6 : decode cX5_judge 6 = .ok (.iconst 1, 1) := dk_4 (dk_at dksX5_judge_0 6 rfl rfl)
theorem dX5_judge_7 : decode cX5_judge 7 = .ok (.invokevirtual 176, 3) := dk_182 0 176 (dk_at dksX5_judge_0 7 rfl rfl)
theorem dX5_judge_10 : decode cX5_judge 10 = .ok (.ifCond .eq 5, 3) := dk_153 0 5 (dk_at dksX5_judge_0 10 rfl rfl)
theorem dX5_judge_13 : decode cX5_judge 13 = .ok (.iconst 0, 1) := dk_3 (dk_at dksX5_judge_0 13 rfl rfl)
theorem dX5_judge_14 : decode cX5_judge 14 = .ok (.ireturn, 1) := dk_172 (dk_at dksX5_judge_0 14 rfl rfl)
theorem dX5_judge_15 : decode cX5_judge 15 = .ok (.aload_n 0, 1) := dk_42 (dk_at dksX5_judge_0 15 rfl rfl)
theorem dX5_judge_16 : decode cX5_judge 16 = .ok (.iload_n 1, 1) := dk_27 (dk_at dksX5_judge_0 16 rfl rfl)
theorem dX5_judge_17 : decode cX5_judge 17 = .ok (.invokevirtual 337, 3) := dk_182 1 81 (dk_at dksX5_judge_0 17 rfl rfl)
theorem dX5_judge_20 : decode cX5_judge 20 = .ok (.istore_n 2, 1) := dk_61 (dk_at dksX5_judge_0 20 rfl rfl)
theorem dX5_judge_21 : decode cX5_judge 21 = .ok (.aload_n 0, 1) := dk_42 (dk_at dksX5_judge_0 21 rfl rfl)
theorem dX5_judge_22 : decode cX5_judge 22 = .ok (.iconst 0, 1) := dk_3 (dk_at dksX5_judge_0 22 rfl rfl)
theorem dX5_judge_23 : decode cX5_judge 23 = .ok (.putfield 91, 3) := dk_181 0 91 (dk_at dksX5_judge_1 0 rfl rfl)
theorem dX5_judge_26 : decode cX5_judge 26 = .ok (.iload_n 2, 1) := dk_28 (dk_at dksX5_judge_1 3 rfl rfl)
theorem dX5_judge_27 : decode cX5_judge 27 = .ok (.iconst (-1), 1) := dk_2 (dk_at dksX5_judge_1 4 rfl rfl)
theorem dX5_judge_28 : decode cX5_judge 28 = .ok (.if_icmp .ne 8, 3) := dk_160 0 8 (dk_at dksX5_judge_1 5 rfl rfl)
theorem dX5_judge_31 : decode cX5_judge 31 = .ok (.bipush (-4), 2) := dk_16 252 (dk_at dksX5_judge_1 8 rfl rfl)
theorem dX5_judge_33 : decode cX5_judge 33 = .ok (.goto 10, 3) := dk_167 0 10 (dk_at dksX5_judge_1 10 rfl rfl)
theorem dX5_judge_36 : decode cX5_judge 36 = .ok (.iload_n 2, 1) := dk_28 (dk_at dksX5_judge_1 13 rfl rfl)
theorem dX5_judge_37 : decode cX5_judge 37 = .ok (.aload_n 0, 1) := dk_42 (dk_at dksX5_judge_1 14 rfl rfl)
theorem dX5_judge_38 : decode cX5_judge 38 = .ok (.iload_n 1, 1) := dk_27 (dk_at dksX5_judge_1 15 rfl rfl)
theorem dX5_judge_39 : decode cX5_judge 39 = .ok (.invokevirtual 255, 3) := dk_182 0 255 (dk_at dksX5_judge_1 16 rfl rfl)
theorem dX5_judge_42 : decode cX5_judge 42 = .ok (.isub, 1) := dk_100 (dk_at dksX5_judge_1 19 rfl rfl)
theorem dX5_judge_43 : decode cX5_judge 43 = .ok (.ireturn, 1) := dk_172 (dk_at dksX5_judge_1 20 rfl rfl)
abbrev cX5_feltInBuffer : ByteArray := prog_17_method_109_code
def yX5_feltInBuffer : MethodName := ⟨RX5, "feltInBuffer", "(I)I"⟩
def dkwX5_feltInBuffer_4 : List UInt8 := [27, 4, 182, 0, 189, 160, 0, 7, 29, 167, 0, 4, 2, 172]
abbrev dktX5_feltInBuffer_4 : List UInt8 := dkwX5_feltInBuffer_4 ++ []
def dkwX5_feltInBuffer_3 : List UInt8 := [27, 21, 5, 182, 0, 216, 96, 62, 42, 21, 5, 4, 182, 0, 180, 61, 132, 4, 1, 167, 255, 179, 28, 42]
abbrev dktX5_feltInBuffer_3 : List UInt8 := dkwX5_feltInBuffer_3 ++ dktX5_feltInBuffer_4
def dkwX5_feltInBuffer_2 : List UInt8 := [42, 21, 5, 182, 0, 225, 153, 0, 14, 42, 21, 5, 3, 182, 0, 180, 28, 159, 0, 5, 2, 172, 29, 42]
abbrev dktX5_feltInBuffer_2 : List UInt8 := dkwX5_feltInBuffer_2 ++ dktX5_feltInBuffer_3
def dkwX5_feltInBuffer_1 : List UInt8 := [180, 0, 28, 21, 4, 51, 17, 0, 255, 126, 16, 97, 100, 54, 5, 42, 21, 5, 182, 0, 182, 153, 0, 23]
abbrev dktX5_feltInBuffer_1 : List UInt8 := dkwX5_feltInBuffer_1 ++ dktX5_feltInBuffer_2
def dkwX5_feltInBuffer_0 : List UInt8 := [42, 27, 3, 182, 0, 189, 61, 3, 62, 3, 54, 4, 21, 4, 42, 180, 0, 91, 162, 0, 74, 42]
abbrev dktX5_feltInBuffer_0 : List UInt8 := dkwX5_feltInBuffer_0 ++ dktX5_feltInBuffer_1
theorem dksX5_feltInBuffer_0 : cX5_feltInBuffer.data.toList.drop 0 = dktX5_feltInBuffer_0 := by decide +kernel
theorem dksX5_feltInBuffer_1 : cX5_feltInBuffer.data.toList.drop 22 = dktX5_feltInBuffer_1 := dk_seg dksX5_feltInBuffer_0 22 rfl rfl
theorem dksX5_feltInBuffer_2 : cX5_feltInBuffer.data.toList.drop 46 = dktX5_feltInBuffer_2 := dk_seg dksX5_feltInBuffer_1 24 rfl rfl
theorem dksX5_feltInBuffer_3 : cX5_feltInBuffer.data.toList.drop 70 = dktX5_feltInBuffer_3 := dk_seg dksX5_feltInBuffer_2 24 rfl rfl
theorem dksX5_feltInBuffer_4 : cX5_feltInBuffer.data.toList.drop 94 = dktX5_feltInBuffer_4 := dk_seg dksX5_feltInBuffer_3 24 rfl rfl
theorem dX5_feltInBuffer_0 : decode cX5_feltInBuffer 0 = .ok (.aload_n 0, 1) := dk_42 (dk_at dksX5_feltInBuffer_0 0 rfl rfl)
theorem dX5_feltInBuffer_1 : decode cX5_feltInBuffer 1 = .ok (.iload_n 1, 1) := dk_27 (dk_at dksX5_feltInBuffer_0 1 rfl rfl)
theorem dX5_feltInBuffer_2 : decode cX5_feltInBuffer 2 = .ok (.iconst 0, 1) := dk_3 (dk_at dksX5_feltInBuffer_0 2 rfl rfl)
theorem dX5_feltInBuffer_3 : decode cX5_feltInBuffer 3 = .ok (.invokevirtual 189, 3) := dk_182 0 189 (dk_at dksX5_feltInBuffer_0 3 rfl rfl)
theorem dX5_feltInBuffer_6 : decode cX5_feltInBuffer 6 = .ok (.istore_n 2, 1) := dk_61 (dk_at dksX5_feltInBuffer_0 6 rfl rfl)
theorem dX5_feltInBuffer_7 : decode cX5_feltInBuffer 7 = .ok (.iconst 0, 1) := dk_3 (dk_at dksX5_feltInBuffer_0 7 rfl rfl)
theorem dX5_feltInBuffer_8 : decode cX5_feltInBuffer 8 = .ok (.istore_n 3, 1) := dk_62 (dk_at dksX5_feltInBuffer_0 8 rfl rfl)
theorem dX5_feltInBuffer_9 : decode cX5_feltInBuffer 9 = .ok (.iconst 0, 1) := dk_3 (dk_at dksX5_feltInBuffer_0 9 rfl rfl)
theorem dX5_feltInBuffer_10 : decode cX5_feltInBuffer 10 = .ok (.istore 4, 2) := dk_54 4 (dk_at dksX5_feltInBuffer_0 10 rfl rfl)
theorem dX5_feltInBuffer_12 : decode cX5_feltInBuffer 12 = .ok (.iload 4, 2) := dk_21 4 (dk_at dksX5_feltInBuffer_0 12 rfl rfl)
theorem dX5_feltInBuffer_14 : decode cX5_feltInBuffer 14 = .ok (.aload_n 0, 1) := dk_42 (dk_at dksX5_feltInBuffer_0 14 rfl rfl)
theorem dX5_feltInBuffer_15 : decode cX5_feltInBuffer 15 = .ok (.getfield 91, 3) := dk_180 0 91 (dk_at dksX5_feltInBuffer_0 15 rfl rfl)
theorem dX5_feltInBuffer_18 : decode cX5_feltInBuffer 18 = .ok (.if_icmp .ge 74, 3) := dk_162 0 74 (dk_at dksX5_feltInBuffer_0 18 rfl rfl)
theorem dX5_feltInBuffer_21 : decode cX5_feltInBuffer 21 = .ok (.aload_n 0, 1) := dk_42 (dk_at dksX5_feltInBuffer_0 21 rfl rfl)
theorem dX5_feltInBuffer_22 : decode cX5_feltInBuffer 22 = .ok (.getfield 28, 3) := dk_180 0 28 (dk_at dksX5_feltInBuffer_1 0 rfl rfl)
theorem dX5_feltInBuffer_25 : decode cX5_feltInBuffer 25 = .ok (.iload 4, 2) := dk_21 4 (dk_at dksX5_feltInBuffer_1 3 rfl rfl)
theorem dX5_feltInBuffer_27 : decode cX5_feltInBuffer 27 = .ok (.baload, 1) := dk_51 (dk_at dksX5_feltInBuffer_1 5 rfl rfl)
theorem dX5_feltInBuffer_28 : decode cX5_feltInBuffer 28 = .ok (.sipush 255, 3) := dk_17 0 255 (dk_at dksX5_feltInBuffer_1 6 rfl rfl)
theorem dX5_feltInBuffer_31 : decode cX5_feltInBuffer 31 = .ok (.iand, 1) := dk_126 (dk_at dksX5_feltInBuffer_1 9 rfl rfl)
theorem dX5_feltInBuffer_32 : decode cX5_feltInBuffer 32 = .ok (.bipush 97, 2) := dk_16 97 (dk_at dksX5_feltInBuffer_1 10 rfl rfl)
theorem dX5_feltInBuffer_34 : decode cX5_feltInBuffer 34 = .ok (.isub, 1) := dk_100 (dk_at dksX5_feltInBuffer_1 12 rfl rfl)
theorem dX5_feltInBuffer_35 : decode cX5_feltInBuffer 35 = .ok (.istore 5, 2) := dk_54 5 (dk_at dksX5_feltInBuffer_1 13 rfl rfl)
theorem dX5_feltInBuffer_37 : decode cX5_feltInBuffer 37 = .ok (.aload_n 0, 1) := dk_42 (dk_at dksX5_feltInBuffer_1 15 rfl rfl)
theorem dX5_feltInBuffer_38 : decode cX5_feltInBuffer 38 = .ok (.iload 5, 2) := dk_21 5 (dk_at dksX5_feltInBuffer_1 16 rfl rfl)
theorem dX5_feltInBuffer_40 : decode cX5_feltInBuffer 40 = .ok (.invokevirtual 182, 3) := dk_182 0 182 (dk_at dksX5_feltInBuffer_1 18 rfl rfl)
theorem dX5_feltInBuffer_43 : decode cX5_feltInBuffer 43 = .ok (.ifCond .eq 23, 3) := dk_153 0 23 (dk_at dksX5_feltInBuffer_1 21 rfl rfl)
theorem dX5_feltInBuffer_46 : decode cX5_feltInBuffer 46 = .ok (.aload_n 0, 1) := dk_42 (dk_at dksX5_feltInBuffer_2 0 rfl rfl)
theorem dX5_feltInBuffer_47 : decode cX5_feltInBuffer 47 = .ok (.iload 5, 2) := dk_21 5 (dk_at dksX5_feltInBuffer_2 1 rfl rfl)
theorem dX5_feltInBuffer_49 : decode cX5_feltInBuffer 49 = .ok (.invokevirtual 225, 3) := dk_182 0 225 (dk_at dksX5_feltInBuffer_2 3 rfl rfl)
theorem dX5_feltInBuffer_52 : decode cX5_feltInBuffer 52 = .ok (.ifCond .eq 14, 3) := dk_153 0 14 (dk_at dksX5_feltInBuffer_2 6 rfl rfl)
theorem dX5_feltInBuffer_55 : decode cX5_feltInBuffer 55 = .ok (.aload_n 0, 1) := dk_42 (dk_at dksX5_feltInBuffer_2 9 rfl rfl)
theorem dX5_feltInBuffer_56 : decode cX5_feltInBuffer 56 = .ok (.iload 5, 2) := dk_21 5 (dk_at dksX5_feltInBuffer_2 10 rfl rfl)
theorem dX5_feltInBuffer_58 : decode cX5_feltInBuffer 58 = .ok (.iconst 0, 1) := dk_3 (dk_at dksX5_feltInBuffer_2 12 rfl rfl)
theorem dX5_feltInBuffer_59 : decode cX5_feltInBuffer 59 = .ok (.invokevirtual 180, 3) := dk_182 0 180 (dk_at dksX5_feltInBuffer_2 13 rfl rfl)
theorem dX5_feltInBuffer_62 : decode cX5_feltInBuffer 62 = .ok (.iload_n 2, 1) := dk_28 (dk_at dksX5_feltInBuffer_2 16 rfl rfl)
theorem dX5_feltInBuffer_63 : decode cX5_feltInBuffer 63 = .ok (.if_icmp .eq 5, 3) := dk_159 0 5 (dk_at dksX5_feltInBuffer_2 17 rfl rfl)
theorem dX5_feltInBuffer_66 : decode cX5_feltInBuffer 66 = .ok (.iconst (-1), 1) := dk_2 (dk_at dksX5_feltInBuffer_2 20 rfl rfl)
theorem dX5_feltInBuffer_67 : decode cX5_feltInBuffer 67 = .ok (.ireturn, 1) := dk_172 (dk_at dksX5_feltInBuffer_2 21 rfl rfl)
theorem dX5_feltInBuffer_68 : decode cX5_feltInBuffer 68 = .ok (.iload_n 3, 1) := dk_29 (dk_at dksX5_feltInBuffer_2 22 rfl rfl)
theorem dX5_feltInBuffer_69 : decode cX5_feltInBuffer 69 = .ok (.aload_n 0, 1) := dk_42 (dk_at dksX5_feltInBuffer_2 23 rfl rfl)
theorem dX5_feltInBuffer_70 : decode cX5_feltInBuffer 70 = .ok (.iload_n 1, 1) := dk_27 (dk_at dksX5_feltInBuffer_3 0 rfl rfl)
theorem dX5_feltInBuffer_71 : decode cX5_feltInBuffer 71 = .ok (.iload 5, 2) := dk_21 5 (dk_at dksX5_feltInBuffer_3 1 rfl rfl)
theorem dX5_feltInBuffer_73 : decode cX5_feltInBuffer 73 = .ok (.invokevirtual 216, 3) := dk_182 0 216 (dk_at dksX5_feltInBuffer_3 3 rfl rfl)
theorem dX5_feltInBuffer_76 : decode cX5_feltInBuffer 76 = .ok (.iadd, 1) := dk_96 (dk_at dksX5_feltInBuffer_3 6 rfl rfl)
theorem dX5_feltInBuffer_77 : decode cX5_feltInBuffer 77 = .ok (.istore_n 3, 1) := dk_62 (dk_at dksX5_feltInBuffer_3 7 rfl rfl)
theorem dX5_feltInBuffer_78 : decode cX5_feltInBuffer 78 = .ok (.aload_n 0, 1) := dk_42 (dk_at dksX5_feltInBuffer_3 8 rfl rfl)
theorem dX5_feltInBuffer_79 : decode cX5_feltInBuffer 79 = .ok (.iload 5, 2) := dk_21 5 (dk_at dksX5_feltInBuffer_3 9 rfl rfl)
theorem dX5_feltInBuffer_81 : decode cX5_feltInBuffer 81 = .ok (.iconst 1, 1) := dk_4 (dk_at dksX5_feltInBuffer_3 11 rfl rfl)
theorem dX5_feltInBuffer_82 : decode cX5_feltInBuffer 82 = .ok (.invokevirtual 180, 3) := dk_182 0 180 (dk_at dksX5_feltInBuffer_3 12 rfl rfl)
theorem dX5_feltInBuffer_85 : decode cX5_feltInBuffer 85 = .ok (.istore_n 2, 1) := dk_61 (dk_at dksX5_feltInBuffer_3 15 rfl rfl)
theorem dX5_feltInBuffer_86 : decode cX5_feltInBuffer 86 = .ok (.iinc 4 1, 3) := dk_132 4 1 (dk_at dksX5_feltInBuffer_3 16 rfl rfl)
theorem dX5_feltInBuffer_89 : decode cX5_feltInBuffer 89 = .ok (.goto (-77), 3) := dk_167 255 179 (dk_at dksX5_feltInBuffer_3 19 rfl rfl)
theorem dX5_feltInBuffer_92 : decode cX5_feltInBuffer 92 = .ok (.iload_n 2, 1) := dk_28 (dk_at dksX5_feltInBuffer_3 22 rfl rfl)
theorem dX5_feltInBuffer_93 : decode cX5_feltInBuffer 93 = .ok (.aload_n 0, 1) := dk_42 (dk_at dksX5_feltInBuffer_3 23 rfl rfl)
theorem dX5_feltInBuffer_94 : decode cX5_feltInBuffer 94 = .ok (.iload_n 1, 1) := dk_27 (dk_at dksX5_feltInBuffer_4 0 rfl rfl)
theorem dX5_feltInBuffer_95 : decode cX5_feltInBuffer 95 = .ok (.iconst 1, 1) := dk_4 (dk_at dksX5_feltInBuffer_4 1 rfl rfl)
theorem dX5_feltInBuffer_96 : decode cX5_feltInBuffer 96 = .ok (.invokevirtual 189, 3) := dk_182 0 189 (dk_at dksX5_feltInBuffer_4 2 rfl rfl)
theorem dX5_feltInBuffer_99 : decode cX5_feltInBuffer 99 = .ok (.if_icmp .ne 7, 3) := dk_160 0 7 (dk_at dksX5_feltInBuffer_4 5 rfl rfl)
theorem dX5_feltInBuffer_102 : decode cX5_feltInBuffer 102 = .ok (.iload_n 3, 1) := dk_29 (dk_at dksX5_feltInBuffer_4 8 rfl rfl)
theorem dX5_feltInBuffer_103 : decode cX5_feltInBuffer 103 = .ok (.goto 4, 3) := dk_167 0 4 (dk_at dksX5_feltInBuffer_4 9 rfl rfl)
theorem dX5_feltInBuffer_106 : decode cX5_feltInBuffer 106 = .ok (.iconst (-1), 1) := dk_2 (dk_at dksX5_feltInBuffer_4 12 rfl rfl)
theorem dX5_feltInBuffer_107 : decode cX5_feltInBuffer 107 = .ok (.ireturn, 1) := dk_172 (dk_at dksX5_feltInBuffer_4 13 rfl rfl)
abbrev cX5_margin : ByteArray := prog_17_method_112_code
def yX5_margin : MethodName := ⟨RX5, "margin", "(I)I"⟩
def dkwX5_margin_5 : List UInt8 := [2, 167, 0, 7, 21, 4, 28, 100, 172]
abbrev dktX5_margin_5 : List UInt8 := dkwX5_margin_5 ++ []
def dkwX5_margin_4 : List UInt8 := [21, 5, 182, 1, 84, 184, 0, 126, 54, 4, 132, 5, 1, 167, 255, 233, 21, 4, 19, 1, 25, 160, 0, 7]
abbrev dktX5_margin_4 : List UInt8 := dkwX5_margin_4 ++ dktX5_margin_5
def dkwX5_margin_3 : List UInt8 := [132, 4, 1, 167, 255, 233, 19, 1, 25, 54, 4, 3, 54, 5, 21, 5, 29, 162, 0, 23, 21, 4, 42, 27]
abbrev dktX5_margin_3 : List UInt8 := dkwX5_margin_3 ++ dktX5_margin_4
def dkwX5_margin_2 : List UInt8 := [54, 4, 21, 4, 29, 162, 0, 23, 42, 180, 0, 64, 21, 4, 42, 180, 0, 43, 21, 4, 46, 79]
abbrev dktX5_margin_2 : List UInt8 := dkwX5_margin_2 ++ dktX5_margin_3
def dkwX5_margin_1 : List UInt8 := [180, 0, 74, 158, 0, 7, 3, 167, 0, 4, 2, 172, 42, 27, 182, 0, 252, 61, 42, 180, 0, 235, 62, 3]
abbrev dktX5_margin_1 : List UInt8 := dkwX5_margin_1 ++ dktX5_margin_2
def dkwX5_margin_0 : List UInt8 := [42, 42, 27, 182, 0, 186, 4, 182, 0, 176, 154, 0, 11, 42, 27, 182, 0, 249, 154, 0, 16, 42]
abbrev dktX5_margin_0 : List UInt8 := dkwX5_margin_0 ++ dktX5_margin_1
theorem dksX5_margin_0 : cX5_margin.data.toList.drop 0 = dktX5_margin_0 := by decide +kernel
theorem dksX5_margin_1 : cX5_margin.data.toList.drop 22 = dktX5_margin_1 := dk_seg dksX5_margin_0 22 rfl rfl
theorem dksX5_margin_2 : cX5_margin.data.toList.drop 46 = dktX5_margin_2 := dk_seg dksX5_margin_1 24 rfl rfl
theorem dksX5_margin_3 : cX5_margin.data.toList.drop 68 = dktX5_margin_3 := dk_seg dksX5_margin_2 22 rfl rfl
theorem dksX5_margin_4 : cX5_margin.data.toList.drop 92 = dktX5_margin_4 := dk_seg dksX5_margin_3 24 rfl rfl
theorem dksX5_margin_5 : cX5_margin.data.toList.drop 116 = dktX5_margin_5 := dk_seg dksX5_margin_4 24 rfl rfl
theorem dX5_margin_0 : decode cX5_margin 0 = .ok (.aload_n 0, 1) := dk_42 (dk_at dksX5_margin_0 0 rfl rfl)
theorem dX5_margin_1 : decode cX5_margin 1 = .ok (.aload_n 0, 1) := dk_42 (dk_at dksX5_margin_0 1 rfl rfl)
theorem dX5_margin_2 : decode cX5_margin 2 = .ok (.iload_n 1, 1) := dk_27 (dk_at dksX5_margin_0 2 rfl rfl)
theorem dX5_margin_3 : decode cX5_margin 3 = .ok (.invokevirtual 186, 3) := dk_182 0 186 (dk_at dksX5_margin_0 3 rfl rfl)
theorem dX5_margin_6 : decode cX5_margin 6 = .ok (.iconst 1, 1) := dk_4 (dk_at dksX5_margin_0 6 rfl rfl)
theorem dX5_margin_7 : decode cX5_margin 7 = .ok (.invokevirtual 176, 3) := dk_182 0 176 (dk_at dksX5_margin_0 7 rfl rfl)
theorem dX5_margin_10 : decode cX5_margin 10 = .ok (.ifCond .ne 11, 3) := dk_154 0 11 (dk_at dksX5_margin_0 10 rfl rfl)
theorem dX5_margin_13 : decode cX5_margin 13 = .ok (.aload_n 0, 1) := dk_42 (dk_at dksX5_margin_0 13 rfl rfl)
theorem dX5_margin_14 : decode cX5_margin 14 = .ok (.iload_n 1, 1) := dk_27 (dk_at dksX5_margin_0 14 rfl rfl)
theorem dX5_margin_15 : decode cX5_margin 15 = .ok (.invokevirtual 249, 3) := dk_182 0 249 (dk_at dksX5_margin_0 15 rfl rfl)
theorem dX5_margin_18 : decode cX5_margin 18 = .ok (.ifCond .ne 16, 3) := dk_154 0 16 (dk_at dksX5_margin_0 18 rfl rfl)
theorem dX5_margin_21 : decode cX5_margin 21 = .ok (.aload_n 0, 1) := dk_42 (dk_at dksX5_margin_0 21 rfl rfl)
theorem dX5_margin_22 : decode cX5_margin 22 = .ok (.getfield 74, 3) := dk_180 0 74 (dk_at dksX5_margin_1 0 rfl rfl)
theorem dX5_margin_25 : decode cX5_margin 25 = .ok (.ifCond .le 7, 3) := dk_158 0 7 (dk_at dksX5_margin_1 3 rfl rfl)
theorem dX5_margin_28 : decode cX5_margin 28 = .ok (.iconst 0, 1) := dk_3 (dk_at dksX5_margin_1 6 rfl rfl)
theorem dX5_margin_29 : decode cX5_margin 29 = .ok (.goto 4, 3) := dk_167 0 4 (dk_at dksX5_margin_1 7 rfl rfl)
theorem dX5_margin_32 : decode cX5_margin 32 = .ok (.iconst (-1), 1) := dk_2 (dk_at dksX5_margin_1 10 rfl rfl)
theorem dX5_margin_33 : decode cX5_margin 33 = .ok (.ireturn, 1) := dk_172 (dk_at dksX5_margin_1 11 rfl rfl)
theorem dX5_margin_34 : decode cX5_margin 34 = .ok (.aload_n 0, 1) := dk_42 (dk_at dksX5_margin_1 12 rfl rfl)
theorem dX5_margin_35 : decode cX5_margin 35 = .ok (.iload_n 1, 1) := dk_27 (dk_at dksX5_margin_1 13 rfl rfl)
theorem dX5_margin_36 : decode cX5_margin 36 = .ok (.invokevirtual 252, 3) := dk_182 0 252 (dk_at dksX5_margin_1 14 rfl rfl)
theorem dX5_margin_39 : decode cX5_margin 39 = .ok (.istore_n 2, 1) := dk_61 (dk_at dksX5_margin_1 17 rfl rfl)
theorem dX5_margin_40 : decode cX5_margin 40 = .ok (.aload_n 0, 1) := dk_42 (dk_at dksX5_margin_1 18 rfl rfl)
theorem dX5_margin_41 : decode cX5_margin 41 = .ok (.getfield 235, 3) := dk_180 0 235 (dk_at dksX5_margin_1 19 rfl rfl)
theorem dX5_margin_44 : decode cX5_margin 44 = .ok (.istore_n 3, 1) := dk_62 (dk_at dksX5_margin_1 22 rfl rfl)
theorem dX5_margin_45 : decode cX5_margin 45 = .ok (.iconst 0, 1) := dk_3 (dk_at dksX5_margin_1 23 rfl rfl)
theorem dX5_margin_46 : decode cX5_margin 46 = .ok (.istore 4, 2) := dk_54 4 (dk_at dksX5_margin_2 0 rfl rfl)
theorem dX5_margin_48 : decode cX5_margin 48 = .ok (.iload 4, 2) := dk_21 4 (dk_at dksX5_margin_2 2 rfl rfl)
theorem dX5_margin_50 : decode cX5_margin 50 = .ok (.iload_n 3, 1) := dk_29 (dk_at dksX5_margin_2 4 rfl rfl)
theorem dX5_margin_51 : decode cX5_margin 51 = .ok (.if_icmp .ge 23, 3) := dk_162 0 23 (dk_at dksX5_margin_2 5 rfl rfl)
theorem dX5_margin_54 : decode cX5_margin 54 = .ok (.aload_n 0, 1) := dk_42 (dk_at dksX5_margin_2 8 rfl rfl)
theorem dX5_margin_55 : decode cX5_margin 55 = .ok (.getfield 64, 3) := dk_180 0 64 (dk_at dksX5_margin_2 9 rfl rfl)
theorem dX5_margin_58 : decode cX5_margin 58 = .ok (.iload 4, 2) := dk_21 4 (dk_at dksX5_margin_2 12 rfl rfl)
theorem dX5_margin_60 : decode cX5_margin 60 = .ok (.aload_n 0, 1) := dk_42 (dk_at dksX5_margin_2 14 rfl rfl)
theorem dX5_margin_61 : decode cX5_margin 61 = .ok (.getfield 43, 3) := dk_180 0 43 (dk_at dksX5_margin_2 15 rfl rfl)
theorem dX5_margin_64 : decode cX5_margin 64 = .ok (.iload 4, 2) := dk_21 4 (dk_at dksX5_margin_2 18 rfl rfl)
theorem dX5_margin_66 : decode cX5_margin 66 = .ok (.iaload, 1) := dk_46 (dk_at dksX5_margin_2 20 rfl rfl)
theorem dX5_margin_67 : decode cX5_margin 67 = .ok (.iastore, 1) := dk_79 (dk_at dksX5_margin_2 21 rfl rfl)
theorem dX5_margin_68 : decode cX5_margin 68 = .ok (.iinc 4 1, 3) := dk_132 4 1 (dk_at dksX5_margin_3 0 rfl rfl)
theorem dX5_margin_71 : decode cX5_margin 71 = .ok (.goto (-23), 3) := dk_167 255 233 (dk_at dksX5_margin_3 3 rfl rfl)
theorem dX5_margin_74 : decode cX5_margin 74 = .ok (.ldc_w 281, 3) := dk_19 1 25 (dk_at dksX5_margin_3 6 rfl rfl)
theorem dX5_margin_77 : decode cX5_margin 77 = .ok (.istore 4, 2) := dk_54 4 (dk_at dksX5_margin_3 9 rfl rfl)
theorem dX5_margin_79 : decode cX5_margin 79 = .ok (.iconst 0, 1) := dk_3 (dk_at dksX5_margin_3 11 rfl rfl)
theorem dX5_margin_80 : decode cX5_margin 80 = .ok (.istore 5, 2) := dk_54 5 (dk_at dksX5_margin_3 12 rfl rfl)
theorem dX5_margin_82 : decode cX5_margin 82 = .ok (.iload 5, 2) := dk_21 5 (dk_at dksX5_margin_3 14 rfl rfl)
theorem dX5_margin_84 : decode cX5_margin 84 = .ok (.iload_n 3, 1) := dk_29 (dk_at dksX5_margin_3 16 rfl rfl)
theorem dX5_margin_85 : decode cX5_margin 85 = .ok (.if_icmp .ge 23, 3) := dk_162 0 23 (dk_at dksX5_margin_3 17 rfl rfl)
theorem dX5_margin_88 : decode cX5_margin 88 = .ok (.iload 4, 2) := dk_21 4 (dk_at dksX5_margin_3 20 rfl rfl)
theorem dX5_margin_90 : decode cX5_margin 90 = .ok (.aload_n 0, 1) := dk_42 (dk_at dksX5_margin_3 22 rfl rfl)
theorem dX5_margin_91 : decode cX5_margin 91 = .ok (.iload_n 1, 1) := dk_27 (dk_at dksX5_margin_3 23 rfl rfl)
theorem dX5_margin_92 : decode cX5_margin 92 = .ok (.iload 5, 2) := dk_21 5 (dk_at dksX5_margin_4 0 rfl rfl)
theorem dX5_margin_94 : decode cX5_margin 94 = .ok (.invokevirtual 340, 3) := dk_182 1 84 (dk_at dksX5_margin_4 2 rfl rfl)
theorem dX5_margin_97 : decode cX5_margin 97 = .ok (.invokestatic 126, 3) := dk_184 0 126 (dk_at dksX5_margin_4 5 rfl rfl)
theorem dX5_margin_100 : decode cX5_margin 100 = .ok (.istore 4, 2) := dk_54 4 (dk_at dksX5_margin_4 8 rfl rfl)
theorem dX5_margin_102 : decode cX5_margin 102 = .ok (.iinc 5 1, 3) := dk_132 5 1 (dk_at dksX5_margin_4 10 rfl rfl)
theorem dX5_margin_105 : decode cX5_margin 105 = .ok (.goto (-23), 3) := dk_167 255 233 (dk_at dksX5_margin_4 13 rfl rfl)
theorem dX5_margin_108 : decode cX5_margin 108 = .ok (.iload 4, 2) := dk_21 4 (dk_at dksX5_margin_4 16 rfl rfl)
theorem dX5_margin_110 : decode cX5_margin 110 = .ok (.ldc_w 281, 3) := dk_19 1 25 (dk_at dksX5_margin_4 18 rfl rfl)
theorem dX5_margin_113 : decode cX5_margin 113 = .ok (.if_icmp .ne 7, 3) := dk_160 0 7 (dk_at dksX5_margin_4 21 rfl rfl)
theorem dX5_margin_116 : decode cX5_margin 116 = .ok (.iconst (-1), 1) := dk_2 (dk_at dksX5_margin_5 0 rfl rfl)
theorem dX5_margin_117 : decode cX5_margin 117 = .ok (.goto 7, 3) := dk_167 0 7 (dk_at dksX5_margin_5 1 rfl rfl)
theorem dX5_margin_120 : decode cX5_margin 120 = .ok (.iload 4, 2) := dk_21 4 (dk_at dksX5_margin_5 4 rfl rfl)
theorem dX5_margin_122 : decode cX5_margin 122 = .ok (.iload_n 2, 1) := dk_28 (dk_at dksX5_margin_5 6 rfl rfl)
theorem dX5_margin_123 : decode cX5_margin 123 = .ok (.isub, 1) := dk_100 (dk_at dksX5_margin_5 7 rfl rfl)
theorem dX5_margin_124 : decode cX5_margin 124 = .ok (.ireturn, 1) := dk_172 (dk_at dksX5_margin_5 8 rfl rfl)
abbrev cX5_feltAside : ByteArray := prog_17_method_111_code
def yX5_feltAside : MethodName := ⟨RX5, "feltAside", "(II)I"⟩
def dkwX5_feltAside_5 : List UInt8 := [96, 172]
abbrev dktX5_feltAside_5 : List UInt8 := dkwX5_feltAside_5 ++ []
def dkwX5_feltAside_4 : List UInt8 := [180, 0, 46, 21, 4, 46, 2, 160, 0, 9, 19, 1, 25, 167, 0, 12, 29, 42, 180, 0, 46, 21, 4, 46]
abbrev dktX5_feltAside_4 : List UInt8 := dkwX5_feltAside_4 ++ dktX5_feltAside_5
def dkwX5_feltAside_3 : List UInt8 := [180, 0, 64, 28, 46, 181, 0, 40, 42, 27, 182, 1, 16, 42, 2, 181, 0, 40, 42, 3, 181, 0, 203, 42]
abbrev dktX5_feltAside_3 : List UInt8 := dkwX5_feltAside_3 ++ dktX5_feltAside_4
def dkwX5_feltAside_2 : List UInt8 := [42, 42, 180, 0, 64, 21, 5, 46, 4, 182, 0, 180, 54, 4, 132, 5, 1, 167, 255, 205, 42, 42]
abbrev dktX5_feltAside_2 : List UInt8 := dkwX5_feltAside_2 ++ dktX5_feltAside_3
def dkwX5_feltAside_1 : List UInt8 := [180, 0, 64, 21, 5, 46, 182, 0, 216, 96, 62, 42, 89, 180, 0, 203, 4, 21, 4, 120, 128, 181, 0, 203]
abbrev dktX5_feltAside_1 : List UInt8 := dkwX5_feltAside_1 ++ dktX5_feltAside_2
def dkwX5_feltAside_0 : List UInt8 := [3, 62, 42, 27, 3, 182, 0, 189, 54, 4, 3, 54, 5, 21, 5, 28, 162, 0, 51, 29, 42, 27, 42]
abbrev dktX5_feltAside_0 : List UInt8 := dkwX5_feltAside_0 ++ dktX5_feltAside_1
theorem dksX5_feltAside_0 : cX5_feltAside.data.toList.drop 0 = dktX5_feltAside_0 := by decide +kernel
theorem dksX5_feltAside_1 : cX5_feltAside.data.toList.drop 23 = dktX5_feltAside_1 := dk_seg dksX5_feltAside_0 23 rfl rfl
theorem dksX5_feltAside_2 : cX5_feltAside.data.toList.drop 47 = dktX5_feltAside_2 := dk_seg dksX5_feltAside_1 24 rfl rfl
theorem dksX5_feltAside_3 : cX5_feltAside.data.toList.drop 69 = dktX5_feltAside_3 := dk_seg dksX5_feltAside_2 22 rfl rfl
theorem dksX5_feltAside_4 : cX5_feltAside.data.toList.drop 93 = dktX5_feltAside_4 := dk_seg dksX5_feltAside_3 24 rfl rfl
theorem dksX5_feltAside_5 : cX5_feltAside.data.toList.drop 117 = dktX5_feltAside_5 := dk_seg dksX5_feltAside_4 24 rfl rfl
theorem dX5_feltAside_0 : decode cX5_feltAside 0 = .ok (.iconst 0, 1) := dk_3 (dk_at dksX5_feltAside_0 0 rfl rfl)
theorem dX5_feltAside_1 : decode cX5_feltAside 1 = .ok (.istore_n 3, 1) := dk_62 (dk_at dksX5_feltAside_0 1 rfl rfl)
theorem dX5_feltAside_2 : decode cX5_feltAside 2 = .ok (.aload_n 0, 1) := dk_42 (dk_at dksX5_feltAside_0 2 rfl rfl)
theorem dX5_feltAside_3 : decode cX5_feltAside 3 = .ok (.iload_n 1, 1) := dk_27 (dk_at dksX5_feltAside_0 3 rfl rfl)
theorem dX5_feltAside_4 : decode cX5_feltAside 4 = .ok (.iconst 0, 1) := dk_3 (dk_at dksX5_feltAside_0 4 rfl rfl)
theorem dX5_feltAside_5 : decode cX5_feltAside 5 = .ok (.invokevirtual 189, 3) := dk_182 0 189 (dk_at dksX5_feltAside_0 5 rfl rfl)
theorem dX5_feltAside_8 : decode cX5_feltAside 8 = .ok (.istore 4, 2) := dk_54 4 (dk_at dksX5_feltAside_0 8 rfl rfl)
theorem dX5_feltAside_10 : decode cX5_feltAside 10 = .ok (.iconst 0, 1) := dk_3 (dk_at dksX5_feltAside_0 10 rfl rfl)
theorem dX5_feltAside_11 : decode cX5_feltAside 11 = .ok (.istore 5, 2) := dk_54 5 (dk_at dksX5_feltAside_0 11 rfl rfl)
theorem dX5_feltAside_13 : decode cX5_feltAside 13 = .ok (.iload 5, 2) := dk_21 5 (dk_at dksX5_feltAside_0 13 rfl rfl)
theorem dX5_feltAside_15 : decode cX5_feltAside 15 = .ok (.iload_n 2, 1) := dk_28 (dk_at dksX5_feltAside_0 15 rfl rfl)
theorem dX5_feltAside_16 : decode cX5_feltAside 16 = .ok (.if_icmp .ge 51, 3) := dk_162 0 51 (dk_at dksX5_feltAside_0 16 rfl rfl)
theorem dX5_feltAside_19 : decode cX5_feltAside 19 = .ok (.iload_n 3, 1) := dk_29 (dk_at dksX5_feltAside_0 19 rfl rfl)
theorem dX5_feltAside_20 : decode cX5_feltAside 20 = .ok (.aload_n 0, 1) := dk_42 (dk_at dksX5_feltAside_0 20 rfl rfl)
theorem dX5_feltAside_21 : decode cX5_feltAside 21 = .ok (.iload_n 1, 1) := dk_27 (dk_at dksX5_feltAside_0 21 rfl rfl)
theorem dX5_feltAside_22 : decode cX5_feltAside 22 = .ok (.aload_n 0, 1) := dk_42 (dk_at dksX5_feltAside_0 22 rfl rfl)
theorem dX5_feltAside_23 : decode cX5_feltAside 23 = .ok (.getfield 64, 3) := dk_180 0 64 (dk_at dksX5_feltAside_1 0 rfl rfl)
theorem dX5_feltAside_26 : decode cX5_feltAside 26 = .ok (.iload 5, 2) := dk_21 5 (dk_at dksX5_feltAside_1 3 rfl rfl)
theorem dX5_feltAside_28 : decode cX5_feltAside 28 = .ok (.iaload, 1) := dk_46 (dk_at dksX5_feltAside_1 5 rfl rfl)
theorem dX5_feltAside_29 : decode cX5_feltAside 29 = .ok (.invokevirtual 216, 3) := dk_182 0 216 (dk_at dksX5_feltAside_1 6 rfl rfl)
theorem dX5_feltAside_32 : decode cX5_feltAside 32 = .ok (.iadd, 1) := dk_96 (dk_at dksX5_feltAside_1 9 rfl rfl)
theorem dX5_feltAside_33 : decode cX5_feltAside 33 = .ok (.istore_n 3, 1) := dk_62 (dk_at dksX5_feltAside_1 10 rfl rfl)
theorem dX5_feltAside_34 : decode cX5_feltAside 34 = .ok (.aload_n 0, 1) := dk_42 (dk_at dksX5_feltAside_1 11 rfl rfl)
theorem dX5_feltAside_35 : decode cX5_feltAside 35 = .ok (.dup, 1) := dk_89 (dk_at dksX5_feltAside_1 12 rfl rfl)
theorem dX5_feltAside_36 : decode cX5_feltAside 36 = .ok (.getfield 203, 3) := dk_180 0 203 (dk_at dksX5_feltAside_1 13 rfl rfl)
theorem dX5_feltAside_39 : decode cX5_feltAside 39 = .ok (.iconst 1, 1) := dk_4 (dk_at dksX5_feltAside_1 16 rfl rfl)
theorem dX5_feltAside_40 : decode cX5_feltAside 40 = .ok (.iload 4, 2) := dk_21 4 (dk_at dksX5_feltAside_1 17 rfl rfl)
theorem dX5_feltAside_42 : decode cX5_feltAside 42 = .ok (.ishl, 1) := dk_120 (dk_at dksX5_feltAside_1 19 rfl rfl)
theorem dX5_feltAside_43 : decode cX5_feltAside 43 = .ok (.ior, 1) := dk_128 (dk_at dksX5_feltAside_1 20 rfl rfl)
theorem dX5_feltAside_44 : decode cX5_feltAside 44 = .ok (.putfield 203, 3) := dk_181 0 203 (dk_at dksX5_feltAside_1 21 rfl rfl)
theorem dX5_feltAside_47 : decode cX5_feltAside 47 = .ok (.aload_n 0, 1) := dk_42 (dk_at dksX5_feltAside_2 0 rfl rfl)
theorem dX5_feltAside_48 : decode cX5_feltAside 48 = .ok (.aload_n 0, 1) := dk_42 (dk_at dksX5_feltAside_2 1 rfl rfl)
theorem dX5_feltAside_49 : decode cX5_feltAside 49 = .ok (.getfield 64, 3) := dk_180 0 64 (dk_at dksX5_feltAside_2 2 rfl rfl)
theorem dX5_feltAside_52 : decode cX5_feltAside 52 = .ok (.iload 5, 2) := dk_21 5 (dk_at dksX5_feltAside_2 5 rfl rfl)
theorem dX5_feltAside_54 : decode cX5_feltAside 54 = .ok (.iaload, 1) := dk_46 (dk_at dksX5_feltAside_2 7 rfl rfl)
theorem dX5_feltAside_55 : decode cX5_feltAside 55 = .ok (.iconst 1, 1) := dk_4 (dk_at dksX5_feltAside_2 8 rfl rfl)
theorem dX5_feltAside_56 : decode cX5_feltAside 56 = .ok (.invokevirtual 180, 3) := dk_182 0 180 (dk_at dksX5_feltAside_2 9 rfl rfl)
theorem dX5_feltAside_59 : decode cX5_feltAside 59 = .ok (.istore 4, 2) := dk_54 4 (dk_at dksX5_feltAside_2 12 rfl rfl)
theorem dX5_feltAside_61 : decode cX5_feltAside 61 = .ok (.iinc 5 1, 3) := dk_132 5 1 (dk_at dksX5_feltAside_2 14 rfl rfl)
theorem dX5_feltAside_64 : decode cX5_feltAside 64 = .ok (.goto (-51), 3) := dk_167 255 205 (dk_at dksX5_feltAside_2 17 rfl rfl)
theorem dX5_feltAside_67 : decode cX5_feltAside 67 = .ok (.aload_n 0, 1) := dk_42 (dk_at dksX5_feltAside_2 20 rfl rfl)
theorem dX5_feltAside_68 : decode cX5_feltAside 68 = .ok (.aload_n 0, 1) := dk_42 (dk_at dksX5_feltAside_2 21 rfl rfl)
theorem dX5_feltAside_69 : decode cX5_feltAside 69 = .ok (.getfield 64, 3) := dk_180 0 64 (dk_at dksX5_feltAside_3 0 rfl rfl)
theorem dX5_feltAside_72 : decode cX5_feltAside 72 = .ok (.iload_n 2, 1) := dk_28 (dk_at dksX5_feltAside_3 3 rfl rfl)
theorem dX5_feltAside_73 : decode cX5_feltAside 73 = .ok (.iaload, 1) := dk_46 (dk_at dksX5_feltAside_3 4 rfl rfl)
theorem dX5_feltAside_74 : decode cX5_feltAside 74 = .ok (.putfield 40, 3) := dk_181 0 40 (dk_at dksX5_feltAside_3 5 rfl rfl)
theorem dX5_feltAside_77 : decode cX5_feltAside 77 = .ok (.aload_n 0, 1) := dk_42 (dk_at dksX5_feltAside_3 8 rfl rfl)
theorem dX5_feltAside_78 : decode cX5_feltAside 78 = .ok (.iload_n 1, 1) := dk_27 (dk_at dksX5_feltAside_3 9 rfl rfl)
theorem dX5_feltAside_79 : decode cX5_feltAside 79 = .ok (.invokevirtual 272, 3) := dk_182 1 16 (dk_at dksX5_feltAside_3 10 rfl rfl)
theorem dX5_feltAside_82 : decode cX5_feltAside 82 = .ok (.aload_n 0, 1) := dk_42 (dk_at dksX5_feltAside_3 13 rfl rfl)
theorem dX5_feltAside_83 : decode cX5_feltAside 83 = .ok (.iconst (-1), 1) := dk_2 (dk_at dksX5_feltAside_3 14 rfl rfl)
theorem dX5_feltAside_84 : decode cX5_feltAside 84 = .ok (.putfield 40, 3) := dk_181 0 40 (dk_at dksX5_feltAside_3 15 rfl rfl)
theorem dX5_feltAside_87 : decode cX5_feltAside 87 = .ok (.aload_n 0, 1) := dk_42 (dk_at dksX5_feltAside_3 18 rfl rfl)
theorem dX5_feltAside_88 : decode cX5_feltAside 88 = .ok (.iconst 0, 1) := dk_3 (dk_at dksX5_feltAside_3 19 rfl rfl)
theorem dX5_feltAside_89 : decode cX5_feltAside 89 = .ok (.putfield 203, 3) := dk_181 0 203 (dk_at dksX5_feltAside_3 20 rfl rfl)
theorem dX5_feltAside_92 : decode cX5_feltAside 92 = .ok (.aload_n 0, 1) := dk_42 (dk_at dksX5_feltAside_3 23 rfl rfl)
theorem dX5_feltAside_93 : decode cX5_feltAside 93 = .ok (.getfield 46, 3) := dk_180 0 46 (dk_at dksX5_feltAside_4 0 rfl rfl)
theorem dX5_feltAside_96 : decode cX5_feltAside 96 = .ok (.iload 4, 2) := dk_21 4 (dk_at dksX5_feltAside_4 3 rfl rfl)
theorem dX5_feltAside_98 : decode cX5_feltAside 98 = .ok (.iaload, 1) := dk_46 (dk_at dksX5_feltAside_4 5 rfl rfl)
theorem dX5_feltAside_99 : decode cX5_feltAside 99 = .ok (.iconst (-1), 1) := dk_2 (dk_at dksX5_feltAside_4 6 rfl rfl)
theorem dX5_feltAside_100 : decode cX5_feltAside 100 = .ok (.if_icmp .ne 9, 3) := dk_160 0 9 (dk_at dksX5_feltAside_4 7 rfl rfl)
theorem dX5_feltAside_103 : decode cX5_feltAside 103 = .ok (.ldc_w 281, 3) := dk_19 1 25 (dk_at dksX5_feltAside_4 10 rfl rfl)
theorem dX5_feltAside_106 : decode cX5_feltAside 106 = .ok (.goto 12, 3) := dk_167 0 12 (dk_at dksX5_feltAside_4 13 rfl rfl)
theorem dX5_feltAside_109 : decode cX5_feltAside 109 = .ok (.iload_n 3, 1) := dk_29 (dk_at dksX5_feltAside_4 16 rfl rfl)
theorem dX5_feltAside_110 : decode cX5_feltAside 110 = .ok (.aload_n 0, 1) := dk_42 (dk_at dksX5_feltAside_4 17 rfl rfl)
theorem dX5_feltAside_111 : decode cX5_feltAside 111 = .ok (.getfield 46, 3) := dk_180 0 46 (dk_at dksX5_feltAside_4 18 rfl rfl)
theorem dX5_feltAside_114 : decode cX5_feltAside 114 = .ok (.iload 4, 2) := dk_21 4 (dk_at dksX5_feltAside_4 21 rfl rfl)
theorem dX5_feltAside_116 : decode cX5_feltAside 116 = .ok (.iaload, 1) := dk_46 (dk_at dksX5_feltAside_4 23 rfl rfl)
theorem dX5_feltAside_117 : decode cX5_feltAside 117 = .ok (.iadd, 1) := dk_96 (dk_at dksX5_feltAside_5 0 rfl rfl)
theorem dX5_feltAside_118 : decode cX5_feltAside 118 = .ok (.ireturn, 1) := dk_172 (dk_at dksX5_feltAside_5 1 rfl rfl)
abbrev cX5_writePath : ByteArray := prog_17_method_116_code
def yX5_writePath : MethodName := ⟨RX5, "writePath", "(I)I"⟩
def dkwX5_writePath_5 : List UInt8 := [132, 2, 1, 167, 255, 189, 42, 180, 1, 87, 172]
abbrev dktX5_writePath_5 : List UInt8 := dkwX5_writePath_5 ++ []
def dkwX5_writePath_4 : List UInt8 := [182, 1, 99, 42, 16, 62, 182, 1, 90, 42, 42, 42, 180, 0, 43, 28, 46, 4, 182, 0, 180, 182, 1, 99]
abbrev dktX5_writePath_4 : List UInt8 := dkwX5_writePath_4 ++ dktX5_writePath_5
def dkwX5_writePath_3 : List UInt8 := [182, 0, 180, 158, 0, 24, 42, 16, 61, 182, 1, 90, 42, 42, 42, 180, 0, 43, 28, 46, 7, 182, 0, 180]
abbrev dktX5_writePath_3 : List UInt8 := dkwX5_writePath_3 ++ dktX5_writePath_4
def dkwX5_writePath_2 : List UInt8 := [182, 0, 189, 182, 1, 99, 3, 61, 28, 42, 180, 0, 235, 162, 0, 65, 42, 42, 180, 0, 43, 28, 46, 7]
abbrev dktX5_writePath_2 : List UInt8 := dkwX5_writePath_2 ++ dktX5_writePath_3
def dkwX5_writePath_1 : List UInt8 := [182, 0, 249, 154, 0, 15, 42, 19, 1, 93, 182, 1, 95, 42, 180, 1, 87, 172, 42, 42, 27, 3]
abbrev dktX5_writePath_1 : List UInt8 := dkwX5_writePath_1 ++ dktX5_writePath_2
def dkwX5_writePath_0 : List UInt8 := [42, 42, 27, 182, 0, 186, 4, 182, 0, 176, 153, 0, 5, 3, 172, 42, 3, 181, 1, 87, 42, 27]
abbrev dktX5_writePath_0 : List UInt8 := dkwX5_writePath_0 ++ dktX5_writePath_1
theorem dksX5_writePath_0 : cX5_writePath.data.toList.drop 0 = dktX5_writePath_0 := by decide +kernel
theorem dksX5_writePath_1 : cX5_writePath.data.toList.drop 22 = dktX5_writePath_1 := dk_seg dksX5_writePath_0 22 rfl rfl
theorem dksX5_writePath_2 : cX5_writePath.data.toList.drop 44 = dktX5_writePath_2 := dk_seg dksX5_writePath_1 22 rfl rfl
theorem dksX5_writePath_3 : cX5_writePath.data.toList.drop 68 = dktX5_writePath_3 := dk_seg dksX5_writePath_2 24 rfl rfl
theorem dksX5_writePath_4 : cX5_writePath.data.toList.drop 92 = dktX5_writePath_4 := dk_seg dksX5_writePath_3 24 rfl rfl
theorem dksX5_writePath_5 : cX5_writePath.data.toList.drop 116 = dktX5_writePath_5 := dk_seg dksX5_writePath_4 24 rfl rfl
theorem dX5_writePath_0 : decode cX5_writePath 0 = .ok (.aload_n 0, 1) := dk_42 (dk_at dksX5_writePath_0 0 rfl rfl)
theorem dX5_writePath_1 : decode cX5_writePath 1 = .ok (.aload_n 0, 1) := dk_42 (dk_at dksX5_writePath_0 1 rfl rfl)
theorem dX5_writePath_2 : decode cX5_writePath 2 = .ok (.iload_n 1, 1) := dk_27 (dk_at dksX5_writePath_0 2 rfl rfl)
theorem dX5_writePath_3 : decode cX5_writePath 3 = .ok (.invokevirtual 186, 3) := dk_182 0 186 (dk_at dksX5_writePath_0 3 rfl rfl)
theorem dX5_writePath_6 : decode cX5_writePath 6 = .ok (.iconst 1, 1) := dk_4 (dk_at dksX5_writePath_0 6 rfl rfl)
theorem dX5_writePath_7 : decode cX5_writePath 7 = .ok (.invokevirtual 176, 3) := dk_182 0 176 (dk_at dksX5_writePath_0 7 rfl rfl)
theorem dX5_writePath_10 : decode cX5_writePath 10 = .ok (.ifCond .eq 5, 3) := dk_153 0 5 (dk_at dksX5_writePath_0 10 rfl rfl)
theorem dX5_writePath_13 : decode cX5_writePath 13 = .ok (.iconst 0, 1) := dk_3 (dk_at dksX5_writePath_0 13 rfl rfl)
theorem dX5_writePath_14 : decode cX5_writePath 14 = .ok (.ireturn, 1) := dk_172 (dk_at dksX5_writePath_0 14 rfl rfl)
theorem dX5_writePath_15 : decode cX5_writePath 15 = .ok (.aload_n 0, 1) := dk_42 (dk_at dksX5_writePath_0 15 rfl rfl)
theorem dX5_writePath_16 : decode cX5_writePath 16 = .ok (.iconst 0, 1) := dk_3 (dk_at dksX5_writePath_0 16 rfl rfl)
theorem dX5_writePath_17 : decode cX5_writePath 17 = .ok (.putfield 343, 3) := dk_181 1 87 (dk_at dksX5_writePath_0 17 rfl rfl)
theorem dX5_writePath_20 : decode cX5_writePath 20 = .ok (.aload_n 0, 1) := dk_42 (dk_at dksX5_writePath_0 20 rfl rfl)
theorem dX5_writePath_21 : decode cX5_writePath 21 = .ok (.iload_n 1, 1) := dk_27 (dk_at dksX5_writePath_0 21 rfl rfl)
theorem dX5_writePath_22 : decode cX5_writePath 22 = .ok (.invokevirtual 249, 3) := dk_182 0 249 (dk_at dksX5_writePath_1 0 rfl rfl)
theorem dX5_writePath_25 : decode cX5_writePath 25 = .ok (.ifCond .ne 15, 3) := dk_154 0 15 (dk_at dksX5_writePath_1 3 rfl rfl)
theorem dX5_writePath_28 : decode cX5_writePath 28 = .ok (.aload_n 0, 1) := dk_42 (dk_at dksX5_writePath_1 6 rfl rfl)
theorem dX5_writePath_29 : decode cX5_writePath 29 = .ok (.ldc_w 349, 3) := dk_19 1 93 (dk_at dksX5_writePath_1 7 rfl rfl)
theorem dX5_writePath_32 : decode cX5_writePath 32 = .ok (.invokevirtual 351, 3) := dk_182 1 95 (dk_at dksX5_writePath_1 10 rfl rfl)
theorem dX5_writePath_35 : decode cX5_writePath 35 = .ok (.aload_n 0, 1) := dk_42 (dk_at dksX5_writePath_1 13 rfl rfl)
theorem dX5_writePath_36 : decode cX5_writePath 36 = .ok (.getfield 343, 3) := dk_180 1 87 (dk_at dksX5_writePath_1 14 rfl rfl)
theorem dX5_writePath_39 : decode cX5_writePath 39 = .ok (.ireturn, 1) := dk_172 (dk_at dksX5_writePath_1 17 rfl rfl)
theorem dX5_writePath_40 : decode cX5_writePath 40 = .ok (.aload_n 0, 1) := dk_42 (dk_at dksX5_writePath_1 18 rfl rfl)
theorem dX5_writePath_41 : decode cX5_writePath 41 = .ok (.aload_n 0, 1) := dk_42 (dk_at dksX5_writePath_1 19 rfl rfl)
theorem dX5_writePath_42 : decode cX5_writePath 42 = .ok (.iload_n 1, 1) := dk_27 (dk_at dksX5_writePath_1 20 rfl rfl)
theorem dX5_writePath_43 : decode cX5_writePath 43 = .ok (.iconst 0, 1) := dk_3 (dk_at dksX5_writePath_1 21 rfl rfl)
theorem dX5_writePath_44 : decode cX5_writePath 44 = .ok (.invokevirtual 189, 3) := dk_182 0 189 (dk_at dksX5_writePath_2 0 rfl rfl)
theorem dX5_writePath_47 : decode cX5_writePath 47 = .ok (.invokevirtual 355, 3) := dk_182 1 99 (dk_at dksX5_writePath_2 3 rfl rfl)
theorem dX5_writePath_50 : decode cX5_writePath 50 = .ok (.iconst 0, 1) := dk_3 (dk_at dksX5_writePath_2 6 rfl rfl)
theorem dX5_writePath_51 : decode cX5_writePath 51 = .ok (.istore_n 2, 1) := dk_61 (dk_at dksX5_writePath_2 7 rfl rfl)
theorem dX5_writePath_52 : decode cX5_writePath 52 = .ok (.iload_n 2, 1) := dk_28 (dk_at dksX5_writePath_2 8 rfl rfl)
theorem dX5_writePath_53 : decode cX5_writePath 53 = .ok (.aload_n 0, 1) := dk_42 (dk_at dksX5_writePath_2 9 rfl rfl)
theorem dX5_writePath_54 : decode cX5_writePath 54 = .ok (.getfield 235, 3) := dk_180 0 235 (dk_at dksX5_writePath_2 10 rfl rfl)
theorem dX5_writePath_57 : decode cX5_writePath 57 = .ok (.if_icmp .ge 65, 3) := dk_162 0 65 (dk_at dksX5_writePath_2 13 rfl rfl)
theorem dX5_writePath_60 : decode cX5_writePath 60 = .ok (.aload_n 0, 1) := dk_42 (dk_at dksX5_writePath_2 16 rfl rfl)
theorem dX5_writePath_61 : decode cX5_writePath 61 = .ok (.aload_n 0, 1) := dk_42 (dk_at dksX5_writePath_2 17 rfl rfl)
theorem dX5_writePath_62 : decode cX5_writePath 62 = .ok (.getfield 43, 3) := dk_180 0 43 (dk_at dksX5_writePath_2 18 rfl rfl)
theorem dX5_writePath_65 : decode cX5_writePath 65 = .ok (.iload_n 2, 1) := dk_28 (dk_at dksX5_writePath_2 21 rfl rfl)
theorem dX5_writePath_66 : decode cX5_writePath 66 = .ok (.iaload, 1) := dk_46 (dk_at dksX5_writePath_2 22 rfl rfl)
theorem dX5_writePath_67 : decode cX5_writePath 67 = .ok (.iconst 4, 1) := dk_7 (dk_at dksX5_writePath_2 23 rfl rfl)
theorem dX5_writePath_68 : decode cX5_writePath 68 = .ok (.invokevirtual 180, 3) := dk_182 0 180 (dk_at dksX5_writePath_3 0 rfl rfl)
theorem dX5_writePath_71 : decode cX5_writePath 71 = .ok (.ifCond .le 24, 3) := dk_158 0 24 (dk_at dksX5_writePath_3 3 rfl rfl)
theorem dX5_writePath_74 : decode cX5_writePath 74 = .ok (.aload_n 0, 1) := dk_42 (dk_at dksX5_writePath_3 6 rfl rfl)
theorem dX5_writePath_75 : decode cX5_writePath 75 = .ok (.bipush 61, 2) := dk_16 61 (dk_at dksX5_writePath_3 7 rfl rfl)
theorem dX5_writePath_77 : decode cX5_writePath 77 = .ok (.invokevirtual 346, 3) := dk_182 1 90 (dk_at dksX5_writePath_3 9 rfl rfl)
theorem dX5_writePath_80 : decode cX5_writePath 80 = .ok (.aload_n 0, 1) := dk_42 (dk_at dksX5_writePath_3 12 rfl rfl)
theorem dX5_writePath_81 : decode cX5_writePath 81 = .ok (.aload_n 0, 1) := dk_42 (dk_at dksX5_writePath_3 13 rfl rfl)
theorem dX5_writePath_82 : decode cX5_writePath 82 = .ok (.aload_n 0, 1) := dk_42 (dk_at dksX5_writePath_3 14 rfl rfl)
theorem dX5_writePath_83 : decode cX5_writePath 83 = .ok (.getfield 43, 3) := dk_180 0 43 (dk_at dksX5_writePath_3 15 rfl rfl)
theorem dX5_writePath_86 : decode cX5_writePath 86 = .ok (.iload_n 2, 1) := dk_28 (dk_at dksX5_writePath_3 18 rfl rfl)
theorem dX5_writePath_87 : decode cX5_writePath 87 = .ok (.iaload, 1) := dk_46 (dk_at dksX5_writePath_3 19 rfl rfl)
theorem dX5_writePath_88 : decode cX5_writePath 88 = .ok (.iconst 4, 1) := dk_7 (dk_at dksX5_writePath_3 20 rfl rfl)
theorem dX5_writePath_89 : decode cX5_writePath 89 = .ok (.invokevirtual 180, 3) := dk_182 0 180 (dk_at dksX5_writePath_3 21 rfl rfl)
theorem dX5_writePath_92 : decode cX5_writePath 92 = .ok (.invokevirtual 355, 3) := dk_182 1 99 (dk_at dksX5_writePath_4 0 rfl rfl)
theorem dX5_writePath_95 : decode cX5_writePath 95 = .ok (.aload_n 0, 1) := dk_42 (dk_at dksX5_writePath_4 3 rfl rfl)
theorem dX5_writePath_96 : decode cX5_writePath 96 = .ok (.bipush 62, 2) := dk_16 62 (dk_at dksX5_writePath_4 4 rfl rfl)
theorem dX5_writePath_98 : decode cX5_writePath 98 = .ok (.invokevirtual 346, 3) := dk_182 1 90 (dk_at dksX5_writePath_4 6 rfl rfl)
theorem dX5_writePath_101 : decode cX5_writePath 101 = .ok (.aload_n 0, 1) := dk_42 (dk_at dksX5_writePath_4 9 rfl rfl)
theorem dX5_writePath_102 : decode cX5_writePath 102 = .ok (.aload_n 0, 1) := dk_42 (dk_at dksX5_writePath_4 10 rfl rfl)
theorem dX5_writePath_103 : decode cX5_writePath 103 = .ok (.aload_n 0, 1) := dk_42 (dk_at dksX5_writePath_4 11 rfl rfl)
theorem dX5_writePath_104 : decode cX5_writePath 104 = .ok (.getfield 43, 3) := dk_180 0 43 (dk_at dksX5_writePath_4 12 rfl rfl)
theorem dX5_writePath_107 : decode cX5_writePath 107 = .ok (.iload_n 2, 1) := dk_28 (dk_at dksX5_writePath_4 15 rfl rfl)
theorem dX5_writePath_108 : decode cX5_writePath 108 = .ok (.iaload, 1) := dk_46 (dk_at dksX5_writePath_4 16 rfl rfl)
theorem dX5_writePath_109 : decode cX5_writePath 109 = .ok (.iconst 1, 1) := dk_4 (dk_at dksX5_writePath_4 17 rfl rfl)
theorem dX5_writePath_110 : decode cX5_writePath 110 = .ok (.invokevirtual 180, 3) := dk_182 0 180 (dk_at dksX5_writePath_4 18 rfl rfl)
theorem dX5_writePath_113 : decode cX5_writePath 113 = .ok (.invokevirtual 355, 3) := dk_182 1 99 (dk_at dksX5_writePath_4 21 rfl rfl)
theorem dX5_writePath_116 : decode cX5_writePath 116 = .ok (.iinc 2 1, 3) := dk_132 2 1 (dk_at dksX5_writePath_5 0 rfl rfl)
theorem dX5_writePath_119 : decode cX5_writePath 119 = .ok (.goto (-67), 3) := dk_167 255 189 (dk_at dksX5_writePath_5 3 rfl rfl)
theorem dX5_writePath_122 : decode cX5_writePath 122 = .ok (.aload_n 0, 1) := dk_42 (dk_at dksX5_writePath_5 6 rfl rfl)
theorem dX5_writePath_123 : decode cX5_writePath 123 = .ok (.getfield 343, 3) := dk_180 1 87 (dk_at dksX5_writePath_5 7 rfl rfl)
theorem dX5_writePath_126 : decode cX5_writePath 126 = .ok (.ireturn, 1) := dk_172 (dk_at dksX5_writePath_5 10 rfl rfl)
abbrev cX5_putsWord : ByteArray := prog_17_method_115_code
def yX5_putsWord : MethodName := ⟨RX5, "putsWord", "(Ljava/lang/String;)V"⟩
def dkwX5_putsWord_1 : List UInt8 := [167, 255, 236, 177]
abbrev dktX5_putsWord_1 : List UInt8 := dkwX5_putsWord_1 ++ []
def dkwX5_putsWord_0 : List UInt8 := [3, 61, 28, 43, 182, 0, 113, 162, 0, 18, 42, 43, 28, 182, 0, 117, 182, 1, 90, 132, 2, 1]
abbrev dktX5_putsWord_0 : List UInt8 := dkwX5_putsWord_0 ++ dktX5_putsWord_1
theorem dksX5_putsWord_0 : cX5_putsWord.data.toList.drop 0 = dktX5_putsWord_0 := by decide +kernel
theorem dksX5_putsWord_1 : cX5_putsWord.data.toList.drop 22 = dktX5_putsWord_1 := dk_seg dksX5_putsWord_0 22 rfl rfl
theorem dX5_putsWord_0 : decode cX5_putsWord 0 = .ok (.iconst 0, 1) := dk_3 (dk_at dksX5_putsWord_0 0 rfl rfl)
theorem dX5_putsWord_1 : decode cX5_putsWord 1 = .ok (.istore_n 2, 1) := dk_61 (dk_at dksX5_putsWord_0 1 rfl rfl)
theorem dX5_putsWord_2 : decode cX5_putsWord 2 = .ok (.iload_n 2, 1) := dk_28 (dk_at dksX5_putsWord_0 2 rfl rfl)
theorem dX5_putsWord_3 : decode cX5_putsWord 3 = .ok (.aload_n 1, 1) := dk_43 (dk_at dksX5_putsWord_0 3 rfl rfl)
theorem dX5_putsWord_4 : decode cX5_putsWord 4 = .ok (.invokevirtual 113, 3) := dk_182 0 113 (dk_at dksX5_putsWord_0 4 rfl rfl)
theorem dX5_putsWord_7 : decode cX5_putsWord 7 = .ok (.if_icmp .ge 18, 3) := dk_162 0 18 (dk_at dksX5_putsWord_0 7 rfl rfl)
theorem dX5_putsWord_10 : decode cX5_putsWord 10 = .ok (.aload_n 0, 1) := dk_42 (dk_at dksX5_putsWord_0 10 rfl rfl)
theorem dX5_putsWord_11 : decode cX5_putsWord 11 = .ok (.aload_n 1, 1) := dk_43 (dk_at dksX5_putsWord_0 11 rfl rfl)
theorem dX5_putsWord_12 : decode cX5_putsWord 12 = .ok (.iload_n 2, 1) := dk_28 (dk_at dksX5_putsWord_0 12 rfl rfl)
theorem dX5_putsWord_13 : decode cX5_putsWord 13 = .ok (.invokevirtual 117, 3) := dk_182 0 117 (dk_at dksX5_putsWord_0 13 rfl rfl)
theorem dX5_putsWord_16 : decode cX5_putsWord 16 = .ok (.invokevirtual 346, 3) := dk_182 1 90 (dk_at dksX5_putsWord_0 16 rfl rfl)
theorem dX5_putsWord_19 : decode cX5_putsWord 19 = .ok (.iinc 2 1, 3) := dk_132 2 1 (dk_at dksX5_putsWord_0 19 rfl rfl)
theorem dX5_putsWord_22 : decode cX5_putsWord 22 = .ok (.goto (-20), 3) := dk_167 255 236 (dk_at dksX5_putsWord_1 0 rfl rfl)
theorem dX5_putsWord_25 : decode cX5_putsWord 25 = .ok (.return_, 1) := dk_177 (dk_at dksX5_putsWord_1 3 rfl rfl)
abbrev cX5_puts : ByteArray := prog_17_method_113_code
def yX5_puts : MethodName := ⟨RX5, "puts", "(I)V"⟩
def dkwX5_puts_0 : List UInt8 := [42, 180, 0, 67, 42, 180, 1, 87, 27, 145, 84, 42, 89, 180, 1, 87, 4, 96, 181, 1, 87, 177]
abbrev dktX5_puts_0 : List UInt8 := dkwX5_puts_0 ++ []
theorem dksX5_puts_0 : cX5_puts.data.toList.drop 0 = dktX5_puts_0 := by decide +kernel
theorem dX5_puts_0 : decode cX5_puts 0 = .ok (.aload_n 0, 1) := dk_42 (dk_at dksX5_puts_0 0 rfl rfl)
theorem dX5_puts_1 : decode cX5_puts 1 = .ok (.getfield 67, 3) := dk_180 0 67 (dk_at dksX5_puts_0 1 rfl rfl)
theorem dX5_puts_4 : decode cX5_puts 4 = .ok (.aload_n 0, 1) := dk_42 (dk_at dksX5_puts_0 4 rfl rfl)
theorem dX5_puts_5 : decode cX5_puts 5 = .ok (.getfield 343, 3) := dk_180 1 87 (dk_at dksX5_puts_0 5 rfl rfl)
theorem dX5_puts_8 : decode cX5_puts 8 = .ok (.iload_n 1, 1) := dk_27 (dk_at dksX5_puts_0 8 rfl rfl)
theorem dX5_puts_9 : decode cX5_puts 9 = .ok (.i2b, 1) := dk_145 (dk_at dksX5_puts_0 9 rfl rfl)
theorem dX5_puts_10 : decode cX5_puts 10 = .ok (.bastore, 1) := dk_84 (dk_at dksX5_puts_0 10 rfl rfl)
theorem dX5_puts_11 : decode cX5_puts 11 = .ok (.aload_n 0, 1) := dk_42 (dk_at dksX5_puts_0 11 rfl rfl)
theorem dX5_puts_12 : decode cX5_puts 12 = .ok (.dup, 1) := dk_89 (dk_at dksX5_puts_0 12 rfl rfl)
theorem dX5_puts_13 : decode cX5_puts 13 = .ok (.getfield 343, 3) := dk_180 1 87 (dk_at dksX5_puts_0 13 rfl rfl)
theorem dX5_puts_16 : decode cX5_puts 16 = .ok (.iconst 1, 1) := dk_4 (dk_at dksX5_puts_0 16 rfl rfl)
theorem dX5_puts_17 : decode cX5_puts 17 = .ok (.iadd, 1) := dk_96 (dk_at dksX5_puts_0 17 rfl rfl)
theorem dX5_puts_18 : decode cX5_puts 18 = .ok (.putfield 343, 3) := dk_181 1 87 (dk_at dksX5_puts_0 18 rfl rfl)
theorem dX5_puts_21 : decode cX5_puts 21 = .ok (.return_, 1) := dk_177 (dk_at dksX5_puts_0 21 rfl rfl)
abbrev cX5_putsNumber : ByteArray := prog_17_method_114_code
def yX5_putsNumber : MethodName := ⟨RX5, "putsNumber", "(I)V"⟩
def dkwX5_putsNumber_1 : List UInt8 := [16, 48, 27, 28, 108, 16, 10, 112, 96, 182, 1, 90, 28, 16, 10, 108, 61, 167, 255, 234, 177]
abbrev dktX5_putsNumber_1 : List UInt8 := dkwX5_putsNumber_1 ++ []
def dkwX5_putsNumber_0 : List UInt8 := [4, 61, 27, 28, 108, 16, 10, 161, 0, 11, 28, 16, 10, 104, 61, 167, 255, 243, 28, 158, 0, 24, 42]
abbrev dktX5_putsNumber_0 : List UInt8 := dkwX5_putsNumber_0 ++ dktX5_putsNumber_1
theorem dksX5_putsNumber_0 : cX5_putsNumber.data.toList.drop 0 = dktX5_putsNumber_0 := by decide +kernel
theorem dksX5_putsNumber_1 : cX5_putsNumber.data.toList.drop 23 = dktX5_putsNumber_1 := dk_seg dksX5_putsNumber_0 23 rfl rfl
theorem dX5_putsNumber_0 : decode cX5_putsNumber 0 = .ok (.iconst 1, 1) := dk_4 (dk_at dksX5_putsNumber_0 0 rfl rfl)
theorem dX5_putsNumber_1 : decode cX5_putsNumber 1 = .ok (.istore_n 2, 1) := dk_61 (dk_at dksX5_putsNumber_0 1 rfl rfl)
theorem dX5_putsNumber_2 : decode cX5_putsNumber 2 = .ok (.iload_n 1, 1) := dk_27 (dk_at dksX5_putsNumber_0 2 rfl rfl)
theorem dX5_putsNumber_3 : decode cX5_putsNumber 3 = .ok (.iload_n 2, 1) := dk_28 (dk_at dksX5_putsNumber_0 3 rfl rfl)
theorem dX5_putsNumber_4 : decode cX5_putsNumber 4 = .ok (.idiv, 1) := dk_108 (dk_at dksX5_putsNumber_0 4 rfl rfl)
theorem dX5_putsNumber_5 : decode cX5_putsNumber 5 = .ok (.bipush 10, 2) := dk_16 10 (dk_at dksX5_putsNumber_0 5 rfl rfl)
theorem dX5_putsNumber_7 : decode cX5_putsNumber 7 = .ok (.if_icmp .lt 11, 3) := dk_161 0 11 (dk_at dksX5_putsNumber_0 7 rfl rfl)
theorem dX5_putsNumber_10 : decode cX5_putsNumber 10 = .ok (.iload_n 2, 1) := dk_28 (dk_at dksX5_putsNumber_0 10 rfl rfl)
theorem dX5_putsNumber_11 : decode cX5_putsNumber 11 = .ok (.bipush 10, 2) := dk_16 10 (dk_at dksX5_putsNumber_0 11 rfl rfl)
theorem dX5_putsNumber_13 : decode cX5_putsNumber 13 = .ok (.imul, 1) := dk_104 (dk_at dksX5_putsNumber_0 13 rfl rfl)
theorem dX5_putsNumber_14 : decode cX5_putsNumber 14 = .ok (.istore_n 2, 1) := dk_61 (dk_at dksX5_putsNumber_0 14 rfl rfl)
theorem dX5_putsNumber_15 : decode cX5_putsNumber 15 = .ok (.goto (-13), 3) := dk_167 255 243 (dk_at dksX5_putsNumber_0 15 rfl rfl)
theorem dX5_putsNumber_18 : decode cX5_putsNumber 18 = .ok (.iload_n 2, 1) := dk_28 (dk_at dksX5_putsNumber_0 18 rfl rfl)
theorem dX5_putsNumber_19 : decode cX5_putsNumber 19 = .ok (.ifCond .le 24, 3) := dk_158 0 24 (dk_at dksX5_putsNumber_0 19 rfl rfl)
theorem dX5_putsNumber_22 : decode cX5_putsNumber 22 = .ok (.aload_n 0, 1) := dk_42 (dk_at dksX5_putsNumber_0 22 rfl rfl)
theorem dX5_putsNumber_23 : decode cX5_putsNumber 23 = .ok (.bipush 48, 2) := dk_16 48 (dk_at dksX5_putsNumber_1 0 rfl rfl)
theorem dX5_putsNumber_25 : decode cX5_putsNumber 25 = .ok (.iload_n 1, 1) := dk_27 (dk_at dksX5_putsNumber_1 2 rfl rfl)
theorem dX5_putsNumber_26 : decode cX5_putsNumber 26 = .ok (.iload_n 2, 1) := dk_28 (dk_at dksX5_putsNumber_1 3 rfl rfl)
theorem dX5_putsNumber_27 : decode cX5_putsNumber 27 = .ok (.idiv, 1) := dk_108 (dk_at dksX5_putsNumber_1 4 rfl rfl)
theorem dX5_putsNumber_28 : decode cX5_putsNumber 28 = .ok (.bipush 10, 2) := dk_16 10 (dk_at dksX5_putsNumber_1 5 rfl rfl)
theorem dX5_putsNumber_30 : decode cX5_putsNumber 30 = .ok (.irem, 1) := dk_112 (dk_at dksX5_putsNumber_1 7 rfl rfl)
theorem dX5_putsNumber_31 : decode cX5_putsNumber 31 = .ok (.iadd, 1) := dk_96 (dk_at dksX5_putsNumber_1 8 rfl rfl)
theorem dX5_putsNumber_32 : decode cX5_putsNumber 32 = .ok (.invokevirtual 346, 3) := dk_182 1 90 (dk_at dksX5_putsNumber_1 9 rfl rfl)
theorem dX5_putsNumber_35 : decode cX5_putsNumber 35 = .ok (.iload_n 2, 1) := dk_28 (dk_at dksX5_putsNumber_1 12 rfl rfl)
theorem dX5_putsNumber_36 : decode cX5_putsNumber 36 = .ok (.bipush 10, 2) := dk_16 10 (dk_at dksX5_putsNumber_1 13 rfl rfl)
theorem dX5_putsNumber_38 : decode cX5_putsNumber 38 = .ok (.idiv, 1) := dk_108 (dk_at dksX5_putsNumber_1 15 rfl rfl)
theorem dX5_putsNumber_39 : decode cX5_putsNumber 39 = .ok (.istore_n 2, 1) := dk_61 (dk_at dksX5_putsNumber_1 16 rfl rfl)
theorem dX5_putsNumber_40 : decode cX5_putsNumber 40 = .ok (.goto (-22), 3) := dk_167 255 234 (dk_at dksX5_putsNumber_1 17 rfl rfl)
theorem dX5_putsNumber_43 : decode cX5_putsNumber 43 = .ok (.return_, 1) := dk_177 (dk_at dksX5_putsNumber_1 20 rfl rfl)
abbrev cX5_writeTolls : ByteArray := prog_17_method_117_code
def yX5_writeTolls : MethodName := ⟨RX5, "writeTolls", "()I"⟩
def dkwX5_writeTolls_3 : List UInt8 := [167, 255, 200, 42, 180, 1, 87, 172]
abbrev dktX5_writeTolls_3 : List UInt8 := dkwX5_writeTolls_3 ++ []
def dkwX5_writeTolls_2 : List UInt8 := [182, 1, 99, 42, 16, 58, 182, 1, 90, 42, 42, 27, 7, 182, 0, 180, 182, 1, 99, 132, 1, 1]
abbrev dktX5_writeTolls_2 : List UInt8 := dkwX5_writeTolls_2 ++ dktX5_writeTolls_3
def dkwX5_writeTolls_1 : List UInt8 := [7, 182, 0, 180, 158, 0, 37, 42, 180, 1, 87, 158, 0, 9, 42, 16, 59, 182, 1, 90, 42, 27]
abbrev dktX5_writeTolls_1 : List UInt8 := dkwX5_writeTolls_1 ++ dktX5_writeTolls_2
def dkwX5_writeTolls_0 : List UInt8 := [42, 3, 181, 0, 74, 42, 3, 181, 1, 87, 3, 60, 27, 42, 180, 0, 11, 4, 46, 162, 0, 52, 42, 27]
abbrev dktX5_writeTolls_0 : List UInt8 := dkwX5_writeTolls_0 ++ dktX5_writeTolls_1
theorem dksX5_writeTolls_0 : cX5_writeTolls.data.toList.drop 0 = dktX5_writeTolls_0 := by decide +kernel
theorem dksX5_writeTolls_1 : cX5_writeTolls.data.toList.drop 24 = dktX5_writeTolls_1 := dk_seg dksX5_writeTolls_0 24 rfl rfl
theorem dksX5_writeTolls_2 : cX5_writeTolls.data.toList.drop 46 = dktX5_writeTolls_2 := dk_seg dksX5_writeTolls_1 22 rfl rfl
theorem dksX5_writeTolls_3 : cX5_writeTolls.data.toList.drop 68 = dktX5_writeTolls_3 := dk_seg dksX5_writeTolls_2 22 rfl rfl
theorem dX5_writeTolls_0 : decode cX5_writeTolls 0 = .ok (.aload_n 0, 1) := dk_42 (dk_at dksX5_writeTolls_0 0 rfl rfl)
theorem dX5_writeTolls_1 : decode cX5_writeTolls 1 = .ok (.iconst 0, 1) := dk_3 (dk_at dksX5_writeTolls_0 1 rfl rfl)
theorem dX5_writeTolls_2 : decode cX5_writeTolls 2 = .ok (.putfield 74, 3) := dk_181 0 74 (dk_at dksX5_writeTolls_0 2 rfl rfl)
theorem dX5_writeTolls_5 : decode cX5_writeTolls 5 = .ok (.aload_n 0, 1) := dk_42 (dk_at dksX5_writeTolls_0 5 rfl rfl)
theorem dX5_writeTolls_6 : decode cX5_writeTolls 6 = .ok (.iconst 0, 1) := dk_3 (dk_at dksX5_writeTolls_0 6 rfl rfl)
theorem dX5_writeTolls_7 : decode cX5_writeTolls 7 = .ok (.putfield 343, 3) := dk_181 1 87 (dk_at dksX5_writeTolls_0 7 rfl rfl)
theorem dX5_writeTolls_10 : decode cX5_writeTolls 10 = .ok (.iconst 0, 1) := dk_3 (dk_at dksX5_writeTolls_0 10 rfl rfl)
theorem dX5_writeTolls_11 : decode cX5_writeTolls 11 = .ok (.istore_n 1, 1) := dk_60 (dk_at dksX5_writeTolls_0 11 rfl rfl)
theorem dX5_writeTolls_12 : decode cX5_writeTolls 12 = .ok (.iload_n 1, 1) := dk_27 (dk_at dksX5_writeTolls_0 12 rfl rfl)
theorem dX5_writeTolls_13 : decode cX5_writeTolls 13 = .ok (.aload_n 0, 1) := dk_42 (dk_at dksX5_writeTolls_0 13 rfl rfl)
theorem dX5_writeTolls_14 : decode cX5_writeTolls 14 = .ok (.getfield 11, 3) := dk_180 0 11 (dk_at dksX5_writeTolls_0 14 rfl rfl)
theorem dX5_writeTolls_17 : decode cX5_writeTolls 17 = .ok (.iconst 1, 1) := dk_4 (dk_at dksX5_writeTolls_0 17 rfl rfl)
theorem dX5_writeTolls_18 : decode cX5_writeTolls 18 = .ok (.iaload, 1) := dk_46 (dk_at dksX5_writeTolls_0 18 rfl rfl)
theorem dX5_writeTolls_19 : decode cX5_writeTolls 19 = .ok (.if_icmp .ge 52, 3) := dk_162 0 52 (dk_at dksX5_writeTolls_0 19 rfl rfl)
theorem dX5_writeTolls_22 : decode cX5_writeTolls 22 = .ok (.aload_n 0, 1) := dk_42 (dk_at dksX5_writeTolls_0 22 rfl rfl)
theorem dX5_writeTolls_23 : decode cX5_writeTolls 23 = .ok (.iload_n 1, 1) := dk_27 (dk_at dksX5_writeTolls_0 23 rfl rfl)
theorem dX5_writeTolls_24 : decode cX5_writeTolls 24 = .ok (.iconst 4, 1) := dk_7 (dk_at dksX5_writeTolls_1 0 rfl rfl)
theorem dX5_writeTolls_25 : decode cX5_writeTolls 25 = .ok (.invokevirtual 180, 3) := dk_182 0 180 (dk_at dksX5_writeTolls_1 1 rfl rfl)
theorem dX5_writeTolls_28 : decode cX5_writeTolls 28 = .ok (.ifCond .le 37, 3) := dk_158 0 37 (dk_at dksX5_writeTolls_1 4 rfl rfl)
theorem dX5_writeTolls_31 : decode cX5_writeTolls 31 = .ok (.aload_n 0, 1) := dk_42 (dk_at dksX5_writeTolls_1 7 rfl rfl)
theorem dX5_writeTolls_32 : decode cX5_writeTolls 32 = .ok (.getfield 343, 3) := dk_180 1 87 (dk_at dksX5_writeTolls_1 8 rfl rfl)
theorem dX5_writeTolls_35 : decode cX5_writeTolls 35 = .ok (.ifCond .le 9, 3) := dk_158 0 9 (dk_at dksX5_writeTolls_1 11 rfl rfl)
theorem dX5_writeTolls_38 : decode cX5_writeTolls 38 = .ok (.aload_n 0, 1) := dk_42 (dk_at dksX5_writeTolls_1 14 rfl rfl)
theorem dX5_writeTolls_39 : decode cX5_writeTolls 39 = .ok (.bipush 59, 2) := dk_16 59 (dk_at dksX5_writeTolls_1 15 rfl rfl)
theorem dX5_writeTolls_41 : decode cX5_writeTolls 41 = .ok (.invokevirtual 346, 3) := dk_182 1 90 (dk_at dksX5_writeTolls_1 17 rfl rfl)
theorem dX5_writeTolls_44 : decode cX5_writeTolls 44 = .ok (.aload_n 0, 1) := dk_42 (dk_at dksX5_writeTolls_1 20 rfl rfl)
theorem dX5_writeTolls_45 : decode cX5_writeTolls 45 = .ok (.iload_n 1, 1) := dk_27 (dk_at dksX5_writeTolls_1 21 rfl rfl)
theorem dX5_writeTolls_46 : decode cX5_writeTolls 46 = .ok (.invokevirtual 355, 3) := dk_182 1 99 (dk_at dksX5_writeTolls_2 0 rfl rfl)
theorem dX5_writeTolls_49 : decode cX5_writeTolls 49 = .ok (.aload_n 0, 1) := dk_42 (dk_at dksX5_writeTolls_2 3 rfl rfl)
theorem dX5_writeTolls_50 : decode cX5_writeTolls 50 = .ok (.bipush 58, 2) := dk_16 58 (dk_at dksX5_writeTolls_2 4 rfl rfl)
theorem dX5_writeTolls_52 : decode cX5_writeTolls 52 = .ok (.invokevirtual 346, 3) := dk_182 1 90 (dk_at dksX5_writeTolls_2 6 rfl rfl)
theorem dX5_writeTolls_55 : decode cX5_writeTolls 55 = .ok (.aload_n 0, 1) := dk_42 (dk_at dksX5_writeTolls_2 9 rfl rfl)
theorem dX5_writeTolls_56 : decode cX5_writeTolls 56 = .ok (.aload_n 0, 1) := dk_42 (dk_at dksX5_writeTolls_2 10 rfl rfl)
theorem dX5_writeTolls_57 : decode cX5_writeTolls 57 = .ok (.iload_n 1, 1) := dk_27 (dk_at dksX5_writeTolls_2 11 rfl rfl)
theorem dX5_writeTolls_58 : decode cX5_writeTolls 58 = .ok (.iconst 4, 1) := dk_7 (dk_at dksX5_writeTolls_2 12 rfl rfl)
theorem dX5_writeTolls_59 : decode cX5_writeTolls 59 = .ok (.invokevirtual 180, 3) := dk_182 0 180 (dk_at dksX5_writeTolls_2 13 rfl rfl)
theorem dX5_writeTolls_62 : decode cX5_writeTolls 62 = .ok (.invokevirtual 355, 3) := dk_182 1 99 (dk_at dksX5_writeTolls_2 16 rfl rfl)
theorem dX5_writeTolls_65 : decode cX5_writeTolls 65 = .ok (.iinc 1 1, 3) := dk_132 1 1 (dk_at dksX5_writeTolls_2 19 rfl rfl)
theorem dX5_writeTolls_68 : decode cX5_writeTolls 68 = .ok (.goto (-56), 3) := dk_167 255 200 (dk_at dksX5_writeTolls_3 0 rfl rfl)
theorem dX5_writeTolls_71 : decode cX5_writeTolls 71 = .ok (.aload_n 0, 1) := dk_42 (dk_at dksX5_writeTolls_3 3 rfl rfl)
theorem dX5_writeTolls_72 : decode cX5_writeTolls 72 = .ok (.getfield 343, 3) := dk_180 1 87 (dk_at dksX5_writeTolls_3 4 rfl rfl)
theorem dX5_writeTolls_75 : decode cX5_writeTolls 75 = .ok (.ireturn, 1) := dk_172 (dk_at dksX5_writeTolls_3 7 rfl rfl)
abbrev cX5_outputByte : ByteArray := prog_17_method_118_code
def yX5_outputByte : MethodName := ⟨RX5, "outputByte", "(I)I"⟩
def dkwX5_outputByte_1 : List UInt8 := [51, 167, 0, 4, 2, 172]
abbrev dktX5_outputByte_1 : List UInt8 := dkwX5_outputByte_1 ++ []
def dkwX5_outputByte_0 : List UInt8 := [42, 3, 181, 0, 74, 27, 3, 42, 180, 1, 87, 4, 100, 184, 0, 81, 153, 0, 12, 42, 180, 0, 67, 27]
abbrev dktX5_outputByte_0 : List UInt8 := dkwX5_outputByte_0 ++ dktX5_outputByte_1
theorem dksX5_outputByte_0 : cX5_outputByte.data.toList.drop 0 = dktX5_outputByte_0 := by decide +kernel
theorem dksX5_outputByte_1 : cX5_outputByte.data.toList.drop 24 = dktX5_outputByte_1 := dk_seg dksX5_outputByte_0 24 rfl rfl
theorem dX5_outputByte_0 : decode cX5_outputByte 0 = .ok (.aload_n 0, 1) := dk_42 (dk_at dksX5_outputByte_0 0 rfl rfl)
theorem dX5_outputByte_1 : decode cX5_outputByte 1 = .ok (.iconst 0, 1) := dk_3 (dk_at dksX5_outputByte_0 1 rfl rfl)
theorem dX5_outputByte_2 : decode cX5_outputByte 2 = .ok (.putfield 74, 3) := dk_181 0 74 (dk_at dksX5_outputByte_0 2 rfl rfl)
theorem dX5_outputByte_5 : decode cX5_outputByte 5 = .ok (.iload_n 1, 1) := dk_27 (dk_at dksX5_outputByte_0 5 rfl rfl)
theorem dX5_outputByte_6 : decode cX5_outputByte 6 = .ok (.iconst 0, 1) := dk_3 (dk_at dksX5_outputByte_0 6 rfl rfl)
theorem dX5_outputByte_7 : decode cX5_outputByte 7 = .ok (.aload_n 0, 1) := dk_42 (dk_at dksX5_outputByte_0 7 rfl rfl)
theorem dX5_outputByte_8 : decode cX5_outputByte 8 = .ok (.getfield 343, 3) := dk_180 1 87 (dk_at dksX5_outputByte_0 8 rfl rfl)
theorem dX5_outputByte_11 : decode cX5_outputByte 11 = .ok (.iconst 1, 1) := dk_4 (dk_at dksX5_outputByte_0 11 rfl rfl)
theorem dX5_outputByte_12 : decode cX5_outputByte 12 = .ok (.isub, 1) := dk_100 (dk_at dksX5_outputByte_0 12 rfl rfl)
theorem dX5_outputByte_13 : decode cX5_outputByte 13 = .ok (.invokestatic 81, 3) := dk_184 0 81 (dk_at dksX5_outputByte_0 13 rfl rfl)
theorem dX5_outputByte_16 : decode cX5_outputByte 16 = .ok (.ifCond .eq 12, 3) := dk_153 0 12 (dk_at dksX5_outputByte_0 16 rfl rfl)
theorem dX5_outputByte_19 : decode cX5_outputByte 19 = .ok (.aload_n 0, 1) := dk_42 (dk_at dksX5_outputByte_0 19 rfl rfl)
theorem dX5_outputByte_20 : decode cX5_outputByte 20 = .ok (.getfield 67, 3) := dk_180 0 67 (dk_at dksX5_outputByte_0 20 rfl rfl)
theorem dX5_outputByte_23 : decode cX5_outputByte 23 = .ok (.iload_n 1, 1) := dk_27 (dk_at dksX5_outputByte_0 23 rfl rfl)
theorem dX5_outputByte_24 : decode cX5_outputByte 24 = .ok (.baload, 1) := dk_51 (dk_at dksX5_outputByte_1 0 rfl rfl)
theorem dX5_outputByte_25 : decode cX5_outputByte 25 = .ok (.goto 4, 3) := dk_167 0 4 (dk_at dksX5_outputByte_1 1 rfl rfl)
theorem dX5_outputByte_28 : decode cX5_outputByte 28 = .ok (.iconst (-1), 1) := dk_2 (dk_at dksX5_outputByte_1 4 rfl rfl)
theorem dX5_outputByte_29 : decode cX5_outputByte 29 = .ok (.ireturn, 1) := dk_172 (dk_at dksX5_outputByte_1 5 rfl rfl)
abbrev cX5_saveSnapshot : ByteArray := prog_17_method_119_code
def yX5_saveSnapshot : MethodName := ⟨RX5, "saveSnapshot", "(I)I"⟩
def dkwX5_saveSnapshot_1 : List UInt8 := [180, 0, 18, 27, 184, 0, 170, 42, 180, 0, 24, 27, 4, 84, 42, 180, 0, 11, 4, 46, 172]
abbrev dktX5_saveSnapshot_1 : List UInt8 := dkwX5_saveSnapshot_1 ++ []
def dkwX5_saveSnapshot_0 : List UInt8 := [42, 27, 3, 4, 184, 0, 81, 4, 182, 0, 176, 153, 0, 5, 3, 172, 42, 180, 0, 11, 3, 42]
abbrev dktX5_saveSnapshot_0 : List UInt8 := dkwX5_saveSnapshot_0 ++ dktX5_saveSnapshot_1
theorem dksX5_saveSnapshot_0 : cX5_saveSnapshot.data.toList.drop 0 = dktX5_saveSnapshot_0 := by decide +kernel
theorem dksX5_saveSnapshot_1 : cX5_saveSnapshot.data.toList.drop 22 = dktX5_saveSnapshot_1 := dk_seg dksX5_saveSnapshot_0 22 rfl rfl
theorem dX5_saveSnapshot_0 : decode cX5_saveSnapshot 0 = .ok (.aload_n 0, 1) := dk_42 (dk_at dksX5_saveSnapshot_0 0 rfl rfl)
theorem dX5_saveSnapshot_1 : decode cX5_saveSnapshot 1 = .ok (.iload_n 1, 1) := dk_27 (dk_at dksX5_saveSnapshot_0 1 rfl rfl)
theorem dX5_saveSnapshot_2 : decode cX5_saveSnapshot 2 = .ok (.iconst 0, 1) := dk_3 (dk_at dksX5_saveSnapshot_0 2 rfl rfl)
theorem dX5_saveSnapshot_3 : decode cX5_saveSnapshot 3 = .ok (.iconst 1, 1) := dk_4 (dk_at dksX5_saveSnapshot_0 3 rfl rfl)
theorem dX5_saveSnapshot_4 : decode cX5_saveSnapshot 4 = .ok (.invokestatic 81, 3) := dk_184 0 81 (dk_at dksX5_saveSnapshot_0 4 rfl rfl)
theorem dX5_saveSnapshot_7 : decode cX5_saveSnapshot 7 = .ok (.iconst 1, 1) := dk_4 (dk_at dksX5_saveSnapshot_0 7 rfl rfl)
theorem dX5_saveSnapshot_8 : decode cX5_saveSnapshot 8 = .ok (.invokevirtual 176, 3) := dk_182 0 176 (dk_at dksX5_saveSnapshot_0 8 rfl rfl)
theorem dX5_saveSnapshot_11 : decode cX5_saveSnapshot 11 = .ok (.ifCond .eq 5, 3) := dk_153 0 5 (dk_at dksX5_saveSnapshot_0 11 rfl rfl)
theorem dX5_saveSnapshot_14 : decode cX5_saveSnapshot 14 = .ok (.iconst 0, 1) := dk_3 (dk_at dksX5_saveSnapshot_0 14 rfl rfl)
theorem dX5_saveSnapshot_15 : decode cX5_saveSnapshot 15 = .ok (.ireturn, 1) := dk_172 (dk_at dksX5_saveSnapshot_0 15 rfl rfl)
theorem dX5_saveSnapshot_16 : decode cX5_saveSnapshot 16 = .ok (.aload_n 0, 1) := dk_42 (dk_at dksX5_saveSnapshot_0 16 rfl rfl)
theorem dX5_saveSnapshot_17 : decode cX5_saveSnapshot 17 = .ok (.getfield 11, 3) := dk_180 0 11 (dk_at dksX5_saveSnapshot_0 17 rfl rfl)
theorem dX5_saveSnapshot_20 : decode cX5_saveSnapshot 20 = .ok (.iconst 0, 1) := dk_3 (dk_at dksX5_saveSnapshot_0 20 rfl rfl)
theorem dX5_saveSnapshot_21 : decode cX5_saveSnapshot 21 = .ok (.aload_n 0, 1) := dk_42 (dk_at dksX5_saveSnapshot_0 21 rfl rfl)
theorem dX5_saveSnapshot_22 : decode cX5_saveSnapshot 22 = .ok (.getfield 18, 3) := dk_180 0 18 (dk_at dksX5_saveSnapshot_1 0 rfl rfl)
theorem dX5_saveSnapshot_25 : decode cX5_saveSnapshot 25 = .ok (.iload_n 1, 1) := dk_27 (dk_at dksX5_saveSnapshot_1 3 rfl rfl)
theorem dX5_saveSnapshot_26 : decode cX5_saveSnapshot 26 = .ok (.invokestatic 170, 3) := dk_184 0 170 (dk_at dksX5_saveSnapshot_1 4 rfl rfl)
theorem dX5_saveSnapshot_29 : decode cX5_saveSnapshot 29 = .ok (.aload_n 0, 1) := dk_42 (dk_at dksX5_saveSnapshot_1 7 rfl rfl)
theorem dX5_saveSnapshot_30 : decode cX5_saveSnapshot 30 = .ok (.getfield 24, 3) := dk_180 0 24 (dk_at dksX5_saveSnapshot_1 8 rfl rfl)
theorem dX5_saveSnapshot_33 : decode cX5_saveSnapshot 33 = .ok (.iload_n 1, 1) := dk_27 (dk_at dksX5_saveSnapshot_1 11 rfl rfl)
theorem dX5_saveSnapshot_34 : decode cX5_saveSnapshot 34 = .ok (.iconst 1, 1) := dk_4 (dk_at dksX5_saveSnapshot_1 12 rfl rfl)
theorem dX5_saveSnapshot_35 : decode cX5_saveSnapshot 35 = .ok (.bastore, 1) := dk_84 (dk_at dksX5_saveSnapshot_1 13 rfl rfl)
theorem dX5_saveSnapshot_36 : decode cX5_saveSnapshot 36 = .ok (.aload_n 0, 1) := dk_42 (dk_at dksX5_saveSnapshot_1 14 rfl rfl)
theorem dX5_saveSnapshot_37 : decode cX5_saveSnapshot 37 = .ok (.getfield 11, 3) := dk_180 0 11 (dk_at dksX5_saveSnapshot_1 15 rfl rfl)
theorem dX5_saveSnapshot_40 : decode cX5_saveSnapshot 40 = .ok (.iconst 1, 1) := dk_4 (dk_at dksX5_saveSnapshot_1 18 rfl rfl)
theorem dX5_saveSnapshot_41 : decode cX5_saveSnapshot 41 = .ok (.iaload, 1) := dk_46 (dk_at dksX5_saveSnapshot_1 19 rfl rfl)
theorem dX5_saveSnapshot_42 : decode cX5_saveSnapshot 42 = .ok (.ireturn, 1) := dk_172 (dk_at dksX5_saveSnapshot_1 20 rfl rfl)
abbrev cX5_restoreSnapshot : ByteArray := prog_17_method_120_code
def yX5_restoreSnapshot : MethodName := ⟨RX5, "restoreSnapshot", "(I)I"⟩
def dkwX5_restoreSnapshot_2 : List UInt8 := [180, 0, 11, 4, 46, 172]
abbrev dktX5_restoreSnapshot_2 : List UInt8 := dkwX5_restoreSnapshot_2 ++ []
def dkwX5_restoreSnapshot_1 : List UInt8 := [154, 0, 5, 2, 172, 42, 180, 0, 18, 27, 42, 180, 0, 11, 3, 184, 0, 170, 42, 3, 181, 0, 173, 42]
abbrev dktX5_restoreSnapshot_1 : List UInt8 := dkwX5_restoreSnapshot_1 ++ dktX5_restoreSnapshot_2
def dkwX5_restoreSnapshot_0 : List UInt8 := [42, 27, 3, 4, 184, 0, 81, 4, 182, 0, 176, 153, 0, 5, 3, 172, 42, 180, 0, 24, 27, 51]
abbrev dktX5_restoreSnapshot_0 : List UInt8 := dkwX5_restoreSnapshot_0 ++ dktX5_restoreSnapshot_1
theorem dksX5_restoreSnapshot_0 : cX5_restoreSnapshot.data.toList.drop 0 = dktX5_restoreSnapshot_0 := by decide +kernel
theorem dksX5_restoreSnapshot_1 : cX5_restoreSnapshot.data.toList.drop 22 = dktX5_restoreSnapshot_1 := dk_seg dksX5_restoreSnapshot_0 22 rfl rfl
theorem dksX5_restoreSnapshot_2 : cX5_restoreSnapshot.data.toList.drop 46 = dktX5_restoreSnapshot_2 := dk_seg dksX5_restoreSnapshot_1 24 rfl rfl
theorem dX5_restoreSnapshot_0 : decode cX5_restoreSnapshot 0 = .ok (.aload_n 0, 1) := dk_42 (dk_at dksX5_restoreSnapshot_0 0 rfl rfl)
theorem dX5_restoreSnapshot_1 : decode cX5_restoreSnapshot 1 = .ok (.iload_n 1, 1) := dk_27 (dk_at dksX5_restoreSnapshot_0 1 rfl rfl)
theorem dX5_restoreSnapshot_2 : decode cX5_restoreSnapshot 2 = .ok (.iconst 0, 1) := dk_3 (dk_at dksX5_restoreSnapshot_0 2 rfl rfl)
theorem dX5_restoreSnapshot_3 : decode cX5_restoreSnapshot 3 = .ok (.iconst 1, 1) := dk_4 (dk_at dksX5_restoreSnapshot_0 3 rfl rfl)
theorem dX5_restoreSnapshot_4 : decode cX5_restoreSnapshot 4 = .ok (.invokestatic 81, 3) := dk_184 0 81 (dk_at dksX5_restoreSnapshot_0 4 rfl rfl)
theorem dX5_restoreSnapshot_7 : decode cX5_restoreSnapshot 7 = .ok (.iconst 1, 1) := dk_4 (dk_at dksX5_restoreSnapshot_0 7 rfl rfl)
theorem dX5_restoreSnapshot_8 : decode cX5_restoreSnapshot 8 = .ok (.invokevirtual 176, 3) := dk_182 0 176 (dk_at dksX5_restoreSnapshot_0 8 rfl rfl)
theorem dX5_restoreSnapshot_11 : decode cX5_restoreSnapshot 11 = .ok (.ifCond .eq 5, 3) := dk_153 0 5 (dk_at dksX5_restoreSnapshot_0 11 rfl rfl)
theorem dX5_restoreSnapshot_14 : decode cX5_restoreSnapshot 14 = .ok (.iconst 0, 1) := dk_3 (dk_at dksX5_restoreSnapshot_0 14 rfl rfl)
theorem dX5_restoreSnapshot_15 : decode cX5_restoreSnapshot 15 = .ok (.ireturn, 1) := dk_172 (dk_at dksX5_restoreSnapshot_0 15 rfl rfl)
theorem dX5_restoreSnapshot_16 : decode cX5_restoreSnapshot 16 = .ok (.aload_n 0, 1) := dk_42 (dk_at dksX5_restoreSnapshot_0 16 rfl rfl)
theorem dX5_restoreSnapshot_17 : decode cX5_restoreSnapshot 17 = .ok (.getfield 24, 3) := dk_180 0 24 (dk_at dksX5_restoreSnapshot_0 17 rfl rfl)
theorem dX5_restoreSnapshot_20 : decode cX5_restoreSnapshot 20 = .ok (.iload_n 1, 1) := dk_27 (dk_at dksX5_restoreSnapshot_0 20 rfl rfl)
theorem dX5_restoreSnapshot_21 : decode cX5_restoreSnapshot 21 = .ok (.baload, 1) := dk_51 (dk_at dksX5_restoreSnapshot_0 21 rfl rfl)
theorem dX5_restoreSnapshot_22 : decode cX5_restoreSnapshot 22 = .ok (.ifCond .ne 5, 3) := dk_154 0 5 (dk_at dksX5_restoreSnapshot_1 0 rfl rfl)
theorem dX5_restoreSnapshot_25 : decode cX5_restoreSnapshot 25 = .ok (.iconst (-1), 1) := dk_2 (dk_at dksX5_restoreSnapshot_1 3 rfl rfl)
theorem dX5_restoreSnapshot_26 : decode cX5_restoreSnapshot 26 = .ok (.ireturn, 1) := dk_172 (dk_at dksX5_restoreSnapshot_1 4 rfl rfl)
theorem dX5_restoreSnapshot_27 : decode cX5_restoreSnapshot 27 = .ok (.aload_n 0, 1) := dk_42 (dk_at dksX5_restoreSnapshot_1 5 rfl rfl)
theorem dX5_restoreSnapshot_28 : decode cX5_restoreSnapshot 28 = .ok (.getfield 18, 3) := dk_180 0 18 (dk_at dksX5_restoreSnapshot_1 6 rfl rfl)
theorem dX5_restoreSnapshot_31 : decode cX5_restoreSnapshot 31 = .ok (.iload_n 1, 1) := dk_27 (dk_at dksX5_restoreSnapshot_1 9 rfl rfl)
theorem dX5_restoreSnapshot_32 : decode cX5_restoreSnapshot 32 = .ok (.aload_n 0, 1) := dk_42 (dk_at dksX5_restoreSnapshot_1 10 rfl rfl)
theorem dX5_restoreSnapshot_33 : decode cX5_restoreSnapshot 33 = .ok (.getfield 11, 3) := dk_180 0 11 (dk_at dksX5_restoreSnapshot_1 11 rfl rfl)
theorem dX5_restoreSnapshot_36 : decode cX5_restoreSnapshot 36 = .ok (.iconst 0, 1) := dk_3 (dk_at dksX5_restoreSnapshot_1 14 rfl rfl)
theorem dX5_restoreSnapshot_37 : decode cX5_restoreSnapshot 37 = .ok (.invokestatic 170, 3) := dk_184 0 170 (dk_at dksX5_restoreSnapshot_1 15 rfl rfl)
theorem dX5_restoreSnapshot_40 : decode cX5_restoreSnapshot 40 = .ok (.aload_n 0, 1) := dk_42 (dk_at dksX5_restoreSnapshot_1 18 rfl rfl)
theorem dX5_restoreSnapshot_41 : decode cX5_restoreSnapshot 41 = .ok (.iconst 0, 1) := dk_3 (dk_at dksX5_restoreSnapshot_1 19 rfl rfl)
theorem dX5_restoreSnapshot_42 : decode cX5_restoreSnapshot 42 = .ok (.putfield 173, 3) := dk_181 0 173 (dk_at dksX5_restoreSnapshot_1 20 rfl rfl)
theorem dX5_restoreSnapshot_45 : decode cX5_restoreSnapshot 45 = .ok (.aload_n 0, 1) := dk_42 (dk_at dksX5_restoreSnapshot_1 23 rfl rfl)
theorem dX5_restoreSnapshot_46 : decode cX5_restoreSnapshot 46 = .ok (.getfield 11, 3) := dk_180 0 11 (dk_at dksX5_restoreSnapshot_2 0 rfl rfl)
theorem dX5_restoreSnapshot_49 : decode cX5_restoreSnapshot 49 = .ok (.iconst 1, 1) := dk_4 (dk_at dksX5_restoreSnapshot_2 3 rfl rfl)
theorem dX5_restoreSnapshot_50 : decode cX5_restoreSnapshot 50 = .ok (.iaload, 1) := dk_46 (dk_at dksX5_restoreSnapshot_2 4 rfl rfl)
theorem dX5_restoreSnapshot_51 : decode cX5_restoreSnapshot 51 = .ok (.ireturn, 1) := dk_172 (dk_at dksX5_restoreSnapshot_2 5 rfl rfl)
theorem q137 : (Jvm.Cond.initialized "TollLeaderModel") ∈ lw_all := lw_g (lw_at lw_m1 26 rfl) rfl
theorem q992 : (Jvm.Cond.selects "TollLeaderModel" ({ cls := "java/lang/Object", name := "getClass", desc := "()Ljava/lang/Class;" } : Jvm.MethodName) ({ cls := "java/lang/Object", name := "getClass", desc := "()Ljava/lang/Class;" } : Jvm.MethodName)) ∈ lw_all := lw_g (lw_at lw_m4 161 rfl) rfl
theorem q2425 : (Jvm.Cond.instantiable "TollLeaderModel" (33 : Nat)) ∈ lw_all := lw_g (lw_at lw_m10 154 rfl) rfl
theorem q2427 : (Jvm.Cond.instanceMethod ({ cls := "TollLeaderModel", name := "<init>", desc := "()V" } : Jvm.MethodName)) ∈ lw_all := lw_g (lw_at lw_m10 156 rfl) rfl
theorem q2428 : (Jvm.Cond.code ({ cls := "TollLeaderModel", name := "<init>", desc := "()V" } : Jvm.MethodName) prog_17_method_1_code (1 : Nat) (Option.none : Option Jvm.ClassFile.FieldType)) ∈ lw_all := lw_g (lw_at lw_m10 157 rfl) rfl
theorem q2429 : (Jvm.Cond.methodLink "TollLeaderModel" (5 : Nat) ({ cls := "java/lang/Object", name := "<init>", desc := "()V" } : Jvm.MethodName)) ∈ lw_all := lw_g (lw_at lw_m10 158 rfl) rfl
theorem q2430 : (Jvm.Cond.methodLink "TollLeaderModel" (70 : Nat) ({ cls := "TollLeaderModel", name := "begins", desc := "([I)V" } : Jvm.MethodName)) ∈ lw_all := lw_g (lw_at lw_m10 159 rfl) rfl
theorem q2431 : (Jvm.Cond.static ({ cls := "TollLeaderModel", name := "begins", desc := "([I)V" } : Jvm.MethodName)) ∈ lw_all := lw_g (lw_at lw_m10 160 rfl) rfl
theorem q2432 : (Jvm.Cond.code ({ cls := "TollLeaderModel", name := "begins", desc := "([I)V" } : Jvm.MethodName) prog_17_method_5_code (2 : Nat) (Option.none : Option Jvm.ClassFile.FieldType)) ∈ lw_all := lw_g (lw_at lw_m10 161 rfl) rfl
theorem q2433 : (Jvm.Cond.fieldLink "TollLeaderModel" (11 : Nat) "TollLeaderModel" "now" "[I") ∈ lw_all := lw_g (lw_at lw_m10 162 rfl) rfl
theorem q2434 : (Jvm.Cond.fieldLink "TollLeaderModel" (15 : Nat) "TollLeaderModel" "read" "[I") ∈ lw_all := lw_g (lw_at lw_m10 163 rfl) rfl
theorem q2435 : (Jvm.Cond.fieldLink "TollLeaderModel" (18 : Nat) "TollLeaderModel" "copies" "[I") ∈ lw_all := lw_g (lw_at lw_m10 164 rfl) rfl
theorem q2436 : (Jvm.Cond.fieldLink "TollLeaderModel" (21 : Nat) "TollLeaderModel" "past" "[I") ∈ lw_all := lw_g (lw_at lw_m10 165 rfl) rfl
theorem q2437 : (Jvm.Cond.fieldLink "TollLeaderModel" (24 : Nat) "TollLeaderModel" "isSaved" "[Z") ∈ lw_all := lw_g (lw_at lw_m10 166 rfl) rfl
theorem q2438 : (Jvm.Cond.fieldLink "TollLeaderModel" (173 : Nat) "TollLeaderModel" "pastMany" "I") ∈ lw_all := lw_g (lw_at lw_m10 167 rfl) rfl
theorem q2439 : (Jvm.Cond.fieldLink "TollLeaderModel" (74 : Nat) "TollLeaderModel" "thrown" "I") ∈ lw_all := lw_g (lw_at lw_m10 168 rfl) rfl
theorem q2440 : (Jvm.Cond.fieldLink "TollLeaderModel" (28 : Nat) "TollLeaderModel" "buffer" "[B") ∈ lw_all := lw_g (lw_at lw_m10 169 rfl) rfl
theorem q2441 : (Jvm.Cond.fieldLink "TollLeaderModel" (91 : Nat) "TollLeaderModel" "length" "I") ∈ lw_all := lw_g (lw_at lw_m10 170 rfl) rfl
theorem q2442 : (Jvm.Cond.fieldLink "TollLeaderModel" (94 : Nat) "TollLeaderModel" "at" "I") ∈ lw_all := lw_g (lw_at lw_m10 171 rfl) rfl
theorem q2443 : (Jvm.Cond.fieldLink "TollLeaderModel" (101 : Nat) "TollLeaderModel" "begin" "I") ∈ lw_all := lw_g (lw_at lw_m10 172 rfl) rfl
theorem q2444 : (Jvm.Cond.fieldLink "TollLeaderModel" (104 : Nat) "TollLeaderModel" "error" "I") ∈ lw_all := lw_g (lw_at lw_m10 173 rfl) rfl
theorem q2445 : (Jvm.Cond.fieldLink "TollLeaderModel" (107 : Nat) "TollLeaderModel" "errorAt" "I") ∈ lw_all := lw_g (lw_at lw_m10 174 rfl) rfl
theorem q2446 : (Jvm.Cond.fieldLink "TollLeaderModel" (156 : Nat) "TollLeaderModel" "statement" "I") ∈ lw_all := lw_g (lw_at lw_m10 175 rfl) rfl
theorem q2447 : (Jvm.Cond.fieldLink "TollLeaderModel" (167 : Nat) "TollLeaderModel" "lastError" "I") ∈ lw_all := lw_g (lw_at lw_m10 176 rfl) rfl
theorem q2448 : (Jvm.Cond.fieldLink "TollLeaderModel" (32 : Nat) "TollLeaderModel" "lastStatement" "I") ∈ lw_all := lw_g (lw_at lw_m10 177 rfl) rfl
theorem q2449 : (Jvm.Cond.fieldLink "TollLeaderModel" (36 : Nat) "TollLeaderModel" "far" "[J") ∈ lw_all := lw_g (lw_at lw_m10 178 rfl) rfl
theorem q2450 : (Jvm.Cond.fieldLink "TollLeaderModel" (203 : Nat) "TollLeaderModel" "awayNodes" "I") ∈ lw_all := lw_g (lw_at lw_m10 179 rfl) rfl
theorem q2451 : (Jvm.Cond.fieldLink "TollLeaderModel" (40 : Nat) "TollLeaderModel" "awayArc" "I") ∈ lw_all := lw_g (lw_at lw_m10 180 rfl) rfl
theorem q2452 : (Jvm.Cond.fieldLink "TollLeaderModel" (210 : Nat) "TollLeaderModel" "isFree" "Z") ∈ lw_all := lw_g (lw_at lw_m10 181 rfl) rfl
theorem q2453 : (Jvm.Cond.fieldLink "TollLeaderModel" (43 : Nat) "TollLeaderModel" "path" "[I") ∈ lw_all := lw_g (lw_at lw_m10 182 rfl) rfl
theorem q2454 : (Jvm.Cond.fieldLink "TollLeaderModel" (235 : Nat) "TollLeaderModel" "pathMany" "I") ∈ lw_all := lw_g (lw_at lw_m10 183 rfl) rfl
theorem q2455 : (Jvm.Cond.fieldLink "TollLeaderModel" (46 : Nat) "TollLeaderModel" "least" "[I") ∈ lw_all := lw_g (lw_at lw_m10 184 rfl) rfl
theorem q2456 : (Jvm.Cond.fieldLink "TollLeaderModel" (49 : Nat) "TollLeaderModel" "high" "[I") ∈ lw_all := lw_g (lw_at lw_m10 185 rfl) rfl
theorem q2457 : (Jvm.Cond.fieldLink "TollLeaderModel" (52 : Nat) "TollLeaderModel" "low" "[I") ∈ lw_all := lw_g (lw_at lw_m10 186 rfl) rfl
theorem q2458 : (Jvm.Cond.fieldLink "TollLeaderModel" (55 : Nat) "TollLeaderModel" "many" "[J") ∈ lw_all := lw_g (lw_at lw_m10 187 rfl) rfl
theorem q2459 : (Jvm.Cond.fieldLink "TollLeaderModel" (58 : Nat) "TollLeaderModel" "tollsAside" "[I") ∈ lw_all := lw_g (lw_at lw_m10 188 rfl) rfl
theorem q2460 : (Jvm.Cond.fieldLink "TollLeaderModel" (61 : Nat) "TollLeaderModel" "turns" "[I") ∈ lw_all := lw_g (lw_at lw_m10 189 rfl) rfl
theorem q2461 : (Jvm.Cond.fieldLink "TollLeaderModel" (315 : Nat) "TollLeaderModel" "turnMany" "I") ∈ lw_all := lw_g (lw_at lw_m10 190 rfl) rfl
theorem q2462 : (Jvm.Cond.fieldLink "TollLeaderModel" (321 : Nat) "TollLeaderModel" "bestRevenue" "J") ∈ lw_all := lw_g (lw_at lw_m10 191 rfl) rfl
theorem q2463 : (Jvm.Cond.fieldLink "TollLeaderModel" (64 : Nat) "TollLeaderModel" "own" "[I") ∈ lw_all := lw_g (lw_at lw_m10 192 rfl) rfl
theorem q2464 : (Jvm.Cond.fieldLink "TollLeaderModel" (67 : Nat) "TollLeaderModel" "output" "[B") ∈ lw_all := lw_g (lw_at lw_m10 193 rfl) rfl
theorem q2465 : (Jvm.Cond.fieldLink "TollLeaderModel" (343 : Nat) "TollLeaderModel" "written" "I") ∈ lw_all := lw_g (lw_at lw_m10 194 rfl) rfl
theorem q2466 : (Jvm.Cond.laysFinal "TollLeaderModel" "TollLeaderModel" "now" "[I") ∈ lw_all := lw_g (lw_at lw_m10 195 rfl) rfl
theorem q2467 : (Jvm.Cond.soleField "TollLeaderModel" "now") ∈ lw_all := lw_g (lw_at lw_m10 196 rfl) rfl
theorem q2468 : (Jvm.Cond.laysFinal "TollLeaderModel" "TollLeaderModel" "read" "[I") ∈ lw_all := lw_g (lw_at lw_m10 197 rfl) rfl
theorem q2469 : (Jvm.Cond.soleField "TollLeaderModel" "read") ∈ lw_all := lw_g (lw_at lw_m10 198 rfl) rfl
theorem q2470 : (Jvm.Cond.laysFinal "TollLeaderModel" "TollLeaderModel" "copies" "[I") ∈ lw_all := lw_g (lw_at lw_m10 199 rfl) rfl
theorem q2471 : (Jvm.Cond.soleField "TollLeaderModel" "copies") ∈ lw_all := lw_g (lw_at lw_m10 200 rfl) rfl
theorem q2472 : (Jvm.Cond.laysFinal "TollLeaderModel" "TollLeaderModel" "past" "[I") ∈ lw_all := lw_g (lw_at lw_m10 201 rfl) rfl
theorem q2473 : (Jvm.Cond.soleField "TollLeaderModel" "past") ∈ lw_all := lw_g (lw_at lw_m10 202 rfl) rfl
theorem q2474 : (Jvm.Cond.laysFinal "TollLeaderModel" "TollLeaderModel" "isSaved" "[Z") ∈ lw_all := lw_g (lw_at lw_m10 203 rfl) rfl
theorem q2475 : (Jvm.Cond.soleField "TollLeaderModel" "isSaved") ∈ lw_all := lw_g (lw_at lw_m10 204 rfl) rfl
theorem q2476 : (Jvm.Cond.lays "TollLeaderModel" "TollLeaderModel" "pastMany" "I") ∈ lw_all := lw_g (lw_at lw_m10 205 rfl) rfl
theorem q2477 : (Jvm.Cond.soleField "TollLeaderModel" "pastMany") ∈ lw_all := lw_g (lw_at lw_m10 206 rfl) rfl
theorem q2478 : (Jvm.Cond.lays "TollLeaderModel" "TollLeaderModel" "thrown" "I") ∈ lw_all := lw_g (lw_at lw_m10 207 rfl) rfl
theorem q2479 : (Jvm.Cond.soleField "TollLeaderModel" "thrown") ∈ lw_all := lw_g (lw_at lw_m10 208 rfl) rfl
theorem q2480 : (Jvm.Cond.laysFinal "TollLeaderModel" "TollLeaderModel" "buffer" "[B") ∈ lw_all := lw_g (lw_at lw_m10 209 rfl) rfl
theorem q2481 : (Jvm.Cond.soleField "TollLeaderModel" "buffer") ∈ lw_all := lw_g (lw_at lw_m10 210 rfl) rfl
theorem q2482 : (Jvm.Cond.lays "TollLeaderModel" "TollLeaderModel" "length" "I") ∈ lw_all := lw_g (lw_at lw_m10 211 rfl) rfl
theorem q2483 : (Jvm.Cond.soleField "TollLeaderModel" "length") ∈ lw_all := lw_g (lw_at lw_m10 212 rfl) rfl
theorem q2484 : (Jvm.Cond.lays "TollLeaderModel" "TollLeaderModel" "at" "I") ∈ lw_all := lw_g (lw_at lw_m10 213 rfl) rfl
theorem q2485 : (Jvm.Cond.soleField "TollLeaderModel" "at") ∈ lw_all := lw_g (lw_at lw_m10 214 rfl) rfl
theorem q2486 : (Jvm.Cond.lays "TollLeaderModel" "TollLeaderModel" "begin" "I") ∈ lw_all := lw_g (lw_at lw_m10 215 rfl) rfl
theorem q2487 : (Jvm.Cond.soleField "TollLeaderModel" "begin") ∈ lw_all := lw_g (lw_at lw_m10 216 rfl) rfl
theorem q2488 : (Jvm.Cond.lays "TollLeaderModel" "TollLeaderModel" "error" "I") ∈ lw_all := lw_g (lw_at lw_m10 217 rfl) rfl
theorem q2489 : (Jvm.Cond.soleField "TollLeaderModel" "error") ∈ lw_all := lw_g (lw_at lw_m10 218 rfl) rfl
theorem q2490 : (Jvm.Cond.lays "TollLeaderModel" "TollLeaderModel" "errorAt" "I") ∈ lw_all := lw_g (lw_at lw_m10 219 rfl) rfl
theorem q2491 : (Jvm.Cond.soleField "TollLeaderModel" "errorAt") ∈ lw_all := lw_g (lw_at lw_m10 220 rfl) rfl
theorem q2492 : (Jvm.Cond.lays "TollLeaderModel" "TollLeaderModel" "statement" "I") ∈ lw_all := lw_g (lw_at lw_m10 221 rfl) rfl
theorem q2493 : (Jvm.Cond.soleField "TollLeaderModel" "statement") ∈ lw_all := lw_g (lw_at lw_m10 222 rfl) rfl
theorem q2494 : (Jvm.Cond.lays "TollLeaderModel" "TollLeaderModel" "lastError" "I") ∈ lw_all := lw_g (lw_at lw_m10 223 rfl) rfl
theorem q2495 : (Jvm.Cond.soleField "TollLeaderModel" "lastError") ∈ lw_all := lw_g (lw_at lw_m10 224 rfl) rfl
theorem q2496 : (Jvm.Cond.lays "TollLeaderModel" "TollLeaderModel" "lastStatement" "I") ∈ lw_all := lw_g (lw_at lw_m10 225 rfl) rfl
theorem q2497 : (Jvm.Cond.soleField "TollLeaderModel" "lastStatement") ∈ lw_all := lw_g (lw_at lw_m10 226 rfl) rfl
theorem q2498 : (Jvm.Cond.laysFinal "TollLeaderModel" "TollLeaderModel" "far" "[J") ∈ lw_all := lw_g (lw_at lw_m10 227 rfl) rfl
theorem q2499 : (Jvm.Cond.soleField "TollLeaderModel" "far") ∈ lw_all := lw_g (lw_at lw_m10 228 rfl) rfl
theorem q2500 : (Jvm.Cond.lays "TollLeaderModel" "TollLeaderModel" "awayNodes" "I") ∈ lw_all := lw_g (lw_at lw_m10 229 rfl) rfl
theorem q2501 : (Jvm.Cond.soleField "TollLeaderModel" "awayNodes") ∈ lw_all := lw_g (lw_at lw_m10 230 rfl) rfl
theorem q2502 : (Jvm.Cond.lays "TollLeaderModel" "TollLeaderModel" "awayArc" "I") ∈ lw_all := lw_g (lw_at lw_m10 231 rfl) rfl
theorem q2503 : (Jvm.Cond.soleField "TollLeaderModel" "awayArc") ∈ lw_all := lw_g (lw_at lw_m10 232 rfl) rfl
theorem q2504 : (Jvm.Cond.lays "TollLeaderModel" "TollLeaderModel" "isFree" "Z") ∈ lw_all := lw_g (lw_at lw_m10 233 rfl) rfl
theorem q2505 : (Jvm.Cond.soleField "TollLeaderModel" "isFree") ∈ lw_all := lw_g (lw_at lw_m10 234 rfl) rfl
theorem q2506 : (Jvm.Cond.laysFinal "TollLeaderModel" "TollLeaderModel" "path" "[I") ∈ lw_all := lw_g (lw_at lw_m10 235 rfl) rfl
theorem q2507 : (Jvm.Cond.soleField "TollLeaderModel" "path") ∈ lw_all := lw_g (lw_at lw_m10 236 rfl) rfl
theorem q2508 : (Jvm.Cond.lays "TollLeaderModel" "TollLeaderModel" "pathMany" "I") ∈ lw_all := lw_g (lw_at lw_m10 237 rfl) rfl
theorem q2509 : (Jvm.Cond.soleField "TollLeaderModel" "pathMany") ∈ lw_all := lw_g (lw_at lw_m10 238 rfl) rfl
theorem q2510 : (Jvm.Cond.laysFinal "TollLeaderModel" "TollLeaderModel" "least" "[I") ∈ lw_all := lw_g (lw_at lw_m10 239 rfl) rfl
theorem q2511 : (Jvm.Cond.soleField "TollLeaderModel" "least") ∈ lw_all := lw_g (lw_at lw_m11 0 rfl) rfl
theorem q2512 : (Jvm.Cond.laysFinal "TollLeaderModel" "TollLeaderModel" "high" "[I") ∈ lw_all := lw_g (lw_at lw_m11 1 rfl) rfl
theorem q2513 : (Jvm.Cond.soleField "TollLeaderModel" "high") ∈ lw_all := lw_g (lw_at lw_m11 2 rfl) rfl
theorem q2514 : (Jvm.Cond.laysFinal "TollLeaderModel" "TollLeaderModel" "low" "[I") ∈ lw_all := lw_g (lw_at lw_m11 3 rfl) rfl
theorem q2515 : (Jvm.Cond.soleField "TollLeaderModel" "low") ∈ lw_all := lw_g (lw_at lw_m11 4 rfl) rfl
theorem q2516 : (Jvm.Cond.laysFinal "TollLeaderModel" "TollLeaderModel" "many" "[J") ∈ lw_all := lw_g (lw_at lw_m11 5 rfl) rfl
theorem q2517 : (Jvm.Cond.soleField "TollLeaderModel" "many") ∈ lw_all := lw_g (lw_at lw_m11 6 rfl) rfl
theorem q2518 : (Jvm.Cond.laysFinal "TollLeaderModel" "TollLeaderModel" "tollsAside" "[I") ∈ lw_all := lw_g (lw_at lw_m11 7 rfl) rfl
theorem q2519 : (Jvm.Cond.soleField "TollLeaderModel" "tollsAside") ∈ lw_all := lw_g (lw_at lw_m11 8 rfl) rfl
theorem q2520 : (Jvm.Cond.laysFinal "TollLeaderModel" "TollLeaderModel" "turns" "[I") ∈ lw_all := lw_g (lw_at lw_m11 9 rfl) rfl
theorem q2521 : (Jvm.Cond.soleField "TollLeaderModel" "turns") ∈ lw_all := lw_g (lw_at lw_m11 10 rfl) rfl
theorem q2522 : (Jvm.Cond.lays "TollLeaderModel" "TollLeaderModel" "turnMany" "I") ∈ lw_all := lw_g (lw_at lw_m11 11 rfl) rfl
theorem q2523 : (Jvm.Cond.soleField "TollLeaderModel" "turnMany") ∈ lw_all := lw_g (lw_at lw_m11 12 rfl) rfl
theorem q2524 : (Jvm.Cond.lays "TollLeaderModel" "TollLeaderModel" "bestRevenue" "J") ∈ lw_all := lw_g (lw_at lw_m11 13 rfl) rfl
theorem q2525 : (Jvm.Cond.soleField "TollLeaderModel" "bestRevenue") ∈ lw_all := lw_g (lw_at lw_m11 14 rfl) rfl
theorem q2526 : (Jvm.Cond.laysFinal "TollLeaderModel" "TollLeaderModel" "own" "[I") ∈ lw_all := lw_g (lw_at lw_m11 15 rfl) rfl
theorem q2527 : (Jvm.Cond.soleField "TollLeaderModel" "own") ∈ lw_all := lw_g (lw_at lw_m11 16 rfl) rfl
theorem q2528 : (Jvm.Cond.laysFinal "TollLeaderModel" "TollLeaderModel" "output" "[B") ∈ lw_all := lw_g (lw_at lw_m11 17 rfl) rfl
theorem q2529 : (Jvm.Cond.soleField "TollLeaderModel" "output") ∈ lw_all := lw_g (lw_at lw_m11 18 rfl) rfl
theorem q2530 : (Jvm.Cond.lays "TollLeaderModel" "TollLeaderModel" "written" "I") ∈ lw_all := lw_g (lw_at lw_m11 19 rfl) rfl
theorem q2531 : (Jvm.Cond.soleField "TollLeaderModel" "written") ∈ lw_all := lw_g (lw_at lw_m11 20 rfl) rfl
theorem q2532 : (Jvm.Cond.superclass "TollLeaderModel" "java/lang/Object") ∈ lw_all := lw_g (lw_at lw_m11 21 rfl) rfl
theorem q2535 : (Jvm.Cond.instanceMethod ({ cls := "TollLeaderModel", name := "thrown", desc := "()I" } : Jvm.MethodName)) ∈ lw_all := lw_g (lw_at lw_m11 24 rfl) rfl
theorem q2536 : (Jvm.Cond.selects "TollLeaderModel" ({ cls := "TollLeaderModel", name := "thrown", desc := "()I" } : Jvm.MethodName) ({ cls := "TollLeaderModel", name := "thrown", desc := "()I" } : Jvm.MethodName)) ∈ lw_all := lw_g (lw_at lw_m11 25 rfl) rfl
theorem q2537 : (Jvm.Cond.code ({ cls := "TollLeaderModel", name := "thrown", desc := "()I" } : Jvm.MethodName) prog_17_method_2_code (1 : Nat) (Option.some Jvm.ClassFile.FieldType.int)) ∈ lw_all := lw_g (lw_at lw_m11 26 rfl) rfl
theorem q2539 : (Jvm.Cond.instanceMethod ({ cls := "TollLeaderModel", name := "append", desc := "(J)I" } : Jvm.MethodName)) ∈ lw_all := lw_g (lw_at lw_m11 28 rfl) rfl
theorem q2540 : (Jvm.Cond.selects "TollLeaderModel" ({ cls := "TollLeaderModel", name := "append", desc := "(J)I" } : Jvm.MethodName) ({ cls := "TollLeaderModel", name := "append", desc := "(J)I" } : Jvm.MethodName)) ∈ lw_all := lw_g (lw_at lw_m11 29 rfl) rfl
theorem q2541 : (Jvm.Cond.code ({ cls := "TollLeaderModel", name := "append", desc := "(J)I" } : Jvm.MethodName) prog_17_method_13_code (5 : Nat) (Option.some Jvm.ClassFile.FieldType.int)) ∈ lw_all := lw_g (lw_at lw_m11 30 rfl) rfl
theorem q2542 : (Jvm.Cond.methodLink "TollLeaderModel" (87 : Nat) ({ cls := "TollLeaderModel", name := "byteOf", desc := "(JI)I" } : Jvm.MethodName)) ∈ lw_all := lw_g (lw_at lw_m11 31 rfl) rfl
theorem q2543 : (Jvm.Cond.static ({ cls := "TollLeaderModel", name := "byteOf", desc := "(JI)I" } : Jvm.MethodName)) ∈ lw_all := lw_g (lw_at lw_m11 32 rfl) rfl
theorem q2544 : (Jvm.Cond.code ({ cls := "TollLeaderModel", name := "byteOf", desc := "(JI)I" } : Jvm.MethodName) prog_17_method_12_code (3 : Nat) (Option.some Jvm.ClassFile.FieldType.int)) ∈ lw_all := lw_g (lw_at lw_m11 33 rfl) rfl
theorem q2545 : (Jvm.Cond.constantLong "TollLeaderModel" (85 : Nat) (255 : Int64)) ∈ lw_all := lw_g (lw_at lw_m11 34 rfl) rfl
theorem q2547 : (Jvm.Cond.instanceMethod ({ cls := "TollLeaderModel", name := "load", desc := "()I" } : Jvm.MethodName)) ∈ lw_all := lw_g (lw_at lw_m11 36 rfl) rfl
theorem q2548 : (Jvm.Cond.selects "TollLeaderModel" ({ cls := "TollLeaderModel", name := "load", desc := "()I" } : Jvm.MethodName) ({ cls := "TollLeaderModel", name := "load", desc := "()I" } : Jvm.MethodName)) ∈ lw_all := lw_g (lw_at lw_m11 37 rfl) rfl
theorem q2549 : (Jvm.Cond.code ({ cls := "TollLeaderModel", name := "load", desc := "()I" } : Jvm.MethodName) prog_17_method_25_code (1 : Nat) (Option.some Jvm.ClassFile.FieldType.int)) ∈ lw_all := lw_g (lw_at lw_m11 38 rfl) rfl
theorem q2550 : (Jvm.Cond.methodLink "TollLeaderModel" (137 : Nat) ({ cls := "TollLeaderModel", name := "reads", desc := "()V" } : Jvm.MethodName)) ∈ lw_all := lw_g (lw_at lw_m11 39 rfl) rfl
theorem q2551 : (Jvm.Cond.privateMethod ({ cls := "TollLeaderModel", name := "reads", desc := "()V" } : Jvm.MethodName)) ∈ lw_tbl := lw_at lw_m11 40 rfl
theorem q2552 : (Jvm.Cond.instanceMethod ({ cls := "TollLeaderModel", name := "reads", desc := "()V" } : Jvm.MethodName)) ∈ lw_all := lw_g (lw_at lw_m11 41 rfl) rfl
theorem q2553 : (Jvm.Cond.code ({ cls := "TollLeaderModel", name := "reads", desc := "()V" } : Jvm.MethodName) prog_17_method_17_code (1 : Nat) (Option.none : Option Jvm.ClassFile.FieldType)) ∈ lw_all := lw_g (lw_at lw_m11 42 rfl) rfl
theorem q2554 : (Jvm.Cond.methodLink "TollLeaderModel" (110 : Nat) ({ cls := "TollLeaderModel", name := "next", desc := "()I" } : Jvm.MethodName)) ∈ lw_all := lw_g (lw_at lw_m11 43 rfl) rfl
theorem q2555 : (Jvm.Cond.privateMethod ({ cls := "TollLeaderModel", name := "next", desc := "()I" } : Jvm.MethodName)) ∈ lw_tbl := lw_at lw_m11 44 rfl
theorem q2556 : (Jvm.Cond.instanceMethod ({ cls := "TollLeaderModel", name := "next", desc := "()I" } : Jvm.MethodName)) ∈ lw_all := lw_g (lw_at lw_m11 45 rfl) rfl
theorem q2557 : (Jvm.Cond.code ({ cls := "TollLeaderModel", name := "next", desc := "()I" } : Jvm.MethodName) prog_17_method_15_code (1 : Nat) (Option.some Jvm.ClassFile.FieldType.int)) ∈ lw_all := lw_g (lw_at lw_m11 46 rfl) rfl
theorem q2558 : (Jvm.Cond.methodLink "TollLeaderModel" (97 : Nat) ({ cls := "TollLeaderModel", name := "here", desc := "()I" } : Jvm.MethodName)) ∈ lw_all := lw_g (lw_at lw_m11 47 rfl) rfl
theorem q2559 : (Jvm.Cond.privateMethod ({ cls := "TollLeaderModel", name := "here", desc := "()I" } : Jvm.MethodName)) ∈ lw_tbl := lw_at lw_m11 48 rfl
theorem q2560 : (Jvm.Cond.instanceMethod ({ cls := "TollLeaderModel", name := "here", desc := "()I" } : Jvm.MethodName)) ∈ lw_all := lw_g (lw_at lw_m11 49 rfl) rfl
theorem q2561 : (Jvm.Cond.code ({ cls := "TollLeaderModel", name := "here", desc := "()I" } : Jvm.MethodName) prog_17_method_14_code (1 : Nat) (Option.some Jvm.ClassFile.FieldType.int)) ∈ lw_all := lw_g (lw_at lw_m11 50 rfl) rfl
theorem q2562 : (Jvm.Cond.methodLink "TollLeaderModel" (81 : Nat) ({ cls := "TollLeaderModel", name := "in", desc := "(III)Z" } : Jvm.MethodName)) ∈ lw_all := lw_g (lw_at lw_m11 51 rfl) rfl
theorem q2563 : (Jvm.Cond.static ({ cls := "TollLeaderModel", name := "in", desc := "(III)Z" } : Jvm.MethodName)) ∈ lw_all := lw_g (lw_at lw_m11 52 rfl) rfl
theorem q2564 : (Jvm.Cond.code ({ cls := "TollLeaderModel", name := "in", desc := "(III)Z" } : Jvm.MethodName) prog_17_method_3_code (3 : Nat) (Option.some Jvm.ClassFile.FieldType.boolean)) ∈ lw_all := lw_g (lw_at lw_m11 53 rfl) rfl
theorem q2565 : (Jvm.Cond.stringRef "TollLeaderModel" (159 : Nat) "nodes") ∈ lw_tbl := lw_at lw_m11 54 rfl
theorem q2566 : (Jvm.Cond.methodLink "TollLeaderModel" (142 : Nat) ({ cls := "TollLeaderModel", name := "isWord", desc := "(Ljava/lang/String;)Z" } : Jvm.MethodName)) ∈ lw_all := lw_g (lw_at lw_m11 55 rfl) rfl
theorem q2567 : (Jvm.Cond.privateMethod ({ cls := "TollLeaderModel", name := "isWord", desc := "(Ljava/lang/String;)Z" } : Jvm.MethodName)) ∈ lw_tbl := lw_at lw_m11 56 rfl
theorem q2568 : (Jvm.Cond.instanceMethod ({ cls := "TollLeaderModel", name := "isWord", desc := "(Ljava/lang/String;)Z" } : Jvm.MethodName)) ∈ lw_all := lw_g (lw_at lw_m11 57 rfl) rfl
theorem q2569 : (Jvm.Cond.code ({ cls := "TollLeaderModel", name := "isWord", desc := "(Ljava/lang/String;)Z" } : Jvm.MethodName) prog_17_method_18_code (4 : Nat) (Option.some Jvm.ClassFile.FieldType.boolean)) ∈ lw_all := lw_g (lw_at lw_m11 58 rfl) rfl
theorem q2570 : (Jvm.Cond.methodLink "TollLeaderModel" (113 : Nat) ({ cls := "java/lang/String", name := "length", desc := "()I" } : Jvm.MethodName)) ∈ lw_all := lw_g (lw_at lw_m11 59 rfl) rfl
theorem q2571 : (Jvm.Cond.methodLink "TollLeaderModel" (117 : Nat) ({ cls := "java/lang/String", name := "charAt", desc := "(I)C" } : Jvm.MethodName)) ∈ lw_all := lw_g (lw_at lw_m11 60 rfl) rfl
theorem q2582 : (Jvm.Cond.methodLink "TollLeaderModel" (121 : Nat) ({ cls := "TollLeaderModel", name := "fails", desc := "(I)V" } : Jvm.MethodName)) ∈ lw_all := lw_g (lw_at lw_m11 71 rfl) rfl
theorem q2583 : (Jvm.Cond.privateMethod ({ cls := "TollLeaderModel", name := "fails", desc := "(I)V" } : Jvm.MethodName)) ∈ lw_tbl := lw_at lw_m11 72 rfl
theorem q2584 : (Jvm.Cond.instanceMethod ({ cls := "TollLeaderModel", name := "fails", desc := "(I)V" } : Jvm.MethodName)) ∈ lw_all := lw_g (lw_at lw_m11 73 rfl) rfl
theorem q2585 : (Jvm.Cond.code ({ cls := "TollLeaderModel", name := "fails", desc := "(I)V" } : Jvm.MethodName) prog_17_method_16_code (2 : Nat) (Option.none : Option Jvm.ClassFile.FieldType)) ∈ lw_all := lw_g (lw_at lw_m11 74 rfl) rfl
theorem q2586 : (Jvm.Cond.methodLink "TollLeaderModel" (131 : Nat) ({ cls := "TollLeaderModel", name := "number", desc := "(II)I" } : Jvm.MethodName)) ∈ lw_all := lw_g (lw_at lw_m11 75 rfl) rfl
theorem q2587 : (Jvm.Cond.privateMethod ({ cls := "TollLeaderModel", name := "number", desc := "(II)I" } : Jvm.MethodName)) ∈ lw_tbl := lw_at lw_m11 76 rfl
theorem q2588 : (Jvm.Cond.instanceMethod ({ cls := "TollLeaderModel", name := "number", desc := "(II)I" } : Jvm.MethodName)) ∈ lw_all := lw_g (lw_at lw_m11 77 rfl) rfl
theorem q2589 : (Jvm.Cond.code ({ cls := "TollLeaderModel", name := "number", desc := "(II)I" } : Jvm.MethodName) prog_17_method_19_code (4 : Nat) (Option.some Jvm.ClassFile.FieldType.int)) ∈ lw_all := lw_g (lw_at lw_m11 78 rfl) rfl
theorem q2590 : (Jvm.Cond.constant "TollLeaderModel" (125 : Nat) (10000000 : Int32)) ∈ lw_all := lw_g (lw_at lw_m11 79 rfl) rfl
theorem q2591 : (Jvm.Cond.methodLink "TollLeaderModel" (126 : Nat) ({ cls := "java/lang/Math", name := "min", desc := "(II)I" } : Jvm.MethodName)) ∈ lw_all := lw_g (lw_at lw_m11 80 rfl) rfl
theorem q2592 : (Jvm.Cond.methodLink "TollLeaderModel" (161 : Nat) ({ cls := "TollLeaderModel", name := "isMore", desc := "()Z" } : Jvm.MethodName)) ∈ lw_all := lw_g (lw_at lw_m11 81 rfl) rfl
theorem q2593 : (Jvm.Cond.privateMethod ({ cls := "TollLeaderModel", name := "isMore", desc := "()Z" } : Jvm.MethodName)) ∈ lw_tbl := lw_at lw_m11 82 rfl
theorem q2594 : (Jvm.Cond.instanceMethod ({ cls := "TollLeaderModel", name := "isMore", desc := "()Z" } : Jvm.MethodName)) ∈ lw_all := lw_g (lw_at lw_m11 83 rfl) rfl
theorem q2595 : (Jvm.Cond.code ({ cls := "TollLeaderModel", name := "isMore", desc := "()Z" } : Jvm.MethodName) prog_17_method_24_code (1 : Nat) (Option.some Jvm.ClassFile.FieldType.boolean)) ∈ lw_all := lw_g (lw_at lw_m11 84 rfl) rfl
theorem q2596 : (Jvm.Cond.methodLink "TollLeaderModel" (165 : Nat) ({ cls := "TollLeaderModel", name := "statement", desc := "()V" } : Jvm.MethodName)) ∈ lw_all := lw_g (lw_at lw_m11 85 rfl) rfl
theorem q2597 : (Jvm.Cond.privateMethod ({ cls := "TollLeaderModel", name := "statement", desc := "()V" } : Jvm.MethodName)) ∈ lw_tbl := lw_at lw_m11 86 rfl
theorem q2598 : (Jvm.Cond.instanceMethod ({ cls := "TollLeaderModel", name := "statement", desc := "()V" } : Jvm.MethodName)) ∈ lw_all := lw_g (lw_at lw_m11 87 rfl) rfl
theorem q2599 : (Jvm.Cond.code ({ cls := "TollLeaderModel", name := "statement", desc := "()V" } : Jvm.MethodName) prog_17_method_23_code (1 : Nat) (Option.none : Option Jvm.ClassFile.FieldType)) ∈ lw_all := lw_g (lw_at lw_m11 88 rfl) rfl
theorem q2600 : (Jvm.Cond.stringRef "TollLeaderModel" (146 : Nat) "arc") ∈ lw_tbl := lw_at lw_m11 89 rfl
theorem q2601 : (Jvm.Cond.methodLink "TollLeaderModel" (148 : Nat) ({ cls := "TollLeaderModel", name := "arcPart", desc := "()V" } : Jvm.MethodName)) ∈ lw_all := lw_g (lw_at lw_m11 90 rfl) rfl
theorem q2602 : (Jvm.Cond.privateMethod ({ cls := "TollLeaderModel", name := "arcPart", desc := "()V" } : Jvm.MethodName)) ∈ lw_tbl := lw_at lw_m11 91 rfl
theorem q2603 : (Jvm.Cond.instanceMethod ({ cls := "TollLeaderModel", name := "arcPart", desc := "()V" } : Jvm.MethodName)) ∈ lw_all := lw_g (lw_at lw_m11 92 rfl) rfl
theorem q2604 : (Jvm.Cond.code ({ cls := "TollLeaderModel", name := "arcPart", desc := "()V" } : Jvm.MethodName) prog_17_method_21_code (2 : Nat) (Option.none : Option Jvm.ClassFile.FieldType)) ∈ lw_all := lw_g (lw_at lw_m11 93 rfl) rfl
theorem q2605 : (Jvm.Cond.methodLink "TollLeaderModel" (77 : Nat) ({ cls := "TollLeaderModel", name := "atArc", desc := "(II)I" } : Jvm.MethodName)) ∈ lw_all := lw_g (lw_at lw_m11 94 rfl) rfl
theorem q2606 : (Jvm.Cond.static ({ cls := "TollLeaderModel", name := "atArc", desc := "(II)I" } : Jvm.MethodName)) ∈ lw_all := lw_g (lw_at lw_m11 95 rfl) rfl
theorem q2607 : (Jvm.Cond.code ({ cls := "TollLeaderModel", name := "atArc", desc := "(II)I" } : Jvm.MethodName) prog_17_method_7_code (2 : Nat) (Option.some Jvm.ClassFile.FieldType.int)) ∈ lw_all := lw_g (lw_at lw_m11 96 rfl) rfl
theorem q2608 : (Jvm.Cond.methodLink "TollLeaderModel" (134 : Nat) ({ cls := "TollLeaderModel", name := "ends", desc := "(I)V" } : Jvm.MethodName)) ∈ lw_all := lw_g (lw_at lw_m11 97 rfl) rfl
theorem q2609 : (Jvm.Cond.privateMethod ({ cls := "TollLeaderModel", name := "ends", desc := "(I)V" } : Jvm.MethodName)) ∈ lw_tbl := lw_at lw_m11 98 rfl
theorem q2610 : (Jvm.Cond.instanceMethod ({ cls := "TollLeaderModel", name := "ends", desc := "(I)V" } : Jvm.MethodName)) ∈ lw_all := lw_g (lw_at lw_m11 99 rfl) rfl
theorem q2611 : (Jvm.Cond.code ({ cls := "TollLeaderModel", name := "ends", desc := "(I)V" } : Jvm.MethodName) prog_17_method_20_code (2 : Nat) (Option.none : Option Jvm.ClassFile.FieldType)) ∈ lw_all := lw_g (lw_at lw_m11 100 rfl) rfl
theorem q2612 : (Jvm.Cond.stringRef "TollLeaderModel" (140 : Nat) "toll") ∈ lw_tbl := lw_at lw_m11 101 rfl
theorem q2613 : (Jvm.Cond.stringRef "TollLeaderModel" (151 : Nat) "trip") ∈ lw_tbl := lw_at lw_m11 102 rfl
theorem q2614 : (Jvm.Cond.methodLink "TollLeaderModel" (153 : Nat) ({ cls := "TollLeaderModel", name := "tripPart", desc := "()V" } : Jvm.MethodName)) ∈ lw_all := lw_g (lw_at lw_m11 103 rfl) rfl
theorem q2615 : (Jvm.Cond.privateMethod ({ cls := "TollLeaderModel", name := "tripPart", desc := "()V" } : Jvm.MethodName)) ∈ lw_tbl := lw_at lw_m11 104 rfl
theorem q2616 : (Jvm.Cond.instanceMethod ({ cls := "TollLeaderModel", name := "tripPart", desc := "()V" } : Jvm.MethodName)) ∈ lw_all := lw_g (lw_at lw_m11 105 rfl) rfl
theorem q2617 : (Jvm.Cond.code ({ cls := "TollLeaderModel", name := "tripPart", desc := "()V" } : Jvm.MethodName) prog_17_method_22_code (2 : Nat) (Option.none : Option Jvm.ClassFile.FieldType)) ∈ lw_all := lw_g (lw_at lw_m11 106 rfl) rfl
theorem q2618 : (Jvm.Cond.methodLink "TollLeaderModel" (170 : Nat) ({ cls := "TollLeaderModel", name := "copies", desc := "([II[II)V" } : Jvm.MethodName)) ∈ lw_all := lw_g (lw_at lw_m11 107 rfl) rfl
theorem q2619 : (Jvm.Cond.static ({ cls := "TollLeaderModel", name := "copies", desc := "([II[II)V" } : Jvm.MethodName)) ∈ lw_all := lw_g (lw_at lw_m11 108 rfl) rfl
theorem q2620 : (Jvm.Cond.code ({ cls := "TollLeaderModel", name := "copies", desc := "([II[II)V" } : Jvm.MethodName) prog_17_method_4_code (5 : Nat) (Option.none : Option Jvm.ClassFile.FieldType)) ∈ lw_all := lw_g (lw_at lw_m11 109 rfl) rfl
theorem q2622 : (Jvm.Cond.instanceMethod ({ cls := "TollLeaderModel", name := "loadError", desc := "()I" } : Jvm.MethodName)) ∈ lw_all := lw_g (lw_at lw_m11 111 rfl) rfl
theorem q2623 : (Jvm.Cond.selects "TollLeaderModel" ({ cls := "TollLeaderModel", name := "loadError", desc := "()I" } : Jvm.MethodName) ({ cls := "TollLeaderModel", name := "loadError", desc := "()I" } : Jvm.MethodName)) ∈ lw_all := lw_g (lw_at lw_m11 112 rfl) rfl
theorem q2624 : (Jvm.Cond.code ({ cls := "TollLeaderModel", name := "loadError", desc := "()I" } : Jvm.MethodName) prog_17_method_26_code (1 : Nat) (Option.some Jvm.ClassFile.FieldType.int)) ∈ lw_all := lw_g (lw_at lw_m11 113 rfl) rfl
theorem q2626 : (Jvm.Cond.instanceMethod ({ cls := "TollLeaderModel", name := "loadStatement", desc := "()I" } : Jvm.MethodName)) ∈ lw_all := lw_g (lw_at lw_m11 115 rfl) rfl
theorem q2627 : (Jvm.Cond.selects "TollLeaderModel" ({ cls := "TollLeaderModel", name := "loadStatement", desc := "()I" } : Jvm.MethodName) ({ cls := "TollLeaderModel", name := "loadStatement", desc := "()I" } : Jvm.MethodName)) ∈ lw_all := lw_g (lw_at lw_m11 116 rfl) rfl
theorem q2628 : (Jvm.Cond.code ({ cls := "TollLeaderModel", name := "loadStatement", desc := "()I" } : Jvm.MethodName) prog_17_method_27_code (1 : Nat) (Option.some Jvm.ClassFile.FieldType.int)) ∈ lw_all := lw_g (lw_at lw_m11 117 rfl) rfl
theorem q2630 : (Jvm.Cond.instanceMethod ({ cls := "TollLeaderModel", name := "count", desc := "(I)I" } : Jvm.MethodName)) ∈ lw_all := lw_g (lw_at lw_m11 119 rfl) rfl
theorem q2631 : (Jvm.Cond.selects "TollLeaderModel" ({ cls := "TollLeaderModel", name := "count", desc := "(I)I" } : Jvm.MethodName) ({ cls := "TollLeaderModel", name := "count", desc := "(I)I" } : Jvm.MethodName)) ∈ lw_all := lw_g (lw_at lw_m11 120 rfl) rfl
theorem q2632 : (Jvm.Cond.code ({ cls := "TollLeaderModel", name := "count", desc := "(I)I" } : Jvm.MethodName) prog_17_method_28_code (4 : Nat) (Option.some Jvm.ClassFile.FieldType.int)) ∈ lw_all := lw_g (lw_at lw_m11 121 rfl) rfl
theorem q2633 : (Jvm.Cond.methodLink "TollLeaderModel" (176 : Nat) ({ cls := "TollLeaderModel", name := "isThrown", desc := "(ZI)Z" } : Jvm.MethodName)) ∈ lw_all := lw_g (lw_at lw_m11 122 rfl) rfl
theorem q2634 : (Jvm.Cond.privateMethod ({ cls := "TollLeaderModel", name := "isThrown", desc := "(ZI)Z" } : Jvm.MethodName)) ∈ lw_tbl := lw_at lw_m11 123 rfl
theorem q2635 : (Jvm.Cond.instanceMethod ({ cls := "TollLeaderModel", name := "isThrown", desc := "(ZI)Z" } : Jvm.MethodName)) ∈ lw_all := lw_g (lw_at lw_m11 124 rfl) rfl
theorem q2636 : (Jvm.Cond.code ({ cls := "TollLeaderModel", name := "isThrown", desc := "(ZI)Z" } : Jvm.MethodName) prog_17_method_6_code (3 : Nat) (Option.some Jvm.ClassFile.FieldType.boolean)) ∈ lw_all := lw_g (lw_at lw_m11 125 rfl) rfl
theorem q2637 : (Jvm.Cond.methodLink "TollLeaderModel" (180 : Nat) ({ cls := "TollLeaderModel", name := "arc", desc := "(II)I" } : Jvm.MethodName)) ∈ lw_all := lw_g (lw_at lw_m11 126 rfl) rfl
theorem q2638 : (Jvm.Cond.privateMethod ({ cls := "TollLeaderModel", name := "arc", desc := "(II)I" } : Jvm.MethodName)) ∈ lw_tbl := lw_at lw_m11 127 rfl
theorem q2639 : (Jvm.Cond.instanceMethod ({ cls := "TollLeaderModel", name := "arc", desc := "(II)I" } : Jvm.MethodName)) ∈ lw_all := lw_g (lw_at lw_m11 128 rfl) rfl
theorem q2640 : (Jvm.Cond.code ({ cls := "TollLeaderModel", name := "arc", desc := "(II)I" } : Jvm.MethodName) prog_17_method_8_code (3 : Nat) (Option.some Jvm.ClassFile.FieldType.int)) ∈ lw_all := lw_g (lw_at lw_m11 129 rfl) rfl
theorem q2642 : (Jvm.Cond.instanceMethod ({ cls := "TollLeaderModel", name := "arcValue", desc := "(II)I" } : Jvm.MethodName)) ∈ lw_all := lw_g (lw_at lw_m11 131 rfl) rfl
theorem q2643 : (Jvm.Cond.selects "TollLeaderModel" ({ cls := "TollLeaderModel", name := "arcValue", desc := "(II)I" } : Jvm.MethodName) ({ cls := "TollLeaderModel", name := "arcValue", desc := "(II)I" } : Jvm.MethodName)) ∈ lw_all := lw_g (lw_at lw_m11 132 rfl) rfl
theorem q2644 : (Jvm.Cond.code ({ cls := "TollLeaderModel", name := "arcValue", desc := "(II)I" } : Jvm.MethodName) prog_17_method_29_code (3 : Nat) (Option.some Jvm.ClassFile.FieldType.int)) ∈ lw_all := lw_g (lw_at lw_m11 133 rfl) rfl
theorem q2645 : (Jvm.Cond.methodLink "TollLeaderModel" (182 : Nat) ({ cls := "TollLeaderModel", name := "isArc", desc := "(I)Z" } : Jvm.MethodName)) ∈ lw_all := lw_g (lw_at lw_m11 134 rfl) rfl
theorem q2646 : (Jvm.Cond.privateMethod ({ cls := "TollLeaderModel", name := "isArc", desc := "(I)Z" } : Jvm.MethodName)) ∈ lw_tbl := lw_at lw_m11 135 rfl
theorem q2647 : (Jvm.Cond.instanceMethod ({ cls := "TollLeaderModel", name := "isArc", desc := "(I)Z" } : Jvm.MethodName)) ∈ lw_all := lw_g (lw_at lw_m11 136 rfl) rfl
theorem q2648 : (Jvm.Cond.code ({ cls := "TollLeaderModel", name := "isArc", desc := "(I)Z" } : Jvm.MethodName) prog_17_method_10_code (2 : Nat) (Option.some Jvm.ClassFile.FieldType.boolean)) ∈ lw_all := lw_g (lw_at lw_m11 137 rfl) rfl
theorem q2650 : (Jvm.Cond.instanceMethod ({ cls := "TollLeaderModel", name := "tripValue", desc := "(II)I" } : Jvm.MethodName)) ∈ lw_all := lw_g (lw_at lw_m11 139 rfl) rfl
theorem q2651 : (Jvm.Cond.selects "TollLeaderModel" ({ cls := "TollLeaderModel", name := "tripValue", desc := "(II)I" } : Jvm.MethodName) ({ cls := "TollLeaderModel", name := "tripValue", desc := "(II)I" } : Jvm.MethodName)) ∈ lw_all := lw_g (lw_at lw_m11 140 rfl) rfl
theorem q2652 : (Jvm.Cond.code ({ cls := "TollLeaderModel", name := "tripValue", desc := "(II)I" } : Jvm.MethodName) prog_17_method_30_code (3 : Nat) (Option.some Jvm.ClassFile.FieldType.int)) ∈ lw_all := lw_g (lw_at lw_m11 141 rfl) rfl
theorem q2653 : (Jvm.Cond.methodLink "TollLeaderModel" (186 : Nat) ({ cls := "TollLeaderModel", name := "isTrip", desc := "(I)Z" } : Jvm.MethodName)) ∈ lw_all := lw_g (lw_at lw_m11 142 rfl) rfl
theorem q2654 : (Jvm.Cond.privateMethod ({ cls := "TollLeaderModel", name := "isTrip", desc := "(I)Z" } : Jvm.MethodName)) ∈ lw_tbl := lw_at lw_m11 143 rfl
theorem q2655 : (Jvm.Cond.instanceMethod ({ cls := "TollLeaderModel", name := "isTrip", desc := "(I)Z" } : Jvm.MethodName)) ∈ lw_all := lw_g (lw_at lw_m11 144 rfl) rfl
theorem q2656 : (Jvm.Cond.code ({ cls := "TollLeaderModel", name := "isTrip", desc := "(I)Z" } : Jvm.MethodName) prog_17_method_11_code (2 : Nat) (Option.some Jvm.ClassFile.FieldType.boolean)) ∈ lw_all := lw_g (lw_at lw_m11 145 rfl) rfl
theorem q2657 : (Jvm.Cond.methodLink "TollLeaderModel" (189 : Nat) ({ cls := "TollLeaderModel", name := "trip", desc := "(II)I" } : Jvm.MethodName)) ∈ lw_all := lw_g (lw_at lw_m11 146 rfl) rfl
theorem q2658 : (Jvm.Cond.privateMethod ({ cls := "TollLeaderModel", name := "trip", desc := "(II)I" } : Jvm.MethodName)) ∈ lw_tbl := lw_at lw_m11 147 rfl
theorem q2659 : (Jvm.Cond.instanceMethod ({ cls := "TollLeaderModel", name := "trip", desc := "(II)I" } : Jvm.MethodName)) ∈ lw_all := lw_g (lw_at lw_m11 148 rfl) rfl
theorem q2660 : (Jvm.Cond.code ({ cls := "TollLeaderModel", name := "trip", desc := "(II)I" } : Jvm.MethodName) prog_17_method_9_code (3 : Nat) (Option.some Jvm.ClassFile.FieldType.int)) ∈ lw_all := lw_g (lw_at lw_m11 149 rfl) rfl
theorem q2662 : (Jvm.Cond.instanceMethod ({ cls := "TollLeaderModel", name := "setToll", desc := "(II)I" } : Jvm.MethodName)) ∈ lw_all := lw_g (lw_at lw_m11 151 rfl) rfl
theorem q2663 : (Jvm.Cond.selects "TollLeaderModel" ({ cls := "TollLeaderModel", name := "setToll", desc := "(II)I" } : Jvm.MethodName) ({ cls := "TollLeaderModel", name := "setToll", desc := "(II)I" } : Jvm.MethodName)) ∈ lw_all := lw_g (lw_at lw_m11 152 rfl) rfl
theorem q2664 : (Jvm.Cond.code ({ cls := "TollLeaderModel", name := "setToll", desc := "(II)I" } : Jvm.MethodName) prog_17_method_33_code (3 : Nat) (Option.some Jvm.ClassFile.FieldType.int)) ∈ lw_all := lw_g (lw_at lw_m11 153 rfl) rfl
theorem q2665 : (Jvm.Cond.methodLink "TollLeaderModel" (194 : Nat) ({ cls := "TollLeaderModel", name := "sets", desc := "(II)I" } : Jvm.MethodName)) ∈ lw_all := lw_g (lw_at lw_m11 154 rfl) rfl
theorem q2666 : (Jvm.Cond.privateMethod ({ cls := "TollLeaderModel", name := "sets", desc := "(II)I" } : Jvm.MethodName)) ∈ lw_tbl := lw_at lw_m11 155 rfl
theorem q2667 : (Jvm.Cond.instanceMethod ({ cls := "TollLeaderModel", name := "sets", desc := "(II)I" } : Jvm.MethodName)) ∈ lw_all := lw_g (lw_at lw_m11 156 rfl) rfl
theorem q2668 : (Jvm.Cond.code ({ cls := "TollLeaderModel", name := "sets", desc := "(II)I" } : Jvm.MethodName) prog_17_method_32_code (4 : Nat) (Option.some Jvm.ClassFile.FieldType.int)) ∈ lw_all := lw_g (lw_at lw_m11 157 rfl) rfl
theorem q2669 : (Jvm.Cond.methodLink "TollLeaderModel" (191 : Nat) ({ cls := "TollLeaderModel", name := "keeps", desc := "()V" } : Jvm.MethodName)) ∈ lw_all := lw_g (lw_at lw_m11 158 rfl) rfl
theorem q2670 : (Jvm.Cond.privateMethod ({ cls := "TollLeaderModel", name := "keeps", desc := "()V" } : Jvm.MethodName)) ∈ lw_tbl := lw_at lw_m11 159 rfl
theorem q2671 : (Jvm.Cond.instanceMethod ({ cls := "TollLeaderModel", name := "keeps", desc := "()V" } : Jvm.MethodName)) ∈ lw_all := lw_g (lw_at lw_m11 160 rfl) rfl
theorem q2672 : (Jvm.Cond.code ({ cls := "TollLeaderModel", name := "keeps", desc := "()V" } : Jvm.MethodName) prog_17_method_31_code (2 : Nat) (Option.none : Option Jvm.ClassFile.FieldType)) ∈ lw_all := lw_g (lw_at lw_m11 161 rfl) rfl
theorem q2674 : (Jvm.Cond.instanceMethod ({ cls := "TollLeaderModel", name := "addTolls", desc := "(I)I" } : Jvm.MethodName)) ∈ lw_all := lw_g (lw_at lw_m11 163 rfl) rfl
theorem q2675 : (Jvm.Cond.selects "TollLeaderModel" ({ cls := "TollLeaderModel", name := "addTolls", desc := "(I)I" } : Jvm.MethodName) ({ cls := "TollLeaderModel", name := "addTolls", desc := "(I)I" } : Jvm.MethodName)) ∈ lw_all := lw_g (lw_at lw_m11 164 rfl) rfl
theorem q2676 : (Jvm.Cond.code ({ cls := "TollLeaderModel", name := "addTolls", desc := "(I)I" } : Jvm.MethodName) prog_17_method_35_code (4 : Nat) (Option.some Jvm.ClassFile.FieldType.int)) ∈ lw_all := lw_g (lw_at lw_m11 165 rfl) rfl
theorem q2677 : (Jvm.Cond.methodLink "TollLeaderModel" (200 : Nat) ({ cls := "TollLeaderModel", name := "becomes", desc := "(II)I" } : Jvm.MethodName)) ∈ lw_all := lw_g (lw_at lw_m11 166 rfl) rfl
theorem q2678 : (Jvm.Cond.privateMethod ({ cls := "TollLeaderModel", name := "becomes", desc := "(II)I" } : Jvm.MethodName)) ∈ lw_tbl := lw_at lw_m11 167 rfl
theorem q2679 : (Jvm.Cond.instanceMethod ({ cls := "TollLeaderModel", name := "becomes", desc := "(II)I" } : Jvm.MethodName)) ∈ lw_all := lw_g (lw_at lw_m11 168 rfl) rfl
theorem q2680 : (Jvm.Cond.code ({ cls := "TollLeaderModel", name := "becomes", desc := "(II)I" } : Jvm.MethodName) prog_17_method_34_code (4 : Nat) (Option.some Jvm.ClassFile.FieldType.int)) ∈ lw_all := lw_g (lw_at lw_m11 169 rfl) rfl
theorem q2681 : (Jvm.Cond.methodLink "TollLeaderModel" (197 : Nat) ({ cls := "java/lang/Math", name := "max", desc := "(II)I" } : Jvm.MethodName)) ∈ lw_all := lw_g (lw_at lw_m11 170 rfl) rfl
theorem q2683 : (Jvm.Cond.instanceMethod ({ cls := "TollLeaderModel", name := "clearTolls", desc := "()I" } : Jvm.MethodName)) ∈ lw_all := lw_g (lw_at lw_m11 172 rfl) rfl
theorem q2684 : (Jvm.Cond.selects "TollLeaderModel" ({ cls := "TollLeaderModel", name := "clearTolls", desc := "()I" } : Jvm.MethodName) ({ cls := "TollLeaderModel", name := "clearTolls", desc := "()I" } : Jvm.MethodName)) ∈ lw_all := lw_g (lw_at lw_m11 173 rfl) rfl
theorem q2685 : (Jvm.Cond.code ({ cls := "TollLeaderModel", name := "clearTolls", desc := "()I" } : Jvm.MethodName) prog_17_method_36_code (3 : Nat) (Option.some Jvm.ClassFile.FieldType.int)) ∈ lw_all := lw_g (lw_at lw_m11 174 rfl) rfl
theorem q2687 : (Jvm.Cond.instanceMethod ({ cls := "TollLeaderModel", name := "scaleTolls", desc := "(I)I" } : Jvm.MethodName)) ∈ lw_all := lw_g (lw_at lw_m11 176 rfl) rfl
theorem q2688 : (Jvm.Cond.selects "TollLeaderModel" ({ cls := "TollLeaderModel", name := "scaleTolls", desc := "(I)I" } : Jvm.MethodName) ({ cls := "TollLeaderModel", name := "scaleTolls", desc := "(I)I" } : Jvm.MethodName)) ∈ lw_all := lw_g (lw_at lw_m11 177 rfl) rfl
theorem q2689 : (Jvm.Cond.code ({ cls := "TollLeaderModel", name := "scaleTolls", desc := "(I)I" } : Jvm.MethodName) prog_17_method_37_code (4 : Nat) (Option.some Jvm.ClassFile.FieldType.int)) ∈ lw_all := lw_g (lw_at lw_m11 178 rfl) rfl
theorem q2691 : (Jvm.Cond.instanceMethod ({ cls := "TollLeaderModel", name := "swapTolls", desc := "(II)Z" } : Jvm.MethodName)) ∈ lw_all := lw_g (lw_at lw_m11 180 rfl) rfl
theorem q2692 : (Jvm.Cond.selects "TollLeaderModel" ({ cls := "TollLeaderModel", name := "swapTolls", desc := "(II)Z" } : Jvm.MethodName) ({ cls := "TollLeaderModel", name := "swapTolls", desc := "(II)Z" } : Jvm.MethodName)) ∈ lw_all := lw_g (lw_at lw_m11 181 rfl) rfl
theorem q2693 : (Jvm.Cond.code ({ cls := "TollLeaderModel", name := "swapTolls", desc := "(II)Z" } : Jvm.MethodName) prog_17_method_38_code (5 : Nat) (Option.some Jvm.ClassFile.FieldType.boolean)) ∈ lw_all := lw_g (lw_at lw_m11 182 rfl) rfl
theorem q2695 : (Jvm.Cond.instanceMethod ({ cls := "TollLeaderModel", name := "setDemand", desc := "(II)I" } : Jvm.MethodName)) ∈ lw_all := lw_g (lw_at lw_m11 184 rfl) rfl
theorem q2696 : (Jvm.Cond.selects "TollLeaderModel" ({ cls := "TollLeaderModel", name := "setDemand", desc := "(II)I" } : Jvm.MethodName) ({ cls := "TollLeaderModel", name := "setDemand", desc := "(II)I" } : Jvm.MethodName)) ∈ lw_all := lw_g (lw_at lw_m11 185 rfl) rfl
theorem q2697 : (Jvm.Cond.code ({ cls := "TollLeaderModel", name := "setDemand", desc := "(II)I" } : Jvm.MethodName) prog_17_method_39_code (3 : Nat) (Option.some Jvm.ClassFile.FieldType.int)) ∈ lw_all := lw_g (lw_at lw_m11 186 rfl) rfl
theorem q2699 : (Jvm.Cond.instanceMethod ({ cls := "TollLeaderModel", name := "close", desc := "(IZ)Z" } : Jvm.MethodName)) ∈ lw_all := lw_g (lw_at lw_m11 188 rfl) rfl
theorem q2700 : (Jvm.Cond.selects "TollLeaderModel" ({ cls := "TollLeaderModel", name := "close", desc := "(IZ)Z" } : Jvm.MethodName) ({ cls := "TollLeaderModel", name := "close", desc := "(IZ)Z" } : Jvm.MethodName)) ∈ lw_all := lw_g (lw_at lw_m11 189 rfl) rfl
theorem q2701 : (Jvm.Cond.code ({ cls := "TollLeaderModel", name := "close", desc := "(IZ)Z" } : Jvm.MethodName) prog_17_method_40_code (3 : Nat) (Option.some Jvm.ClassFile.FieldType.boolean)) ∈ lw_all := lw_g (lw_at lw_m11 190 rfl) rfl
theorem q2703 : (Jvm.Cond.instanceMethod ({ cls := "TollLeaderModel", name := "setTies", desc := "(Z)Z" } : Jvm.MethodName)) ∈ lw_all := lw_g (lw_at lw_m11 192 rfl) rfl
theorem q2704 : (Jvm.Cond.selects "TollLeaderModel" ({ cls := "TollLeaderModel", name := "setTies", desc := "(Z)Z" } : Jvm.MethodName) ({ cls := "TollLeaderModel", name := "setTies", desc := "(Z)Z" } : Jvm.MethodName)) ∈ lw_all := lw_g (lw_at lw_m11 193 rfl) rfl
theorem q2705 : (Jvm.Cond.code ({ cls := "TollLeaderModel", name := "setTies", desc := "(Z)Z" } : Jvm.MethodName) prog_17_method_41_code (2 : Nat) (Option.some Jvm.ClassFile.FieldType.boolean)) ∈ lw_all := lw_g (lw_at lw_m11 194 rfl) rfl
theorem q2707 : (Jvm.Cond.instanceMethod ({ cls := "TollLeaderModel", name := "tiesForLeader", desc := "()Z" } : Jvm.MethodName)) ∈ lw_all := lw_g (lw_at lw_m11 196 rfl) rfl
theorem q2708 : (Jvm.Cond.selects "TollLeaderModel" ({ cls := "TollLeaderModel", name := "tiesForLeader", desc := "()Z" } : Jvm.MethodName) ({ cls := "TollLeaderModel", name := "tiesForLeader", desc := "()Z" } : Jvm.MethodName)) ∈ lw_all := lw_g (lw_at lw_m11 197 rfl) rfl
theorem q2709 : (Jvm.Cond.code ({ cls := "TollLeaderModel", name := "tiesForLeader", desc := "()Z" } : Jvm.MethodName) prog_17_method_42_code (1 : Nat) (Option.some Jvm.ClassFile.FieldType.boolean)) ∈ lw_all := lw_g (lw_at lw_m11 198 rfl) rfl
theorem q2711 : (Jvm.Cond.instanceMethod ({ cls := "TollLeaderModel", name := "undo", desc := "()I" } : Jvm.MethodName)) ∈ lw_all := lw_g (lw_at lw_m11 200 rfl) rfl
theorem q2712 : (Jvm.Cond.selects "TollLeaderModel" ({ cls := "TollLeaderModel", name := "undo", desc := "()I" } : Jvm.MethodName) ({ cls := "TollLeaderModel", name := "undo", desc := "()I" } : Jvm.MethodName)) ∈ lw_all := lw_g (lw_at lw_m11 201 rfl) rfl
theorem q2713 : (Jvm.Cond.code ({ cls := "TollLeaderModel", name := "undo", desc := "()I" } : Jvm.MethodName) prog_17_method_43_code (1 : Nat) (Option.some Jvm.ClassFile.FieldType.int)) ∈ lw_all := lw_g (lw_at lw_m11 202 rfl) rfl
theorem q2715 : (Jvm.Cond.instanceMethod ({ cls := "TollLeaderModel", name := "undoCount", desc := "()I" } : Jvm.MethodName)) ∈ lw_all := lw_g (lw_at lw_m11 204 rfl) rfl
theorem q2716 : (Jvm.Cond.selects "TollLeaderModel" ({ cls := "TollLeaderModel", name := "undoCount", desc := "()I" } : Jvm.MethodName) ({ cls := "TollLeaderModel", name := "undoCount", desc := "()I" } : Jvm.MethodName)) ∈ lw_all := lw_g (lw_at lw_m11 205 rfl) rfl
theorem q2717 : (Jvm.Cond.code ({ cls := "TollLeaderModel", name := "undoCount", desc := "()I" } : Jvm.MethodName) prog_17_method_44_code (1 : Nat) (Option.some Jvm.ClassFile.FieldType.int)) ∈ lw_all := lw_g (lw_at lw_m11 206 rfl) rfl
theorem q2719 : (Jvm.Cond.instanceMethod ({ cls := "TollLeaderModel", name := "hasPath", desc := "(I)Z" } : Jvm.MethodName)) ∈ lw_all := lw_g (lw_at lw_m11 208 rfl) rfl
theorem q2720 : (Jvm.Cond.selects "TollLeaderModel" ({ cls := "TollLeaderModel", name := "hasPath", desc := "(I)Z" } : Jvm.MethodName) ({ cls := "TollLeaderModel", name := "hasPath", desc := "(I)Z" } : Jvm.MethodName)) ∈ lw_all := lw_g (lw_at lw_m11 209 rfl) rfl
theorem q2721 : (Jvm.Cond.code ({ cls := "TollLeaderModel", name := "hasPath", desc := "(I)Z" } : Jvm.MethodName) prog_17_method_57_code (2 : Nat) (Option.some Jvm.ClassFile.FieldType.boolean)) ∈ lw_all := lw_g (lw_at lw_m11 210 rfl) rfl
theorem q2722 : (Jvm.Cond.methodLink "TollLeaderModel" (249 : Nat) ({ cls := "TollLeaderModel", name := "laysPath", desc := "(I)Z" } : Jvm.MethodName)) ∈ lw_all := lw_g (lw_at lw_m11 211 rfl) rfl
theorem q2723 : (Jvm.Cond.privateMethod ({ cls := "TollLeaderModel", name := "laysPath", desc := "(I)Z" } : Jvm.MethodName)) ∈ lw_tbl := lw_at lw_m11 212 rfl
theorem q2724 : (Jvm.Cond.instanceMethod ({ cls := "TollLeaderModel", name := "laysPath", desc := "(I)Z" } : Jvm.MethodName)) ∈ lw_all := lw_g (lw_at lw_m11 213 rfl) rfl
theorem q2725 : (Jvm.Cond.code ({ cls := "TollLeaderModel", name := "laysPath", desc := "(I)Z" } : Jvm.MethodName) prog_17_method_51_code (4 : Nat) (Option.some Jvm.ClassFile.FieldType.boolean)) ∈ lw_all := lw_g (lw_at lw_m11 214 rfl) rfl
theorem q2726 : (Jvm.Cond.methodLink "TollLeaderModel" (238 : Nat) ({ cls := "TollLeaderModel", name := "best", desc := "(I)J" } : Jvm.MethodName)) ∈ lw_all := lw_g (lw_at lw_m11 215 rfl) rfl
theorem q2727 : (Jvm.Cond.privateMethod ({ cls := "TollLeaderModel", name := "best", desc := "(I)J" } : Jvm.MethodName)) ∈ lw_tbl := lw_at lw_m11 216 rfl
theorem q2728 : (Jvm.Cond.instanceMethod ({ cls := "TollLeaderModel", name := "best", desc := "(I)J" } : Jvm.MethodName)) ∈ lw_all := lw_g (lw_at lw_m11 217 rfl) rfl
theorem q2729 : (Jvm.Cond.code ({ cls := "TollLeaderModel", name := "best", desc := "(I)J" } : Jvm.MethodName) prog_17_method_50_code (2 : Nat) (Option.some Jvm.ClassFile.FieldType.long)) ∈ lw_all := lw_g (lw_at lw_m11 218 rfl) rfl
theorem q2730 : (Jvm.Cond.methodLink "TollLeaderModel" (232 : Nat) ({ cls := "TollLeaderModel", name := "laysFar", desc := "(I)V" } : Jvm.MethodName)) ∈ lw_all := lw_g (lw_at lw_m11 219 rfl) rfl
theorem q2731 : (Jvm.Cond.privateMethod ({ cls := "TollLeaderModel", name := "laysFar", desc := "(I)V" } : Jvm.MethodName)) ∈ lw_tbl := lw_at lw_m11 220 rfl
theorem q2732 : (Jvm.Cond.instanceMethod ({ cls := "TollLeaderModel", name := "laysFar", desc := "(I)V" } : Jvm.MethodName)) ∈ lw_all := lw_g (lw_at lw_m11 221 rfl) rfl
theorem q2733 : (Jvm.Cond.code ({ cls := "TollLeaderModel", name := "laysFar", desc := "(I)V" } : Jvm.MethodName) prog_17_method_49_code (4 : Nat) (Option.none : Option Jvm.ClassFile.FieldType)) ∈ lw_all := lw_g (lw_at lw_m11 222 rfl) rfl
theorem q2734 : (Jvm.Cond.constantLong "TollLeaderModel" (223 : Nat) (2305843009213693951 : Int64)) ∈ lw_all := lw_g (lw_at lw_m11 223 rfl) rfl
theorem q2735 : (Jvm.Cond.methodLink "TollLeaderModel" (225 : Nat) ({ cls := "TollLeaderModel", name := "isOpen", desc := "(I)Z" } : Jvm.MethodName)) ∈ lw_all := lw_g (lw_at lw_m11 224 rfl) rfl
theorem q2736 : (Jvm.Cond.privateMethod ({ cls := "TollLeaderModel", name := "isOpen", desc := "(I)Z" } : Jvm.MethodName)) ∈ lw_tbl := lw_at lw_m11 225 rfl
theorem q2737 : (Jvm.Cond.instanceMethod ({ cls := "TollLeaderModel", name := "isOpen", desc := "(I)Z" } : Jvm.MethodName)) ∈ lw_all := lw_g (lw_at lw_m11 226 rfl) rfl
theorem q2738 : (Jvm.Cond.code ({ cls := "TollLeaderModel", name := "isOpen", desc := "(I)Z" } : Jvm.MethodName) prog_17_method_46_code (3 : Nat) (Option.some Jvm.ClassFile.FieldType.boolean)) ∈ lw_all := lw_g (lw_at lw_m11 227 rfl) rfl
theorem q2739 : (Jvm.Cond.methodLink "TollLeaderModel" (206 : Nat) ({ cls := "TollLeaderModel", name := "has", desc := "(II)Z" } : Jvm.MethodName)) ∈ lw_all := lw_g (lw_at lw_m11 228 rfl) rfl
theorem q2740 : (Jvm.Cond.static ({ cls := "TollLeaderModel", name := "has", desc := "(II)Z" } : Jvm.MethodName)) ∈ lw_all := lw_g (lw_at lw_m11 229 rfl) rfl
theorem q2741 : (Jvm.Cond.code ({ cls := "TollLeaderModel", name := "has", desc := "(II)Z" } : Jvm.MethodName) prog_17_method_45_code (2 : Nat) (Option.some Jvm.ClassFile.FieldType.boolean)) ∈ lw_all := lw_g (lw_at lw_m11 230 rfl) rfl
theorem q2742 : (Jvm.Cond.methodLink "TollLeaderModel" (228 : Nat) ({ cls := "TollLeaderModel", name := "weight", desc := "(II)J" } : Jvm.MethodName)) ∈ lw_all := lw_g (lw_at lw_m11 231 rfl) rfl
theorem q2743 : (Jvm.Cond.privateMethod ({ cls := "TollLeaderModel", name := "weight", desc := "(II)J" } : Jvm.MethodName)) ∈ lw_tbl := lw_at lw_m11 232 rfl
theorem q2744 : (Jvm.Cond.instanceMethod ({ cls := "TollLeaderModel", name := "weight", desc := "(II)J" } : Jvm.MethodName)) ∈ lw_all := lw_g (lw_at lw_m11 233 rfl) rfl
theorem q2745 : (Jvm.Cond.code ({ cls := "TollLeaderModel", name := "weight", desc := "(II)J" } : Jvm.MethodName) prog_17_method_48_code (5 : Nat) (Option.some Jvm.ClassFile.FieldType.long)) ∈ lw_all := lw_g (lw_at lw_m11 234 rfl) rfl
theorem q2746 : (Jvm.Cond.constantLong "TollLeaderModel" (214 : Nat) (1000000000 : Int64)) ∈ lw_all := lw_g (lw_at lw_m11 235 rfl) rfl
theorem q2747 : (Jvm.Cond.methodLink "TollLeaderModel" (216 : Nat) ({ cls := "TollLeaderModel", name := "feltOn", desc := "(II)I" } : Jvm.MethodName)) ∈ lw_all := lw_g (lw_at lw_m11 236 rfl) rfl
theorem q2748 : (Jvm.Cond.privateMethod ({ cls := "TollLeaderModel", name := "feltOn", desc := "(II)I" } : Jvm.MethodName)) ∈ lw_tbl := lw_at lw_m11 237 rfl
theorem q2749 : (Jvm.Cond.instanceMethod ({ cls := "TollLeaderModel", name := "feltOn", desc := "(II)I" } : Jvm.MethodName)) ∈ lw_all := lw_g (lw_at lw_m11 238 rfl) rfl
theorem q2750 : (Jvm.Cond.code ({ cls := "TollLeaderModel", name := "feltOn", desc := "(II)I" } : Jvm.MethodName) prog_17_method_47_code (3 : Nat) (Option.some Jvm.ClassFile.FieldType.int)) ∈ lw_all := lw_g (lw_at lw_m11 239 rfl) rfl
theorem q2751 : (Jvm.Cond.constantLong "TollLeaderModel" (219 : Nat) (-100 : Int64)) ∈ lw_all := lw_g (lw_at lw_m12 0 rfl) rfl
theorem q2752 : (Jvm.Cond.constantLong "TollLeaderModel" (221 : Nat) (100 : Int64)) ∈ lw_all := lw_g (lw_at lw_m12 1 rfl) rfl
theorem q2753 : (Jvm.Cond.methodLink "TollLeaderModel" (242 : Nat) ({ cls := "TollLeaderModel", name := "isBestFrom", desc := "(III)Z" } : Jvm.MethodName)) ∈ lw_all := lw_g (lw_at lw_m12 2 rfl) rfl
theorem q2754 : (Jvm.Cond.privateMethod ({ cls := "TollLeaderModel", name := "isBestFrom", desc := "(III)Z" } : Jvm.MethodName)) ∈ lw_tbl := lw_at lw_m12 3 rfl
theorem q2755 : (Jvm.Cond.instanceMethod ({ cls := "TollLeaderModel", name := "isBestFrom", desc := "(III)Z" } : Jvm.MethodName)) ∈ lw_all := lw_g (lw_at lw_m12 4 rfl) rfl
theorem q2756 : (Jvm.Cond.code ({ cls := "TollLeaderModel", name := "isBestFrom", desc := "(III)Z" } : Jvm.MethodName) prog_17_method_52_code (4 : Nat) (Option.some Jvm.ClassFile.FieldType.boolean)) ∈ lw_all := lw_g (lw_at lw_m12 5 rfl) rfl
theorem q2758 : (Jvm.Cond.instanceMethod ({ cls := "TollLeaderModel", name := "pathLength", desc := "(I)I" } : Jvm.MethodName)) ∈ lw_all := lw_g (lw_at lw_m12 7 rfl) rfl
theorem q2759 : (Jvm.Cond.selects "TollLeaderModel" ({ cls := "TollLeaderModel", name := "pathLength", desc := "(I)I" } : Jvm.MethodName) ({ cls := "TollLeaderModel", name := "pathLength", desc := "(I)I" } : Jvm.MethodName)) ∈ lw_all := lw_g (lw_at lw_m12 8 rfl) rfl
theorem q2760 : (Jvm.Cond.code ({ cls := "TollLeaderModel", name := "pathLength", desc := "(I)I" } : Jvm.MethodName) prog_17_method_58_code (2 : Nat) (Option.some Jvm.ClassFile.FieldType.int)) ∈ lw_all := lw_g (lw_at lw_m12 9 rfl) rfl
theorem q2762 : (Jvm.Cond.instanceMethod ({ cls := "TollLeaderModel", name := "pathArc", desc := "(II)I" } : Jvm.MethodName)) ∈ lw_all := lw_g (lw_at lw_m12 11 rfl) rfl
theorem q2763 : (Jvm.Cond.selects "TollLeaderModel" ({ cls := "TollLeaderModel", name := "pathArc", desc := "(II)I" } : Jvm.MethodName) ({ cls := "TollLeaderModel", name := "pathArc", desc := "(II)I" } : Jvm.MethodName)) ∈ lw_all := lw_g (lw_at lw_m12 12 rfl) rfl
theorem q2764 : (Jvm.Cond.code ({ cls := "TollLeaderModel", name := "pathArc", desc := "(II)I" } : Jvm.MethodName) prog_17_method_59_code (3 : Nat) (Option.some Jvm.ClassFile.FieldType.int)) ∈ lw_all := lw_g (lw_at lw_m12 13 rfl) rfl
theorem q2766 : (Jvm.Cond.instanceMethod ({ cls := "TollLeaderModel", name := "pathCost", desc := "(I)I" } : Jvm.MethodName)) ∈ lw_all := lw_g (lw_at lw_m12 15 rfl) rfl
theorem q2767 : (Jvm.Cond.selects "TollLeaderModel" ({ cls := "TollLeaderModel", name := "pathCost", desc := "(I)I" } : Jvm.MethodName) ({ cls := "TollLeaderModel", name := "pathCost", desc := "(I)I" } : Jvm.MethodName)) ∈ lw_all := lw_g (lw_at lw_m12 16 rfl) rfl
theorem q2768 : (Jvm.Cond.code ({ cls := "TollLeaderModel", name := "pathCost", desc := "(I)I" } : Jvm.MethodName) prog_17_method_60_code (2 : Nat) (Option.some Jvm.ClassFile.FieldType.int)) ∈ lw_all := lw_g (lw_at lw_m12 17 rfl) rfl
theorem q2769 : (Jvm.Cond.methodLink "TollLeaderModel" (245 : Nat) ({ cls := "TollLeaderModel", name := "sumOf", desc := "(I)I" } : Jvm.MethodName)) ∈ lw_all := lw_g (lw_at lw_m12 18 rfl) rfl
theorem q2770 : (Jvm.Cond.privateMethod ({ cls := "TollLeaderModel", name := "sumOf", desc := "(I)I" } : Jvm.MethodName)) ∈ lw_tbl := lw_at lw_m12 19 rfl
theorem q2771 : (Jvm.Cond.instanceMethod ({ cls := "TollLeaderModel", name := "sumOf", desc := "(I)I" } : Jvm.MethodName)) ∈ lw_all := lw_g (lw_at lw_m12 20 rfl) rfl
theorem q2772 : (Jvm.Cond.code ({ cls := "TollLeaderModel", name := "sumOf", desc := "(I)I" } : Jvm.MethodName) prog_17_method_53_code (4 : Nat) (Option.some Jvm.ClassFile.FieldType.int)) ∈ lw_all := lw_g (lw_at lw_m12 21 rfl) rfl
theorem q2774 : (Jvm.Cond.instanceMethod ({ cls := "TollLeaderModel", name := "pathToll", desc := "(I)I" } : Jvm.MethodName)) ∈ lw_all := lw_g (lw_at lw_m12 23 rfl) rfl
theorem q2775 : (Jvm.Cond.selects "TollLeaderModel" ({ cls := "TollLeaderModel", name := "pathToll", desc := "(I)I" } : Jvm.MethodName) ({ cls := "TollLeaderModel", name := "pathToll", desc := "(I)I" } : Jvm.MethodName)) ∈ lw_all := lw_g (lw_at lw_m12 24 rfl) rfl
theorem q2776 : (Jvm.Cond.code ({ cls := "TollLeaderModel", name := "pathToll", desc := "(I)I" } : Jvm.MethodName) prog_17_method_61_code (2 : Nat) (Option.some Jvm.ClassFile.FieldType.int)) ∈ lw_all := lw_g (lw_at lw_m12 25 rfl) rfl
theorem q2778 : (Jvm.Cond.instanceMethod ({ cls := "TollLeaderModel", name := "felt", desc := "(I)I" } : Jvm.MethodName)) ∈ lw_all := lw_g (lw_at lw_m12 27 rfl) rfl
theorem q2779 : (Jvm.Cond.selects "TollLeaderModel" ({ cls := "TollLeaderModel", name := "felt", desc := "(I)I" } : Jvm.MethodName) ({ cls := "TollLeaderModel", name := "felt", desc := "(I)I" } : Jvm.MethodName)) ∈ lw_all := lw_g (lw_at lw_m12 28 rfl) rfl
theorem q2780 : (Jvm.Cond.code ({ cls := "TollLeaderModel", name := "felt", desc := "(I)I" } : Jvm.MethodName) prog_17_method_62_code (2 : Nat) (Option.some Jvm.ClassFile.FieldType.int)) ∈ lw_all := lw_g (lw_at lw_m12 29 rfl) rfl
theorem q2781 : (Jvm.Cond.methodLink "TollLeaderModel" (255 : Nat) ({ cls := "TollLeaderModel", name := "felts", desc := "(I)I" } : Jvm.MethodName)) ∈ lw_all := lw_g (lw_at lw_m12 30 rfl) rfl
theorem q2782 : (Jvm.Cond.privateMethod ({ cls := "TollLeaderModel", name := "felts", desc := "(I)I" } : Jvm.MethodName)) ∈ lw_tbl := lw_at lw_m12 31 rfl
theorem q2783 : (Jvm.Cond.instanceMethod ({ cls := "TollLeaderModel", name := "felts", desc := "(I)I" } : Jvm.MethodName)) ∈ lw_all := lw_g (lw_at lw_m12 32 rfl) rfl
theorem q2784 : (Jvm.Cond.code ({ cls := "TollLeaderModel", name := "felts", desc := "(I)I" } : Jvm.MethodName) prog_17_method_56_code (2 : Nat) (Option.some Jvm.ClassFile.FieldType.int)) ∈ lw_all := lw_g (lw_at lw_m12 33 rfl) rfl
theorem q2785 : (Jvm.Cond.methodLink "TollLeaderModel" (252 : Nat) ({ cls := "TollLeaderModel", name := "feltNow", desc := "(I)I" } : Jvm.MethodName)) ∈ lw_all := lw_g (lw_at lw_m12 34 rfl) rfl
theorem q2786 : (Jvm.Cond.privateMethod ({ cls := "TollLeaderModel", name := "feltNow", desc := "(I)I" } : Jvm.MethodName)) ∈ lw_tbl := lw_at lw_m12 35 rfl
theorem q2787 : (Jvm.Cond.instanceMethod ({ cls := "TollLeaderModel", name := "feltNow", desc := "(I)I" } : Jvm.MethodName)) ∈ lw_all := lw_g (lw_at lw_m12 36 rfl) rfl
theorem q2788 : (Jvm.Cond.code ({ cls := "TollLeaderModel", name := "feltNow", desc := "(I)I" } : Jvm.MethodName) prog_17_method_54_code (2 : Nat) (Option.some Jvm.ClassFile.FieldType.int)) ∈ lw_all := lw_g (lw_at lw_m12 37 rfl) rfl
theorem q2790 : (Jvm.Cond.instanceMethod ({ cls := "TollLeaderModel", name := "uses", desc := "(II)Z" } : Jvm.MethodName)) ∈ lw_all := lw_g (lw_at lw_m12 39 rfl) rfl
theorem q2791 : (Jvm.Cond.selects "TollLeaderModel" ({ cls := "TollLeaderModel", name := "uses", desc := "(II)Z" } : Jvm.MethodName) ({ cls := "TollLeaderModel", name := "uses", desc := "(II)Z" } : Jvm.MethodName)) ∈ lw_all := lw_g (lw_at lw_m12 40 rfl) rfl
theorem q2792 : (Jvm.Cond.code ({ cls := "TollLeaderModel", name := "uses", desc := "(II)Z" } : Jvm.MethodName) prog_17_method_64_code (3 : Nat) (Option.some Jvm.ClassFile.FieldType.boolean)) ∈ lw_all := lw_g (lw_at lw_m12 41 rfl) rfl
theorem q2793 : (Jvm.Cond.methodLink "TollLeaderModel" (261 : Nat) ({ cls := "TollLeaderModel", name := "doesUse", desc := "(II)Z" } : Jvm.MethodName)) ∈ lw_all := lw_g (lw_at lw_m12 42 rfl) rfl
theorem q2794 : (Jvm.Cond.privateMethod ({ cls := "TollLeaderModel", name := "doesUse", desc := "(II)Z" } : Jvm.MethodName)) ∈ lw_tbl := lw_at lw_m12 43 rfl
theorem q2795 : (Jvm.Cond.instanceMethod ({ cls := "TollLeaderModel", name := "doesUse", desc := "(II)Z" } : Jvm.MethodName)) ∈ lw_all := lw_g (lw_at lw_m12 44 rfl) rfl
theorem q2796 : (Jvm.Cond.code ({ cls := "TollLeaderModel", name := "doesUse", desc := "(II)Z" } : Jvm.MethodName) prog_17_method_63_code (3 : Nat) (Option.some Jvm.ClassFile.FieldType.boolean)) ∈ lw_all := lw_g (lw_at lw_m12 45 rfl) rfl
theorem q2797 : (Jvm.Cond.methodLink "TollLeaderModel" (258 : Nat) ({ cls := "TollLeaderModel", name := "isOnPath", desc := "(I)Z" } : Jvm.MethodName)) ∈ lw_all := lw_g (lw_at lw_m12 46 rfl) rfl
theorem q2798 : (Jvm.Cond.privateMethod ({ cls := "TollLeaderModel", name := "isOnPath", desc := "(I)Z" } : Jvm.MethodName)) ∈ lw_tbl := lw_at lw_m12 47 rfl
theorem q2799 : (Jvm.Cond.instanceMethod ({ cls := "TollLeaderModel", name := "isOnPath", desc := "(I)Z" } : Jvm.MethodName)) ∈ lw_all := lw_g (lw_at lw_m12 48 rfl) rfl
theorem q2800 : (Jvm.Cond.code ({ cls := "TollLeaderModel", name := "isOnPath", desc := "(I)Z" } : Jvm.MethodName) prog_17_method_55_code (3 : Nat) (Option.some Jvm.ClassFile.FieldType.boolean)) ∈ lw_all := lw_g (lw_at lw_m12 49 rfl) rfl
theorem q2802 : (Jvm.Cond.instanceMethod ({ cls := "TollLeaderModel", name := "users", desc := "(I)I" } : Jvm.MethodName)) ∈ lw_all := lw_g (lw_at lw_m12 51 rfl) rfl
theorem q2803 : (Jvm.Cond.selects "TollLeaderModel" ({ cls := "TollLeaderModel", name := "users", desc := "(I)I" } : Jvm.MethodName) ({ cls := "TollLeaderModel", name := "users", desc := "(I)I" } : Jvm.MethodName)) ∈ lw_all := lw_g (lw_at lw_m12 52 rfl) rfl
theorem q2804 : (Jvm.Cond.code ({ cls := "TollLeaderModel", name := "users", desc := "(I)I" } : Jvm.MethodName) prog_17_method_66_code (2 : Nat) (Option.some Jvm.ClassFile.FieldType.int)) ∈ lw_all := lw_g (lw_at lw_m12 53 rfl) rfl
theorem q2805 : (Jvm.Cond.methodLink "TollLeaderModel" (264 : Nat) ({ cls := "TollLeaderModel", name := "usersOf", desc := "(I)I" } : Jvm.MethodName)) ∈ lw_all := lw_g (lw_at lw_m12 54 rfl) rfl
theorem q2806 : (Jvm.Cond.privateMethod ({ cls := "TollLeaderModel", name := "usersOf", desc := "(I)I" } : Jvm.MethodName)) ∈ lw_tbl := lw_at lw_m12 55 rfl
theorem q2807 : (Jvm.Cond.instanceMethod ({ cls := "TollLeaderModel", name := "usersOf", desc := "(I)I" } : Jvm.MethodName)) ∈ lw_all := lw_g (lw_at lw_m12 56 rfl) rfl
theorem q2808 : (Jvm.Cond.code ({ cls := "TollLeaderModel", name := "usersOf", desc := "(I)I" } : Jvm.MethodName) prog_17_method_65_code (4 : Nat) (Option.some Jvm.ClassFile.FieldType.int)) ∈ lw_all := lw_g (lw_at lw_m12 57 rfl) rfl
theorem q2810 : (Jvm.Cond.instanceMethod ({ cls := "TollLeaderModel", name := "flow", desc := "(I)I" } : Jvm.MethodName)) ∈ lw_all := lw_g (lw_at lw_m12 59 rfl) rfl
theorem q2811 : (Jvm.Cond.selects "TollLeaderModel" ({ cls := "TollLeaderModel", name := "flow", desc := "(I)I" } : Jvm.MethodName) ({ cls := "TollLeaderModel", name := "flow", desc := "(I)I" } : Jvm.MethodName)) ∈ lw_all := lw_g (lw_at lw_m12 60 rfl) rfl
theorem q2812 : (Jvm.Cond.code ({ cls := "TollLeaderModel", name := "flow", desc := "(I)I" } : Jvm.MethodName) prog_17_method_68_code (2 : Nat) (Option.some Jvm.ClassFile.FieldType.int)) ∈ lw_all := lw_g (lw_at lw_m12 61 rfl) rfl
theorem q2813 : (Jvm.Cond.methodLink "TollLeaderModel" (267 : Nat) ({ cls := "TollLeaderModel", name := "flowOn", desc := "(I)I" } : Jvm.MethodName)) ∈ lw_all := lw_g (lw_at lw_m12 62 rfl) rfl
theorem q2814 : (Jvm.Cond.privateMethod ({ cls := "TollLeaderModel", name := "flowOn", desc := "(I)I" } : Jvm.MethodName)) ∈ lw_tbl := lw_at lw_m12 63 rfl
theorem q2815 : (Jvm.Cond.instanceMethod ({ cls := "TollLeaderModel", name := "flowOn", desc := "(I)I" } : Jvm.MethodName)) ∈ lw_all := lw_g (lw_at lw_m12 64 rfl) rfl
theorem q2816 : (Jvm.Cond.code ({ cls := "TollLeaderModel", name := "flowOn", desc := "(I)I" } : Jvm.MethodName) prog_17_method_67_code (5 : Nat) (Option.some Jvm.ClassFile.FieldType.int)) ∈ lw_all := lw_g (lw_at lw_m12 65 rfl) rfl
theorem q2818 : (Jvm.Cond.instanceMethod ({ cls := "TollLeaderModel", name := "busiest", desc := "()I" } : Jvm.MethodName)) ∈ lw_all := lw_g (lw_at lw_m12 67 rfl) rfl
theorem q2819 : (Jvm.Cond.selects "TollLeaderModel" ({ cls := "TollLeaderModel", name := "busiest", desc := "()I" } : Jvm.MethodName) ({ cls := "TollLeaderModel", name := "busiest", desc := "()I" } : Jvm.MethodName)) ∈ lw_all := lw_g (lw_at lw_m12 68 rfl) rfl
theorem q2820 : (Jvm.Cond.code ({ cls := "TollLeaderModel", name := "busiest", desc := "()I" } : Jvm.MethodName) prog_17_method_69_code (5 : Nat) (Option.some Jvm.ClassFile.FieldType.int)) ∈ lw_all := lw_g (lw_at lw_m12 69 rfl) rfl
theorem q2822 : (Jvm.Cond.instanceMethod ({ cls := "TollLeaderModel", name := "unused", desc := "()I" } : Jvm.MethodName)) ∈ lw_all := lw_g (lw_at lw_m12 71 rfl) rfl
theorem q2823 : (Jvm.Cond.selects "TollLeaderModel" ({ cls := "TollLeaderModel", name := "unused", desc := "()I" } : Jvm.MethodName) ({ cls := "TollLeaderModel", name := "unused", desc := "()I" } : Jvm.MethodName)) ∈ lw_all := lw_g (lw_at lw_m12 72 rfl) rfl
theorem q2824 : (Jvm.Cond.code ({ cls := "TollLeaderModel", name := "unused", desc := "()I" } : Jvm.MethodName) prog_17_method_70_code (3 : Nat) (Option.some Jvm.ClassFile.FieldType.int)) ∈ lw_all := lw_g (lw_at lw_m12 73 rfl) rfl
theorem q2826 : (Jvm.Cond.instanceMethod ({ cls := "TollLeaderModel", name := "ties", desc := "(I)J" } : Jvm.MethodName)) ∈ lw_all := lw_g (lw_at lw_m12 75 rfl) rfl
theorem q2827 : (Jvm.Cond.selects "TollLeaderModel" ({ cls := "TollLeaderModel", name := "ties", desc := "(I)J" } : Jvm.MethodName) ({ cls := "TollLeaderModel", name := "ties", desc := "(I)J" } : Jvm.MethodName)) ∈ lw_all := lw_g (lw_at lw_m12 76 rfl) rfl
theorem q2828 : (Jvm.Cond.code ({ cls := "TollLeaderModel", name := "ties", desc := "(I)J" } : Jvm.MethodName) prog_17_method_75_code (2 : Nat) (Option.some Jvm.ClassFile.FieldType.long)) ∈ lw_all := lw_g (lw_at lw_m12 77 rfl) rfl
theorem q2829 : (Jvm.Cond.methodLink "TollLeaderModel" (285 : Nat) ({ cls := "TollLeaderModel", name := "laysTies", desc := "(I)V" } : Jvm.MethodName)) ∈ lw_all := lw_g (lw_at lw_m12 78 rfl) rfl
theorem q2830 : (Jvm.Cond.privateMethod ({ cls := "TollLeaderModel", name := "laysTies", desc := "(I)V" } : Jvm.MethodName)) ∈ lw_tbl := lw_at lw_m12 79 rfl
theorem q2831 : (Jvm.Cond.instanceMethod ({ cls := "TollLeaderModel", name := "laysTies", desc := "(I)V" } : Jvm.MethodName)) ∈ lw_all := lw_g (lw_at lw_m12 80 rfl) rfl
theorem q2832 : (Jvm.Cond.code ({ cls := "TollLeaderModel", name := "laysTies", desc := "(I)V" } : Jvm.MethodName) prog_17_method_74_code (5 : Nat) (Option.none : Option Jvm.ClassFile.FieldType)) ∈ lw_all := lw_g (lw_at lw_m12 81 rfl) rfl
theorem q2833 : (Jvm.Cond.methodLink "TollLeaderModel" (272 : Nat) ({ cls := "TollLeaderModel", name := "laysLeast", desc := "(I)V" } : Jvm.MethodName)) ∈ lw_all := lw_g (lw_at lw_m12 82 rfl) rfl
theorem q2834 : (Jvm.Cond.privateMethod ({ cls := "TollLeaderModel", name := "laysLeast", desc := "(I)V" } : Jvm.MethodName)) ∈ lw_tbl := lw_at lw_m12 83 rfl
theorem q2835 : (Jvm.Cond.instanceMethod ({ cls := "TollLeaderModel", name := "laysLeast", desc := "(I)V" } : Jvm.MethodName)) ∈ lw_all := lw_g (lw_at lw_m12 84 rfl) rfl
theorem q2836 : (Jvm.Cond.code ({ cls := "TollLeaderModel", name := "laysLeast", desc := "(I)V" } : Jvm.MethodName) prog_17_method_71_code (3 : Nat) (Option.none : Option Jvm.ClassFile.FieldType)) ∈ lw_all := lw_g (lw_at lw_m12 85 rfl) rfl
theorem q2837 : (Jvm.Cond.constantLong "TollLeaderModel" (270 : Nat) (500000000 : Int64)) ∈ lw_all := lw_g (lw_at lw_m12 86 rfl) rfl
theorem q2838 : (Jvm.Cond.methodLink "TollLeaderModel" (275 : Nat) ({ cls := "TollLeaderModel", name := "nextNode", desc := "(II)I" } : Jvm.MethodName)) ∈ lw_all := lw_g (lw_at lw_m12 87 rfl) rfl
theorem q2839 : (Jvm.Cond.privateMethod ({ cls := "TollLeaderModel", name := "nextNode", desc := "(II)I" } : Jvm.MethodName)) ∈ lw_tbl := lw_at lw_m12 88 rfl
theorem q2840 : (Jvm.Cond.instanceMethod ({ cls := "TollLeaderModel", name := "nextNode", desc := "(II)I" } : Jvm.MethodName)) ∈ lw_all := lw_g (lw_at lw_m12 89 rfl) rfl
theorem q2841 : (Jvm.Cond.code ({ cls := "TollLeaderModel", name := "nextNode", desc := "(II)I" } : Jvm.MethodName) prog_17_method_72_code (6 : Nat) (Option.some Jvm.ClassFile.FieldType.int)) ∈ lw_all := lw_g (lw_at lw_m12 90 rfl) rfl
theorem q2842 : (Jvm.Cond.constant "TollLeaderModel" (280 : Nat) (-2147483648 : Int32)) ∈ lw_all := lw_g (lw_at lw_m12 91 rfl) rfl
theorem q2843 : (Jvm.Cond.constant "TollLeaderModel" (281 : Nat) (2147483647 : Int32)) ∈ lw_all := lw_g (lw_at lw_m12 92 rfl) rfl
theorem q2844 : (Jvm.Cond.methodLink "TollLeaderModel" (282 : Nat) ({ cls := "TollLeaderModel", name := "isTight", desc := "(II)Z" } : Jvm.MethodName)) ∈ lw_all := lw_g (lw_at lw_m12 93 rfl) rfl
theorem q2845 : (Jvm.Cond.privateMethod ({ cls := "TollLeaderModel", name := "isTight", desc := "(II)Z" } : Jvm.MethodName)) ∈ lw_tbl := lw_at lw_m12 94 rfl
theorem q2846 : (Jvm.Cond.instanceMethod ({ cls := "TollLeaderModel", name := "isTight", desc := "(II)Z" } : Jvm.MethodName)) ∈ lw_all := lw_g (lw_at lw_m12 95 rfl) rfl
theorem q2847 : (Jvm.Cond.code ({ cls := "TollLeaderModel", name := "isTight", desc := "(II)Z" } : Jvm.MethodName) prog_17_method_73_code (3 : Nat) (Option.some Jvm.ClassFile.FieldType.boolean)) ∈ lw_all := lw_g (lw_at lw_m12 96 rfl) rfl
theorem q2849 : (Jvm.Cond.instanceMethod ({ cls := "TollLeaderModel", name := "tieSpan", desc := "(I)I" } : Jvm.MethodName)) ∈ lw_all := lw_g (lw_at lw_m12 98 rfl) rfl
theorem q2850 : (Jvm.Cond.selects "TollLeaderModel" ({ cls := "TollLeaderModel", name := "tieSpan", desc := "(I)I" } : Jvm.MethodName) ({ cls := "TollLeaderModel", name := "tieSpan", desc := "(I)I" } : Jvm.MethodName)) ∈ lw_all := lw_g (lw_at lw_m12 99 rfl) rfl
theorem q2851 : (Jvm.Cond.code ({ cls := "TollLeaderModel", name := "tieSpan", desc := "(I)I" } : Jvm.MethodName) prog_17_method_76_code (3 : Nat) (Option.some Jvm.ClassFile.FieldType.int)) ∈ lw_all := lw_g (lw_at lw_m12 100 rfl) rfl
theorem q2853 : (Jvm.Cond.instanceMethod ({ cls := "TollLeaderModel", name := "revenue", desc := "()J" } : Jvm.MethodName)) ∈ lw_all := lw_g (lw_at lw_m12 102 rfl) rfl
theorem q2854 : (Jvm.Cond.selects "TollLeaderModel" ({ cls := "TollLeaderModel", name := "revenue", desc := "()J" } : Jvm.MethodName) ({ cls := "TollLeaderModel", name := "revenue", desc := "()J" } : Jvm.MethodName)) ∈ lw_all := lw_g (lw_at lw_m12 103 rfl) rfl
theorem q2855 : (Jvm.Cond.code ({ cls := "TollLeaderModel", name := "revenue", desc := "()J" } : Jvm.MethodName) prog_17_method_79_code (1 : Nat) (Option.some Jvm.ClassFile.FieldType.long)) ∈ lw_all := lw_g (lw_at lw_m12 104 rfl) rfl
theorem q2856 : (Jvm.Cond.methodLink "TollLeaderModel" (291 : Nat) ({ cls := "TollLeaderModel", name := "all", desc := "()J" } : Jvm.MethodName)) ∈ lw_all := lw_g (lw_at lw_m12 105 rfl) rfl
theorem q2857 : (Jvm.Cond.privateMethod ({ cls := "TollLeaderModel", name := "all", desc := "()J" } : Jvm.MethodName)) ∈ lw_tbl := lw_at lw_m12 106 rfl
theorem q2858 : (Jvm.Cond.instanceMethod ({ cls := "TollLeaderModel", name := "all", desc := "()J" } : Jvm.MethodName)) ∈ lw_all := lw_g (lw_at lw_m12 107 rfl) rfl
theorem q2859 : (Jvm.Cond.code ({ cls := "TollLeaderModel", name := "all", desc := "()J" } : Jvm.MethodName) prog_17_method_78_code (4 : Nat) (Option.some Jvm.ClassFile.FieldType.long)) ∈ lw_all := lw_g (lw_at lw_m12 108 rfl) rfl
theorem q2860 : (Jvm.Cond.methodLink "TollLeaderModel" (288 : Nat) ({ cls := "TollLeaderModel", name := "brings", desc := "(I)J" } : Jvm.MethodName)) ∈ lw_all := lw_g (lw_at lw_m12 109 rfl) rfl
theorem q2861 : (Jvm.Cond.privateMethod ({ cls := "TollLeaderModel", name := "brings", desc := "(I)J" } : Jvm.MethodName)) ∈ lw_tbl := lw_at lw_m12 110 rfl
theorem q2862 : (Jvm.Cond.instanceMethod ({ cls := "TollLeaderModel", name := "brings", desc := "(I)J" } : Jvm.MethodName)) ∈ lw_all := lw_g (lw_at lw_m12 111 rfl) rfl
theorem q2863 : (Jvm.Cond.code ({ cls := "TollLeaderModel", name := "brings", desc := "(I)J" } : Jvm.MethodName) prog_17_method_77_code (2 : Nat) (Option.some Jvm.ClassFile.FieldType.long)) ∈ lw_all := lw_g (lw_at lw_m12 112 rfl) rfl
theorem q2865 : (Jvm.Cond.instanceMethod ({ cls := "TollLeaderModel", name := "revenueOf", desc := "(I)J" } : Jvm.MethodName)) ∈ lw_all := lw_g (lw_at lw_m12 114 rfl) rfl
theorem q2866 : (Jvm.Cond.selects "TollLeaderModel" ({ cls := "TollLeaderModel", name := "revenueOf", desc := "(I)J" } : Jvm.MethodName) ({ cls := "TollLeaderModel", name := "revenueOf", desc := "(I)J" } : Jvm.MethodName)) ∈ lw_all := lw_g (lw_at lw_m12 115 rfl) rfl
theorem q2867 : (Jvm.Cond.code ({ cls := "TollLeaderModel", name := "revenueOf", desc := "(I)J" } : Jvm.MethodName) prog_17_method_80_code (2 : Nat) (Option.some Jvm.ClassFile.FieldType.long)) ∈ lw_all := lw_g (lw_at lw_m12 116 rfl) rfl
theorem q2869 : (Jvm.Cond.instanceMethod ({ cls := "TollLeaderModel", name := "arcRevenue", desc := "(I)J" } : Jvm.MethodName)) ∈ lw_all := lw_g (lw_at lw_m12 118 rfl) rfl
theorem q2870 : (Jvm.Cond.selects "TollLeaderModel" ({ cls := "TollLeaderModel", name := "arcRevenue", desc := "(I)J" } : Jvm.MethodName) ({ cls := "TollLeaderModel", name := "arcRevenue", desc := "(I)J" } : Jvm.MethodName)) ∈ lw_all := lw_g (lw_at lw_m12 119 rfl) rfl
theorem q2871 : (Jvm.Cond.code ({ cls := "TollLeaderModel", name := "arcRevenue", desc := "(I)J" } : Jvm.MethodName) prog_17_method_81_code (2 : Nat) (Option.some Jvm.ClassFile.FieldType.long)) ∈ lw_all := lw_g (lw_at lw_m12 120 rfl) rfl
theorem q2873 : (Jvm.Cond.instanceMethod ({ cls := "TollLeaderModel", name := "pledge", desc := "(I)J" } : Jvm.MethodName)) ∈ lw_all := lw_g (lw_at lw_m12 122 rfl) rfl
theorem q2874 : (Jvm.Cond.selects "TollLeaderModel" ({ cls := "TollLeaderModel", name := "pledge", desc := "(I)J" } : Jvm.MethodName) ({ cls := "TollLeaderModel", name := "pledge", desc := "(I)J" } : Jvm.MethodName)) ∈ lw_all := lw_g (lw_at lw_m12 123 rfl) rfl
theorem q2875 : (Jvm.Cond.code ({ cls := "TollLeaderModel", name := "pledge", desc := "(I)J" } : Jvm.MethodName) prog_17_method_85_code (2 : Nat) (Option.some Jvm.ClassFile.FieldType.long)) ∈ lw_all := lw_g (lw_at lw_m12 124 rfl) rfl
theorem q2876 : (Jvm.Cond.methodLink "TollLeaderModel" (303 : Nat) ({ cls := "TollLeaderModel", name := "pledged", desc := "(I)J" } : Jvm.MethodName)) ∈ lw_all := lw_g (lw_at lw_m12 125 rfl) rfl
theorem q2877 : (Jvm.Cond.privateMethod ({ cls := "TollLeaderModel", name := "pledged", desc := "(I)J" } : Jvm.MethodName)) ∈ lw_tbl := lw_at lw_m12 126 rfl
theorem q2878 : (Jvm.Cond.instanceMethod ({ cls := "TollLeaderModel", name := "pledged", desc := "(I)J" } : Jvm.MethodName)) ∈ lw_all := lw_g (lw_at lw_m12 127 rfl) rfl
theorem q2879 : (Jvm.Cond.code ({ cls := "TollLeaderModel", name := "pledged", desc := "(I)J" } : Jvm.MethodName) prog_17_method_84_code (4 : Nat) (Option.some Jvm.ClassFile.FieldType.long)) ∈ lw_all := lw_g (lw_at lw_m12 128 rfl) rfl
theorem q2880 : (Jvm.Cond.methodLink "TollLeaderModel" (295 : Nat) ({ cls := "TollLeaderModel", name := "dropsTolls", desc := "()V" } : Jvm.MethodName)) ∈ lw_all := lw_g (lw_at lw_m12 129 rfl) rfl
theorem q2881 : (Jvm.Cond.privateMethod ({ cls := "TollLeaderModel", name := "dropsTolls", desc := "()V" } : Jvm.MethodName)) ∈ lw_tbl := lw_at lw_m12 130 rfl
theorem q2882 : (Jvm.Cond.instanceMethod ({ cls := "TollLeaderModel", name := "dropsTolls", desc := "()V" } : Jvm.MethodName)) ∈ lw_all := lw_g (lw_at lw_m12 131 rfl) rfl
theorem q2883 : (Jvm.Cond.code ({ cls := "TollLeaderModel", name := "dropsTolls", desc := "()V" } : Jvm.MethodName) prog_17_method_82_code (2 : Nat) (Option.none : Option Jvm.ClassFile.FieldType)) ∈ lw_all := lw_g (lw_at lw_m12 132 rfl) rfl
theorem q2884 : (Jvm.Cond.methodLink "TollLeaderModel" (298 : Nat) ({ cls := "TollLeaderModel", name := "takesTolls", desc := "()V" } : Jvm.MethodName)) ∈ lw_all := lw_g (lw_at lw_m12 133 rfl) rfl
theorem q2885 : (Jvm.Cond.privateMethod ({ cls := "TollLeaderModel", name := "takesTolls", desc := "()V" } : Jvm.MethodName)) ∈ lw_tbl := lw_at lw_m12 134 rfl
theorem q2886 : (Jvm.Cond.instanceMethod ({ cls := "TollLeaderModel", name := "takesTolls", desc := "()V" } : Jvm.MethodName)) ∈ lw_all := lw_g (lw_at lw_m12 135 rfl) rfl
theorem q2887 : (Jvm.Cond.code ({ cls := "TollLeaderModel", name := "takesTolls", desc := "()V" } : Jvm.MethodName) prog_17_method_83_code (2 : Nat) (Option.none : Option Jvm.ClassFile.FieldType)) ∈ lw_all := lw_g (lw_at lw_m12 136 rfl) rfl
theorem q2888 : (Jvm.Cond.constantLong "TollLeaderModel" (301 : Nat) (-1 : Int64)) ∈ lw_all := lw_g (lw_at lw_m12 137 rfl) rfl
theorem q2890 : (Jvm.Cond.instanceMethod ({ cls := "TollLeaderModel", name := "bound", desc := "()J" } : Jvm.MethodName)) ∈ lw_all := lw_g (lw_at lw_m12 139 rfl) rfl
theorem q2891 : (Jvm.Cond.selects "TollLeaderModel" ({ cls := "TollLeaderModel", name := "bound", desc := "()J" } : Jvm.MethodName) ({ cls := "TollLeaderModel", name := "bound", desc := "()J" } : Jvm.MethodName)) ∈ lw_all := lw_g (lw_at lw_m12 140 rfl) rfl
theorem q2892 : (Jvm.Cond.code ({ cls := "TollLeaderModel", name := "bound", desc := "()J" } : Jvm.MethodName) prog_17_method_86_code (6 : Nat) (Option.some Jvm.ClassFile.FieldType.long)) ∈ lw_all := lw_g (lw_at lw_m12 141 rfl) rfl
theorem q2894 : (Jvm.Cond.instanceMethod ({ cls := "TollLeaderModel", name := "burden", desc := "()J" } : Jvm.MethodName)) ∈ lw_all := lw_g (lw_at lw_m12 143 rfl) rfl
theorem q2895 : (Jvm.Cond.selects "TollLeaderModel" ({ cls := "TollLeaderModel", name := "burden", desc := "()J" } : Jvm.MethodName) ({ cls := "TollLeaderModel", name := "burden", desc := "()J" } : Jvm.MethodName)) ∈ lw_all := lw_g (lw_at lw_m12 144 rfl) rfl
theorem q2896 : (Jvm.Cond.code ({ cls := "TollLeaderModel", name := "burden", desc := "()J" } : Jvm.MethodName) prog_17_method_87_code (4 : Nat) (Option.some Jvm.ClassFile.FieldType.long)) ∈ lw_all := lw_g (lw_at lw_m12 145 rfl) rfl
theorem q2898 : (Jvm.Cond.instanceMethod ({ cls := "TollLeaderModel", name := "dearest", desc := "()I" } : Jvm.MethodName)) ∈ lw_all := lw_g (lw_at lw_m12 147 rfl) rfl
theorem q2899 : (Jvm.Cond.selects "TollLeaderModel" ({ cls := "TollLeaderModel", name := "dearest", desc := "()I" } : Jvm.MethodName) ({ cls := "TollLeaderModel", name := "dearest", desc := "()I" } : Jvm.MethodName)) ∈ lw_all := lw_g (lw_at lw_m12 148 rfl) rfl
theorem q2900 : (Jvm.Cond.code ({ cls := "TollLeaderModel", name := "dearest", desc := "()I" } : Jvm.MethodName) prog_17_method_88_code (7 : Nat) (Option.some Jvm.ClassFile.FieldType.int)) ∈ lw_all := lw_g (lw_at lw_m12 149 rfl) rfl
theorem q2902 : (Jvm.Cond.instanceMethod ({ cls := "TollLeaderModel", name := "keepToll", desc := "(II)I" } : Jvm.MethodName)) ∈ lw_all := lw_g (lw_at lw_m12 151 rfl) rfl
theorem q2903 : (Jvm.Cond.selects "TollLeaderModel" ({ cls := "TollLeaderModel", name := "keepToll", desc := "(II)I" } : Jvm.MethodName) ({ cls := "TollLeaderModel", name := "keepToll", desc := "(II)I" } : Jvm.MethodName)) ∈ lw_all := lw_g (lw_at lw_m12 152 rfl) rfl
theorem q2904 : (Jvm.Cond.code ({ cls := "TollLeaderModel", name := "keepToll", desc := "(II)I" } : Jvm.MethodName) prog_17_method_91_code (3 : Nat) (Option.some Jvm.ClassFile.FieldType.int)) ∈ lw_all := lw_g (lw_at lw_m12 153 rfl) rfl
theorem q2905 : (Jvm.Cond.methodLink "TollLeaderModel" (309 : Nat) ({ cls := "TollLeaderModel", name := "keeps0", desc := "(II)I" } : Jvm.MethodName)) ∈ lw_all := lw_g (lw_at lw_m12 154 rfl) rfl
theorem q2906 : (Jvm.Cond.privateMethod ({ cls := "TollLeaderModel", name := "keeps0", desc := "(II)I" } : Jvm.MethodName)) ∈ lw_tbl := lw_at lw_m12 155 rfl
theorem q2907 : (Jvm.Cond.instanceMethod ({ cls := "TollLeaderModel", name := "keeps0", desc := "(II)I" } : Jvm.MethodName)) ∈ lw_all := lw_g (lw_at lw_m12 156 rfl) rfl
theorem q2908 : (Jvm.Cond.code ({ cls := "TollLeaderModel", name := "keeps0", desc := "(II)I" } : Jvm.MethodName) prog_17_method_90_code (11 : Nat) (Option.some Jvm.ClassFile.FieldType.int)) ∈ lw_all := lw_g (lw_at lw_m12 157 rfl) rfl
theorem q2909 : (Jvm.Cond.methodLink "TollLeaderModel" (306 : Nat) ({ cls := "TollLeaderModel", name := "doesUseWith", desc := "(III)Z" } : Jvm.MethodName)) ∈ lw_all := lw_g (lw_at lw_m12 158 rfl) rfl
theorem q2910 : (Jvm.Cond.privateMethod ({ cls := "TollLeaderModel", name := "doesUseWith", desc := "(III)Z" } : Jvm.MethodName)) ∈ lw_tbl := lw_at lw_m12 159 rfl
theorem q2911 : (Jvm.Cond.instanceMethod ({ cls := "TollLeaderModel", name := "doesUseWith", desc := "(III)Z" } : Jvm.MethodName)) ∈ lw_all := lw_g (lw_at lw_m12 160 rfl) rfl
theorem q2912 : (Jvm.Cond.code ({ cls := "TollLeaderModel", name := "doesUseWith", desc := "(III)Z" } : Jvm.MethodName) prog_17_method_89_code (6 : Nat) (Option.some Jvm.ClassFile.FieldType.boolean)) ∈ lw_all := lw_g (lw_at lw_m12 161 rfl) rfl
theorem q2914 : (Jvm.Cond.instanceMethod ({ cls := "TollLeaderModel", name := "revenueWith", desc := "(II)J" } : Jvm.MethodName)) ∈ lw_all := lw_g (lw_at lw_m12 163 rfl) rfl
theorem q2915 : (Jvm.Cond.selects "TollLeaderModel" ({ cls := "TollLeaderModel", name := "revenueWith", desc := "(II)J" } : Jvm.MethodName) ({ cls := "TollLeaderModel", name := "revenueWith", desc := "(II)J" } : Jvm.MethodName)) ∈ lw_all := lw_g (lw_at lw_m12 164 rfl) rfl
theorem q2916 : (Jvm.Cond.code ({ cls := "TollLeaderModel", name := "revenueWith", desc := "(II)J" } : Jvm.MethodName) prog_17_method_93_code (3 : Nat) (Option.some Jvm.ClassFile.FieldType.long)) ∈ lw_all := lw_g (lw_at lw_m12 165 rfl) rfl
theorem q2917 : (Jvm.Cond.methodLink "TollLeaderModel" (312 : Nat) ({ cls := "TollLeaderModel", name := "allWith", desc := "(II)J" } : Jvm.MethodName)) ∈ lw_all := lw_g (lw_at lw_m12 166 rfl) rfl
theorem q2918 : (Jvm.Cond.privateMethod ({ cls := "TollLeaderModel", name := "allWith", desc := "(II)J" } : Jvm.MethodName)) ∈ lw_tbl := lw_at lw_m12 167 rfl
theorem q2919 : (Jvm.Cond.instanceMethod ({ cls := "TollLeaderModel", name := "allWith", desc := "(II)J" } : Jvm.MethodName)) ∈ lw_all := lw_g (lw_at lw_m12 168 rfl) rfl
theorem q2920 : (Jvm.Cond.code ({ cls := "TollLeaderModel", name := "allWith", desc := "(II)J" } : Jvm.MethodName) prog_17_method_92_code (6 : Nat) (Option.some Jvm.ClassFile.FieldType.long)) ∈ lw_all := lw_g (lw_at lw_m12 169 rfl) rfl
theorem q2922 : (Jvm.Cond.instanceMethod ({ cls := "TollLeaderModel", name := "bestToll", desc := "(I)I" } : Jvm.MethodName)) ∈ lw_all := lw_g (lw_at lw_m12 171 rfl) rfl
theorem q2923 : (Jvm.Cond.selects "TollLeaderModel" ({ cls := "TollLeaderModel", name := "bestToll", desc := "(I)I" } : Jvm.MethodName) ({ cls := "TollLeaderModel", name := "bestToll", desc := "(I)I" } : Jvm.MethodName)) ∈ lw_all := lw_g (lw_at lw_m12 172 rfl) rfl
theorem q2924 : (Jvm.Cond.code ({ cls := "TollLeaderModel", name := "bestToll", desc := "(I)I" } : Jvm.MethodName) prog_17_method_96_code (2 : Nat) (Option.some Jvm.ClassFile.FieldType.int)) ∈ lw_all := lw_g (lw_at lw_m12 173 rfl) rfl
theorem q2925 : (Jvm.Cond.methodLink "TollLeaderModel" (328 : Nat) ({ cls := "TollLeaderModel", name := "bests", desc := "(I)I" } : Jvm.MethodName)) ∈ lw_all := lw_g (lw_at lw_m12 174 rfl) rfl
theorem q2926 : (Jvm.Cond.privateMethod ({ cls := "TollLeaderModel", name := "bests", desc := "(I)I" } : Jvm.MethodName)) ∈ lw_tbl := lw_at lw_m12 175 rfl
theorem q2927 : (Jvm.Cond.instanceMethod ({ cls := "TollLeaderModel", name := "bests", desc := "(I)I" } : Jvm.MethodName)) ∈ lw_all := lw_g (lw_at lw_m12 176 rfl) rfl
theorem q2928 : (Jvm.Cond.code ({ cls := "TollLeaderModel", name := "bests", desc := "(I)I" } : Jvm.MethodName) prog_17_method_95_code (7 : Nat) (Option.some Jvm.ClassFile.FieldType.int)) ∈ lw_all := lw_g (lw_at lw_m12 177 rfl) rfl
theorem q2929 : (Jvm.Cond.methodLink "TollLeaderModel" (318 : Nat) ({ cls := "TollLeaderModel", name := "addsTurn", desc := "(I)V" } : Jvm.MethodName)) ∈ lw_all := lw_g (lw_at lw_m12 178 rfl) rfl
theorem q2930 : (Jvm.Cond.privateMethod ({ cls := "TollLeaderModel", name := "addsTurn", desc := "(I)V" } : Jvm.MethodName)) ∈ lw_tbl := lw_at lw_m12 179 rfl
theorem q2931 : (Jvm.Cond.instanceMethod ({ cls := "TollLeaderModel", name := "addsTurn", desc := "(I)V" } : Jvm.MethodName)) ∈ lw_all := lw_g (lw_at lw_m12 180 rfl) rfl
theorem q2932 : (Jvm.Cond.code ({ cls := "TollLeaderModel", name := "addsTurn", desc := "(I)V" } : Jvm.MethodName) prog_17_method_94_code (4 : Nat) (Option.none : Option Jvm.ClassFile.FieldType)) ∈ lw_all := lw_g (lw_at lw_m12 181 rfl) rfl
theorem q2933 : (Jvm.Cond.methodLink "TollLeaderModel" (325 : Nat) ({ cls := "java/lang/Math", name := "max", desc := "(JJ)J" } : Jvm.MethodName)) ∈ lw_all := lw_g (lw_at lw_m12 182 rfl) rfl
theorem q2937 : (Jvm.Cond.instanceMethod ({ cls := "TollLeaderModel", name := "improve", desc := "()I" } : Jvm.MethodName)) ∈ lw_all := lw_g (lw_at lw_m12 186 rfl) rfl
theorem q2938 : (Jvm.Cond.selects "TollLeaderModel" ({ cls := "TollLeaderModel", name := "improve", desc := "()I" } : Jvm.MethodName) ({ cls := "TollLeaderModel", name := "improve", desc := "()I" } : Jvm.MethodName)) ∈ lw_all := lw_g (lw_at lw_m12 187 rfl) rfl
theorem q2939 : (Jvm.Cond.code ({ cls := "TollLeaderModel", name := "improve", desc := "()I" } : Jvm.MethodName) prog_17_method_98_code (1 : Nat) (Option.some Jvm.ClassFile.FieldType.int)) ∈ lw_all := lw_g (lw_at lw_m12 188 rfl) rfl
theorem q2940 : (Jvm.Cond.methodLink "TollLeaderModel" (331 : Nat) ({ cls := "TollLeaderModel", name := "improves", desc := "()I" } : Jvm.MethodName)) ∈ lw_all := lw_g (lw_at lw_m12 189 rfl) rfl
theorem q2941 : (Jvm.Cond.privateMethod ({ cls := "TollLeaderModel", name := "improves", desc := "()I" } : Jvm.MethodName)) ∈ lw_tbl := lw_at lw_m12 190 rfl
theorem q2942 : (Jvm.Cond.instanceMethod ({ cls := "TollLeaderModel", name := "improves", desc := "()I" } : Jvm.MethodName)) ∈ lw_all := lw_g (lw_at lw_m12 191 rfl) rfl
theorem q2943 : (Jvm.Cond.code ({ cls := "TollLeaderModel", name := "improves", desc := "()I" } : Jvm.MethodName) prog_17_method_97_code (4 : Nat) (Option.some Jvm.ClassFile.FieldType.int)) ∈ lw_all := lw_g (lw_at lw_m12 192 rfl) rfl
theorem q2945 : (Jvm.Cond.instanceMethod ({ cls := "TollLeaderModel", name := "optimize", desc := "(I)I" } : Jvm.MethodName)) ∈ lw_all := lw_g (lw_at lw_m12 194 rfl) rfl
theorem q2946 : (Jvm.Cond.selects "TollLeaderModel" ({ cls := "TollLeaderModel", name := "optimize", desc := "(I)I" } : Jvm.MethodName) ({ cls := "TollLeaderModel", name := "optimize", desc := "(I)I" } : Jvm.MethodName)) ∈ lw_all := lw_g (lw_at lw_m12 195 rfl) rfl
theorem q2947 : (Jvm.Cond.code ({ cls := "TollLeaderModel", name := "optimize", desc := "(I)I" } : Jvm.MethodName) prog_17_method_99_code (3 : Nat) (Option.some Jvm.ClassFile.FieldType.int)) ∈ lw_all := lw_g (lw_at lw_m12 196 rfl) rfl
theorem q2949 : (Jvm.Cond.instanceMethod ({ cls := "TollLeaderModel", name := "improvable", desc := "()I" } : Jvm.MethodName)) ∈ lw_all := lw_g (lw_at lw_m12 198 rfl) rfl
theorem q2950 : (Jvm.Cond.selects "TollLeaderModel" ({ cls := "TollLeaderModel", name := "improvable", desc := "()I" } : Jvm.MethodName) ({ cls := "TollLeaderModel", name := "improvable", desc := "()I" } : Jvm.MethodName)) ∈ lw_all := lw_g (lw_at lw_m12 199 rfl) rfl
theorem q2951 : (Jvm.Cond.code ({ cls := "TollLeaderModel", name := "improvable", desc := "()I" } : Jvm.MethodName) prog_17_method_100_code (4 : Nat) (Option.some Jvm.ClassFile.FieldType.int)) ∈ lw_all := lw_g (lw_at lw_m12 200 rfl) rfl
theorem q2953 : (Jvm.Cond.instanceMethod ({ cls := "TollLeaderModel", name := "bestPair", desc := "(III)I" } : Jvm.MethodName)) ∈ lw_all := lw_g (lw_at lw_m12 202 rfl) rfl
theorem q2954 : (Jvm.Cond.selects "TollLeaderModel" ({ cls := "TollLeaderModel", name := "bestPair", desc := "(III)I" } : Jvm.MethodName) ({ cls := "TollLeaderModel", name := "bestPair", desc := "(III)I" } : Jvm.MethodName)) ∈ lw_all := lw_g (lw_at lw_m12 203 rfl) rfl
theorem q2955 : (Jvm.Cond.code ({ cls := "TollLeaderModel", name := "bestPair", desc := "(III)I" } : Jvm.MethodName) prog_17_method_101_code (12 : Nat) (Option.some Jvm.ClassFile.FieldType.int)) ∈ lw_all := lw_g (lw_at lw_m12 204 rfl) rfl
theorem q2957 : (Jvm.Cond.instanceMethod ({ cls := "TollLeaderModel", name := "stepCount", desc := "(I)I" } : Jvm.MethodName)) ∈ lw_all := lw_g (lw_at lw_m12 206 rfl) rfl
theorem q2958 : (Jvm.Cond.selects "TollLeaderModel" ({ cls := "TollLeaderModel", name := "stepCount", desc := "(I)I" } : Jvm.MethodName) ({ cls := "TollLeaderModel", name := "stepCount", desc := "(I)I" } : Jvm.MethodName)) ∈ lw_all := lw_g (lw_at lw_m12 207 rfl) rfl
theorem q2959 : (Jvm.Cond.code ({ cls := "TollLeaderModel", name := "stepCount", desc := "(I)I" } : Jvm.MethodName) prog_17_method_103_code (2 : Nat) (Option.some Jvm.ClassFile.FieldType.int)) ∈ lw_all := lw_g (lw_at lw_m12 208 rfl) rfl
theorem q2960 : (Jvm.Cond.methodLink "TollLeaderModel" (334 : Nat) ({ cls := "TollLeaderModel", name := "laysSteps", desc := "(I)I" } : Jvm.MethodName)) ∈ lw_all := lw_g (lw_at lw_m12 209 rfl) rfl
theorem q2961 : (Jvm.Cond.privateMethod ({ cls := "TollLeaderModel", name := "laysSteps", desc := "(I)I" } : Jvm.MethodName)) ∈ lw_tbl := lw_at lw_m12 210 rfl
theorem q2962 : (Jvm.Cond.instanceMethod ({ cls := "TollLeaderModel", name := "laysSteps", desc := "(I)I" } : Jvm.MethodName)) ∈ lw_all := lw_g (lw_at lw_m12 211 rfl) rfl
theorem q2963 : (Jvm.Cond.code ({ cls := "TollLeaderModel", name := "laysSteps", desc := "(I)I" } : Jvm.MethodName) prog_17_method_102_code (4 : Nat) (Option.some Jvm.ClassFile.FieldType.int)) ∈ lw_all := lw_g (lw_at lw_m12 212 rfl) rfl
theorem q2965 : (Jvm.Cond.instanceMethod ({ cls := "TollLeaderModel", name := "step", desc := "(II)I" } : Jvm.MethodName)) ∈ lw_all := lw_g (lw_at lw_m12 214 rfl) rfl
theorem q2966 : (Jvm.Cond.selects "TollLeaderModel" ({ cls := "TollLeaderModel", name := "step", desc := "(II)I" } : Jvm.MethodName) ({ cls := "TollLeaderModel", name := "step", desc := "(II)I" } : Jvm.MethodName)) ∈ lw_all := lw_g (lw_at lw_m12 215 rfl) rfl
theorem q2967 : (Jvm.Cond.code ({ cls := "TollLeaderModel", name := "step", desc := "(II)I" } : Jvm.MethodName) prog_17_method_104_code (3 : Nat) (Option.some Jvm.ClassFile.FieldType.int)) ∈ lw_all := lw_g (lw_at lw_m12 216 rfl) rfl
theorem q2969 : (Jvm.Cond.instanceMethod ({ cls := "TollLeaderModel", name := "detour", desc := "(II)I" } : Jvm.MethodName)) ∈ lw_all := lw_g (lw_at lw_m12 218 rfl) rfl
theorem q2970 : (Jvm.Cond.selects "TollLeaderModel" ({ cls := "TollLeaderModel", name := "detour", desc := "(II)I" } : Jvm.MethodName) ({ cls := "TollLeaderModel", name := "detour", desc := "(II)I" } : Jvm.MethodName)) ∈ lw_all := lw_g (lw_at lw_m12 219 rfl) rfl
theorem q2971 : (Jvm.Cond.code ({ cls := "TollLeaderModel", name := "detour", desc := "(II)I" } : Jvm.MethodName) prog_17_method_105_code (5 : Nat) (Option.some Jvm.ClassFile.FieldType.int)) ∈ lw_all := lw_g (lw_at lw_m12 220 rfl) rfl
theorem q2973 : (Jvm.Cond.instanceMethod ({ cls := "TollLeaderModel", name := "captives", desc := "(I)I" } : Jvm.MethodName)) ∈ lw_all := lw_g (lw_at lw_m12 222 rfl) rfl
theorem q2974 : (Jvm.Cond.selects "TollLeaderModel" ({ cls := "TollLeaderModel", name := "captives", desc := "(I)I" } : Jvm.MethodName) ({ cls := "TollLeaderModel", name := "captives", desc := "(I)I" } : Jvm.MethodName)) ∈ lw_all := lw_g (lw_at lw_m12 223 rfl) rfl
theorem q2975 : (Jvm.Cond.code ({ cls := "TollLeaderModel", name := "captives", desc := "(I)I" } : Jvm.MethodName) prog_17_method_106_code (5 : Nat) (Option.some Jvm.ClassFile.FieldType.int)) ∈ lw_all := lw_g (lw_at lw_m12 224 rfl) rfl
theorem q2977 : (Jvm.Cond.instanceMethod ({ cls := "TollLeaderModel", name := "worth", desc := "(I)J" } : Jvm.MethodName)) ∈ lw_all := lw_g (lw_at lw_m12 226 rfl) rfl
theorem q2978 : (Jvm.Cond.selects "TollLeaderModel" ({ cls := "TollLeaderModel", name := "worth", desc := "(I)J" } : Jvm.MethodName) ({ cls := "TollLeaderModel", name := "worth", desc := "(I)J" } : Jvm.MethodName)) ∈ lw_all := lw_g (lw_at lw_m12 227 rfl) rfl
theorem q2979 : (Jvm.Cond.code ({ cls := "TollLeaderModel", name := "worth", desc := "(I)J" } : Jvm.MethodName) prog_17_method_107_code (6 : Nat) (Option.some Jvm.ClassFile.FieldType.long)) ∈ lw_all := lw_g (lw_at lw_m12 228 rfl) rfl
theorem q2981 : (Jvm.Cond.instanceMethod ({ cls := "TollLeaderModel", name := "reachable", desc := "(I)I" } : Jvm.MethodName)) ∈ lw_all := lw_g (lw_at lw_m12 230 rfl) rfl
theorem q2982 : (Jvm.Cond.selects "TollLeaderModel" ({ cls := "TollLeaderModel", name := "reachable", desc := "(I)I" } : Jvm.MethodName) ({ cls := "TollLeaderModel", name := "reachable", desc := "(I)I" } : Jvm.MethodName)) ∈ lw_all := lw_g (lw_at lw_m12 231 rfl) rfl
theorem q2983 : (Jvm.Cond.code ({ cls := "TollLeaderModel", name := "reachable", desc := "(I)I" } : Jvm.MethodName) prog_17_method_108_code (6 : Nat) (Option.some Jvm.ClassFile.FieldType.int)) ∈ lw_all := lw_g (lw_at lw_m12 232 rfl) rfl
theorem q2985 : (Jvm.Cond.instanceMethod ({ cls := "TollLeaderModel", name := "judge", desc := "(I)I" } : Jvm.MethodName)) ∈ lw_all := lw_g (lw_at lw_m12 234 rfl) rfl
theorem q2986 : (Jvm.Cond.selects "TollLeaderModel" ({ cls := "TollLeaderModel", name := "judge", desc := "(I)I" } : Jvm.MethodName) ({ cls := "TollLeaderModel", name := "judge", desc := "(I)I" } : Jvm.MethodName)) ∈ lw_all := lw_g (lw_at lw_m12 235 rfl) rfl
theorem q2987 : (Jvm.Cond.code ({ cls := "TollLeaderModel", name := "judge", desc := "(I)I" } : Jvm.MethodName) prog_17_method_110_code (3 : Nat) (Option.some Jvm.ClassFile.FieldType.int)) ∈ lw_all := lw_g (lw_at lw_m12 236 rfl) rfl
theorem q2988 : (Jvm.Cond.methodLink "TollLeaderModel" (337 : Nat) ({ cls := "TollLeaderModel", name := "feltInBuffer", desc := "(I)I" } : Jvm.MethodName)) ∈ lw_all := lw_g (lw_at lw_m12 237 rfl) rfl
theorem q2989 : (Jvm.Cond.privateMethod ({ cls := "TollLeaderModel", name := "feltInBuffer", desc := "(I)I" } : Jvm.MethodName)) ∈ lw_tbl := lw_at lw_m12 238 rfl
theorem q2990 : (Jvm.Cond.instanceMethod ({ cls := "TollLeaderModel", name := "feltInBuffer", desc := "(I)I" } : Jvm.MethodName)) ∈ lw_all := lw_g (lw_at lw_m12 239 rfl) rfl
theorem q2991 : (Jvm.Cond.code ({ cls := "TollLeaderModel", name := "feltInBuffer", desc := "(I)I" } : Jvm.MethodName) prog_17_method_109_code (6 : Nat) (Option.some Jvm.ClassFile.FieldType.int)) ∈ lw_all := lw_g (lw_at lw_m13 0 rfl) rfl
theorem q2993 : (Jvm.Cond.instanceMethod ({ cls := "TollLeaderModel", name := "margin", desc := "(I)I" } : Jvm.MethodName)) ∈ lw_all := lw_g (lw_at lw_m13 2 rfl) rfl
theorem q2994 : (Jvm.Cond.selects "TollLeaderModel" ({ cls := "TollLeaderModel", name := "margin", desc := "(I)I" } : Jvm.MethodName) ({ cls := "TollLeaderModel", name := "margin", desc := "(I)I" } : Jvm.MethodName)) ∈ lw_all := lw_g (lw_at lw_m13 3 rfl) rfl
theorem q2995 : (Jvm.Cond.code ({ cls := "TollLeaderModel", name := "margin", desc := "(I)I" } : Jvm.MethodName) prog_17_method_112_code (6 : Nat) (Option.some Jvm.ClassFile.FieldType.int)) ∈ lw_all := lw_g (lw_at lw_m13 4 rfl) rfl
theorem q2996 : (Jvm.Cond.methodLink "TollLeaderModel" (340 : Nat) ({ cls := "TollLeaderModel", name := "feltAside", desc := "(II)I" } : Jvm.MethodName)) ∈ lw_all := lw_g (lw_at lw_m13 5 rfl) rfl
theorem q2997 : (Jvm.Cond.privateMethod ({ cls := "TollLeaderModel", name := "feltAside", desc := "(II)I" } : Jvm.MethodName)) ∈ lw_tbl := lw_at lw_m13 6 rfl
theorem q2998 : (Jvm.Cond.instanceMethod ({ cls := "TollLeaderModel", name := "feltAside", desc := "(II)I" } : Jvm.MethodName)) ∈ lw_all := lw_g (lw_at lw_m13 7 rfl) rfl
theorem q2999 : (Jvm.Cond.code ({ cls := "TollLeaderModel", name := "feltAside", desc := "(II)I" } : Jvm.MethodName) prog_17_method_111_code (6 : Nat) (Option.some Jvm.ClassFile.FieldType.int)) ∈ lw_all := lw_g (lw_at lw_m13 8 rfl) rfl
theorem q3001 : (Jvm.Cond.instanceMethod ({ cls := "TollLeaderModel", name := "writePath", desc := "(I)I" } : Jvm.MethodName)) ∈ lw_all := lw_g (lw_at lw_m13 10 rfl) rfl
theorem q3002 : (Jvm.Cond.selects "TollLeaderModel" ({ cls := "TollLeaderModel", name := "writePath", desc := "(I)I" } : Jvm.MethodName) ({ cls := "TollLeaderModel", name := "writePath", desc := "(I)I" } : Jvm.MethodName)) ∈ lw_all := lw_g (lw_at lw_m13 11 rfl) rfl
theorem q3003 : (Jvm.Cond.code ({ cls := "TollLeaderModel", name := "writePath", desc := "(I)I" } : Jvm.MethodName) prog_17_method_116_code (3 : Nat) (Option.some Jvm.ClassFile.FieldType.int)) ∈ lw_all := lw_g (lw_at lw_m13 12 rfl) rfl
theorem q3004 : (Jvm.Cond.stringRef "TollLeaderModel" (349 : Nat) "none") ∈ lw_tbl := lw_at lw_m13 13 rfl
theorem q3005 : (Jvm.Cond.methodLink "TollLeaderModel" (351 : Nat) ({ cls := "TollLeaderModel", name := "putsWord", desc := "(Ljava/lang/String;)V" } : Jvm.MethodName)) ∈ lw_all := lw_g (lw_at lw_m13 14 rfl) rfl
theorem q3006 : (Jvm.Cond.privateMethod ({ cls := "TollLeaderModel", name := "putsWord", desc := "(Ljava/lang/String;)V" } : Jvm.MethodName)) ∈ lw_tbl := lw_at lw_m13 15 rfl
theorem q3007 : (Jvm.Cond.instanceMethod ({ cls := "TollLeaderModel", name := "putsWord", desc := "(Ljava/lang/String;)V" } : Jvm.MethodName)) ∈ lw_all := lw_g (lw_at lw_m13 16 rfl) rfl
theorem q3008 : (Jvm.Cond.code ({ cls := "TollLeaderModel", name := "putsWord", desc := "(Ljava/lang/String;)V" } : Jvm.MethodName) prog_17_method_115_code (3 : Nat) (Option.none : Option Jvm.ClassFile.FieldType)) ∈ lw_all := lw_g (lw_at lw_m13 17 rfl) rfl
theorem q3009 : (Jvm.Cond.methodLink "TollLeaderModel" (346 : Nat) ({ cls := "TollLeaderModel", name := "puts", desc := "(I)V" } : Jvm.MethodName)) ∈ lw_all := lw_g (lw_at lw_m13 18 rfl) rfl
theorem q3010 : (Jvm.Cond.privateMethod ({ cls := "TollLeaderModel", name := "puts", desc := "(I)V" } : Jvm.MethodName)) ∈ lw_tbl := lw_at lw_m13 19 rfl
theorem q3011 : (Jvm.Cond.instanceMethod ({ cls := "TollLeaderModel", name := "puts", desc := "(I)V" } : Jvm.MethodName)) ∈ lw_all := lw_g (lw_at lw_m13 20 rfl) rfl
theorem q3012 : (Jvm.Cond.code ({ cls := "TollLeaderModel", name := "puts", desc := "(I)V" } : Jvm.MethodName) prog_17_method_113_code (2 : Nat) (Option.none : Option Jvm.ClassFile.FieldType)) ∈ lw_all := lw_g (lw_at lw_m13 21 rfl) rfl
theorem q3013 : (Jvm.Cond.methodLink "TollLeaderModel" (355 : Nat) ({ cls := "TollLeaderModel", name := "putsNumber", desc := "(I)V" } : Jvm.MethodName)) ∈ lw_all := lw_g (lw_at lw_m13 22 rfl) rfl
theorem q3014 : (Jvm.Cond.privateMethod ({ cls := "TollLeaderModel", name := "putsNumber", desc := "(I)V" } : Jvm.MethodName)) ∈ lw_tbl := lw_at lw_m13 23 rfl
theorem q3015 : (Jvm.Cond.instanceMethod ({ cls := "TollLeaderModel", name := "putsNumber", desc := "(I)V" } : Jvm.MethodName)) ∈ lw_all := lw_g (lw_at lw_m13 24 rfl) rfl
theorem q3016 : (Jvm.Cond.code ({ cls := "TollLeaderModel", name := "putsNumber", desc := "(I)V" } : Jvm.MethodName) prog_17_method_114_code (3 : Nat) (Option.none : Option Jvm.ClassFile.FieldType)) ∈ lw_all := lw_g (lw_at lw_m13 25 rfl) rfl
theorem q3018 : (Jvm.Cond.instanceMethod ({ cls := "TollLeaderModel", name := "writeTolls", desc := "()I" } : Jvm.MethodName)) ∈ lw_all := lw_g (lw_at lw_m13 27 rfl) rfl
theorem q3019 : (Jvm.Cond.selects "TollLeaderModel" ({ cls := "TollLeaderModel", name := "writeTolls", desc := "()I" } : Jvm.MethodName) ({ cls := "TollLeaderModel", name := "writeTolls", desc := "()I" } : Jvm.MethodName)) ∈ lw_all := lw_g (lw_at lw_m13 28 rfl) rfl
theorem q3020 : (Jvm.Cond.code ({ cls := "TollLeaderModel", name := "writeTolls", desc := "()I" } : Jvm.MethodName) prog_17_method_117_code (2 : Nat) (Option.some Jvm.ClassFile.FieldType.int)) ∈ lw_all := lw_g (lw_at lw_m13 29 rfl) rfl
theorem q3022 : (Jvm.Cond.instanceMethod ({ cls := "TollLeaderModel", name := "outputByte", desc := "(I)I" } : Jvm.MethodName)) ∈ lw_all := lw_g (lw_at lw_m13 31 rfl) rfl
theorem q3023 : (Jvm.Cond.selects "TollLeaderModel" ({ cls := "TollLeaderModel", name := "outputByte", desc := "(I)I" } : Jvm.MethodName) ({ cls := "TollLeaderModel", name := "outputByte", desc := "(I)I" } : Jvm.MethodName)) ∈ lw_all := lw_g (lw_at lw_m13 32 rfl) rfl
theorem q3024 : (Jvm.Cond.code ({ cls := "TollLeaderModel", name := "outputByte", desc := "(I)I" } : Jvm.MethodName) prog_17_method_118_code (2 : Nat) (Option.some Jvm.ClassFile.FieldType.int)) ∈ lw_all := lw_g (lw_at lw_m13 33 rfl) rfl
theorem q3026 : (Jvm.Cond.instanceMethod ({ cls := "TollLeaderModel", name := "saveSnapshot", desc := "(I)I" } : Jvm.MethodName)) ∈ lw_all := lw_g (lw_at lw_m13 35 rfl) rfl
theorem q3027 : (Jvm.Cond.selects "TollLeaderModel" ({ cls := "TollLeaderModel", name := "saveSnapshot", desc := "(I)I" } : Jvm.MethodName) ({ cls := "TollLeaderModel", name := "saveSnapshot", desc := "(I)I" } : Jvm.MethodName)) ∈ lw_all := lw_g (lw_at lw_m13 36 rfl) rfl
theorem q3028 : (Jvm.Cond.code ({ cls := "TollLeaderModel", name := "saveSnapshot", desc := "(I)I" } : Jvm.MethodName) prog_17_method_119_code (2 : Nat) (Option.some Jvm.ClassFile.FieldType.int)) ∈ lw_all := lw_g (lw_at lw_m13 37 rfl) rfl
theorem q3030 : (Jvm.Cond.instanceMethod ({ cls := "TollLeaderModel", name := "restoreSnapshot", desc := "(I)I" } : Jvm.MethodName)) ∈ lw_all := lw_g (lw_at lw_m13 39 rfl) rfl
theorem q3031 : (Jvm.Cond.selects "TollLeaderModel" ({ cls := "TollLeaderModel", name := "restoreSnapshot", desc := "(I)I" } : Jvm.MethodName) ({ cls := "TollLeaderModel", name := "restoreSnapshot", desc := "(I)I" } : Jvm.MethodName)) ∈ lw_all := lw_g (lw_at lw_m13 40 rfl) rfl
theorem q3032 : (Jvm.Cond.code ({ cls := "TollLeaderModel", name := "restoreSnapshot", desc := "(I)I" } : Jvm.MethodName) prog_17_method_120_code (2 : Nat) (Option.some Jvm.ClassFile.FieldType.int)) ∈ lw_all := lw_g (lw_at lw_m13 41 rfl) rfl
theorem q3066 : (Jvm.Cond.castable "TollLeaderModel" "java/lang/Object") ∈ lw_tbl := lw_at lw_m13 75 rfl
theorem in_X5 : ∀ w ∈ wsX50, w ∈ lw_all := lw_in wsX50 [2466, 2468, 2470, 2472, 2474, 2476, 2478, 2480, 2482, 2484, 2486, 2488, 2490, 2492, 2494, 2496, 2498, 2500, 2502, 2504, 2506, 2508, 2510, 2512, 2514, 2516, 2518, 2520, 2522, 2524, 2526, 2528, 2530] (by decide +kernel) (by decide +kernel)

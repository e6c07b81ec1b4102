/-! java/util/LinkedList$Node -/
set_option maxRecDepth 100000
def RJ20 : String := "java/util/LinkedList$Node"
def TJ20 : u_T := fun k => match k with
  | 0 => ("java/util/LinkedList$Node", "item", "Ljava/lang/Object;", false)
  | 1 => ("java/util/LinkedList$Node", "next", "Ljava/util/LinkedList$Node;", false)
  | _ => ("java/util/LinkedList$Node", "prev", "Ljava/util/LinkedList$Node;", false)
def tyJ20 : Nat → FieldType := fun k => match k with
  | 0 => .object "java/lang/Object"
  | 1 => .object "java/util/LinkedList$Node"
  | _ => .object "java/util/LinkedList$Node"
abbrev wsJ200 : List Cond := u_ws RJ20 TJ20 3
theorem nmJ20 : ∀ a, a < 3 → ∀ b, b < 3 → a ≠ b → (TJ20 a).2.1 ≠ (TJ20 b).2.1 := by decide +kernel
theorem tyJ20_ok : ∀ k, k < 3 → parseFieldDescriptor (TJ20 k).2.2.1 = some (tyJ20 k) := by decide +kernel
abbrev cJ20_init : ByteArray := prog_62_method_1_code
def yJ20_init : MethodName := ⟨RJ20, "<init>", "(Ljava/util/LinkedList$Node;Ljava/lang/Object;Ljava/util/LinkedList$Node;)V"⟩
def dkwJ20_init_0 : List UInt8 := [42, 183, 0, 1, 42, 44, 181, 0, 7, 42, 45, 181, 0, 13, 42, 43, 181, 0, 17, 177]
abbrev dktJ20_init_0 : List UInt8 := dkwJ20_init_0 ++ []
theorem dksJ20_init_0 : cJ20_init.data.toList.drop 0 = dktJ20_init_0 := by decide +kernel
theorem dJ20_init_0 : decode cJ20_init 0 = .ok (.aload_n 0, 1) := dk_42 (dk_at dksJ20_init_0 0 rfl rfl)
theorem dJ20_init_1 : decode cJ20_init 1 = .ok (.invokespecial 1, 3) := dk_183 0 1 (dk_at dksJ20_init_0 1 rfl rfl)
theorem dJ20_init_4 : decode cJ20_init 4 = .ok (.aload_n 0, 1) := dk_42 (dk_at dksJ20_init_0 4 rfl rfl)
theorem dJ20_init_5 : decode cJ20_init 5 = .ok (.aload_n 2, 1) := dk_44 (dk_at dksJ20_init_0 5 rfl rfl)
theorem dJ20_init_6 : decode cJ20_init 6 = .ok (.putfield 7, 3) := dk_181 0 7 (dk_at dksJ20_init_0 6 rfl rfl)
theorem dJ20_init_9 : decode cJ20_init 9 = .ok (.aload_n 0, 1) := dk_42 (dk_at dksJ20_init_0 9 rfl rfl)
theorem dJ20_init_10 : decode cJ20_init 10 = .ok (.aload_n 3, 1) := dk_45 (dk_at dksJ20_init_0 10 rfl rfl)
theorem dJ20_init_11 : decode cJ20_init 11 = .ok (.putfield 13, 3) := dk_181 0 13 (dk_at dksJ20_init_0 11 rfl rfl)
theorem dJ20_init_14 : decode cJ20_init 14 = .ok (.aload_n 0, 1) := dk_42 (dk_at dksJ20_init_0 14 rfl rfl)
theorem dJ20_init_15 : decode cJ20_init 15 = .ok (.aload_n 1, 1) := dk_43 (dk_at dksJ20_init_0 15 rfl rfl)
theorem dJ20_init_16 : decode cJ20_init 16 = .ok (.putfield 17, 3) := dk_181 0 17 (dk_at dksJ20_init_0 16 rfl rfl)
theorem dJ20_init_19 : decode cJ20_init 19 = .ok (.return_, 1) := dk_177 (dk_at dksJ20_init_0 19 rfl rfl)
theorem q142 : (Jvm.Cond.initialized "java/util/LinkedList$Node") ∈ lw_all := lw_g (lw_at lw_m1 31 rfl) rfl
theorem q1009 : (Jvm.Cond.selects "java/util/LinkedList$Node" ({ cls := "java/lang/Object", name := "getClass", desc := "()Ljava/lang/Class;" } : Jvm.MethodName) ({ cls := "java/lang/Object", name := "getClass", desc := "()Ljava/lang/Class;" } : Jvm.MethodName)) ∈ lw_all := lw_g (lw_at lw_m4 178 rfl) rfl
theorem q1028 : (Jvm.Cond.instantiable "java/util/LinkedList$Node" (3 : Nat)) ∈ lw_all := lw_g (lw_at lw_m4 197 rfl) rfl
theorem q1030 : (Jvm.Cond.instanceMethod ({ cls := "java/util/LinkedList$Node", name := "<init>", desc := "(Ljava/util/LinkedList$Node;Ljava/lang/Object;Ljava/util/LinkedList$Node;)V" } : Jvm.MethodName)) ∈ lw_all := lw_g (lw_at lw_m4 199 rfl) rfl
theorem q1031 : (Jvm.Cond.code ({ cls := "java/util/LinkedList$Node", name := "<init>", desc := "(Ljava/util/LinkedList$Node;Ljava/lang/Object;Ljava/util/LinkedList$Node;)V" } : Jvm.MethodName) prog_62_method_1_code (4 : Nat) (Option.none : Option Jvm.ClassFile.FieldType)) ∈ lw_all := lw_g (lw_at lw_m4 200 rfl) rfl
theorem q1032 : (Jvm.Cond.methodLink "java/util/LinkedList$Node" (1 : Nat) ({ cls := "java/lang/Object", name := "<init>", desc := "()V" } : Jvm.MethodName)) ∈ lw_all := lw_g (lw_at lw_m4 201 rfl) rfl
theorem q1033 : (Jvm.Cond.fieldLink "java/util/LinkedList$Node" (7 : Nat) "java/util/LinkedList$Node" "item" "Ljava/lang/Object;") ∈ lw_all := lw_g (lw_at lw_m4 202 rfl) rfl
theorem q1036 : (Jvm.Cond.fieldLink "java/util/LinkedList$Node" (13 : Nat) "java/util/LinkedList$Node" "next" "Ljava/util/LinkedList$Node;") ∈ lw_all := lw_g (lw_at lw_m4 205 rfl) rfl
theorem q1039 : (Jvm.Cond.fieldLink "java/util/LinkedList$Node" (17 : Nat) "java/util/LinkedList$Node" "prev" "Ljava/util/LinkedList$Node;") ∈ lw_all := lw_g (lw_at lw_m4 208 rfl) rfl
theorem q1041 : (Jvm.Cond.lays "java/util/LinkedList$Node" "java/util/LinkedList$Node" "item" "Ljava/lang/Object;") ∈ lw_all := lw_g (lw_at lw_m4 210 rfl) rfl
theorem q1042 : (Jvm.Cond.soleField "java/util/LinkedList$Node" "item") ∈ lw_all := lw_g (lw_at lw_m4 211 rfl) rfl
theorem q1043 : (Jvm.Cond.lays "java/util/LinkedList$Node" "java/util/LinkedList$Node" "next" "Ljava/util/LinkedList$Node;") ∈ lw_all := lw_g (lw_at lw_m4 212 rfl) rfl
theorem q1044 : (Jvm.Cond.soleField "java/util/LinkedList$Node" "next") ∈ lw_all := lw_g (lw_at lw_m4 213 rfl) rfl
theorem q1045 : (Jvm.Cond.lays "java/util/LinkedList$Node" "java/util/LinkedList$Node" "prev" "Ljava/util/LinkedList$Node;") ∈ lw_all := lw_g (lw_at lw_m4 214 rfl) rfl
theorem q1046 : (Jvm.Cond.soleField "java/util/LinkedList$Node" "prev") ∈ lw_all := lw_g (lw_at lw_m4 215 rfl) rfl
theorem q1047 : (Jvm.Cond.superclass "java/util/LinkedList$Node" "java/lang/Object") ∈ lw_all := lw_g (lw_at lw_m4 216 rfl) rfl
theorem q3078 : (Jvm.Cond.castable "java/util/LinkedList$Node" "java/lang/Object") ∈ lw_tbl := lw_at lw_m13 87 rfl
theorem in_J20 : ∀ w ∈ wsJ200, w ∈ lw_all := lw_in wsJ200 [1041, 1043, 1045] (by decide +kernel) (by decide +kernel)
/-! java/util/ArrayList$Itr -/
set_option maxRecDepth 100000
def RJ21 : String := "java/util/ArrayList$Itr"
def TJ21 : u_T := fun k => match k with
  | 0 => ("java/util/ArrayList$Itr", "cursor", "I", false)
  | 1 => ("java/util/ArrayList$Itr", "lastRet", "I", false)
  | 2 => ("java/util/ArrayList$Itr", "expectedModCount", "I", false)
  | _ => ("java/util/ArrayList$Itr", "this$0", "Ljava/util/ArrayList;", true)
def tyJ21 : Nat → FieldType := fun k => match k with
  | 0 => .int
  | 1 => .int
  | 2 => .int
  | _ => .object "java/util/ArrayList"
abbrev wsJ210 : List Cond := u_ws RJ21 TJ21 4
theorem nmJ21 : ∀ a, a < 4 → ∀ b, b < 4 → a ≠ b → (TJ21 a).2.1 ≠ (TJ21 b).2.1 := by decide +kernel
theorem tyJ21_ok : ∀ k, k < 4 → parseFieldDescriptor (TJ21 k).2.2.1 = some (tyJ21 k) := by decide +kernel
abbrev cJ21_init : ByteArray := prog_53_method_1_code
def yJ21_init : MethodName := ⟨RJ21, "<init>", "(Ljava/util/ArrayList;)V"⟩
def dkwJ21_init_1 : List UInt8 := [181, 0, 22, 177]
abbrev dktJ21_init_1 : List UInt8 := dkwJ21_init_1 ++ []
def dkwJ21_init_0 : List UInt8 := [42, 43, 181, 0, 1, 42, 183, 0, 7, 42, 2, 181, 0, 13, 42, 42, 180, 0, 1, 180, 0, 17]
abbrev dktJ21_init_0 : List UInt8 := dkwJ21_init_0 ++ dktJ21_init_1
theorem dksJ21_init_0 : cJ21_init.data.toList.drop 0 = dktJ21_init_0 := by decide +kernel
theorem dksJ21_init_1 : cJ21_init.data.toList.drop 22 = dktJ21_init_1 := dk_seg dksJ21_init_0 22 rfl rfl
theorem dJ21_init_0 : decode cJ21_init 0 = .ok (.aload_n 0, 1) := dk_42 (dk_at dksJ21_init_0 0 rfl rfl)
theorem dJ21_init_1 : decode cJ21_init 1 = .ok (.aload_n 1, 1) := dk_43 (dk_at dksJ21_init_0 1 rfl rfl)
theorem dJ21_init_2 : decode cJ21_init 2 = .ok (.putfield 1, 3) := dk_181 0 1 (dk_at dksJ21_init_0 2 rfl rfl)
theorem dJ21_init_5 : decode cJ21_init 5 = .ok (.aload_n 0, 1) := dk_42 (dk_at dksJ21_init_0 5 rfl rfl)
theorem dJ21_init_6 : decode cJ21_init 6 = .ok (.invokespecial 7, 3) := dk_183 0 7 (dk_at dksJ21_init_0 6 rfl rfl)
theorem dJ21_init_9 : decode cJ21_init 9 = .ok (.aload_n 0, 1) := dk_42 (dk_at dksJ21_init_0 9 rfl rfl)
theorem dJ21_init_10 : decode cJ21_init 10 = .ok (.iconst (-1), 1) := dk_2 (dk_at dksJ21_init_0 10 rfl rfl)
theorem dJ21_init_11 : decode cJ21_init 11 = .ok (.putfield 13, 3) := dk_181 0 13 (dk_at dksJ21_init_0 11 rfl rfl)
theorem dJ21_init_14 : decode cJ21_init 14 = .ok (.aload_n 0, 1) := dk_42 (dk_at dksJ21_init_0 14 rfl rfl)
theorem dJ21_init_15 : decode cJ21_init 15 = .ok (.aload_n 0, 1) := dk_42 (dk_at dksJ21_init_0 15 rfl rfl)
theorem dJ21_init_16 : decode cJ21_init 16 = .ok (.getfield 1, 3) := dk_180 0 1 (dk_at dksJ21_init_0 16 rfl rfl)
theorem dJ21_init_19 : decode cJ21_init 19 = .ok (.getfield 17, 3) := dk_180 0 17 (dk_at dksJ21_init_0 19 rfl rfl)
theorem dJ21_init_22 : decode cJ21_init 22 = .ok (.putfield 22, 3) := dk_181 0 22 (dk_at dksJ21_init_1 0 rfl rfl)
theorem dJ21_init_25 : decode cJ21_init 25 = .ok (.return_, 1) := dk_177 (dk_at dksJ21_init_1 3 rfl rfl)
abbrev cJ21_hasNext : ByteArray := prog_53_method_2_code
def yJ21_hasNext : MethodName := ⟨RJ21, "hasNext", "()Z"⟩
def dkwJ21_hasNext_0 : List UInt8 := [42, 180, 0, 25, 42, 180, 0, 1, 180, 0, 28, 159, 0, 7, 4, 167, 0, 4, 3, 172]
abbrev dktJ21_hasNext_0 : List UInt8 := dkwJ21_hasNext_0 ++ []
theorem dksJ21_hasNext_0 : cJ21_hasNext.data.toList.drop 0 = dktJ21_hasNext_0 := by decide +kernel
theorem dJ21_hasNext_0 : decode cJ21_hasNext 0 = .ok (.aload_n 0, 1) := dk_42 (dk_at dksJ21_hasNext_0 0 rfl rfl)
theorem dJ21_hasNext_1 : decode cJ21_hasNext 1 = .ok (.getfield 25, 3) := dk_180 0 25 (dk_at dksJ21_hasNext_0 1 rfl rfl)
theorem dJ21_hasNext_4 : decode cJ21_hasNext 4 = .ok (.aload_n 0, 1) := dk_42 (dk_at dksJ21_hasNext_0 4 rfl rfl)
theorem dJ21_hasNext_5 : decode cJ21_hasNext 5 = .ok (.getfield 1, 3) := dk_180 0 1 (dk_at dksJ21_hasNext_0 5 rfl rfl)
theorem dJ21_hasNext_8 : decode cJ21_hasNext 8 = .ok (.getfield 28, 3) := dk_180 0 28 (dk_at dksJ21_hasNext_0 8 rfl rfl)
theorem dJ21_hasNext_11 : decode cJ21_hasNext 11 = .ok (.if_icmp .eq 7, 3) := dk_159 0 7 (dk_at dksJ21_hasNext_0 11 rfl rfl)
theorem dJ21_hasNext_14 : decode cJ21_hasNext 14 = .ok (.iconst 1, 1) := dk_4 (dk_at dksJ21_hasNext_0 14 rfl rfl)
theorem dJ21_hasNext_15 : decode cJ21_hasNext 15 = .ok (.goto 4, 3) := dk_167 0 4 (dk_at dksJ21_hasNext_0 15 rfl rfl)
theorem dJ21_hasNext_18 : decode cJ21_hasNext 18 = .ok (.iconst 0, 1) := dk_3 (dk_at dksJ21_hasNext_0 18 rfl rfl)
theorem dJ21_hasNext_19 : decode cJ21_hasNext 19 = .ok (.ireturn, 1) := dk_172 (dk_at dksJ21_hasNext_0 19 rfl rfl)
abbrev cJ21_next : ByteArray := prog_53_method_3_code
def yJ21_next : MethodName := ⟨RJ21, "next", "()Ljava/lang/Object;"⟩
def dkwJ21_next_2 : List UInt8 := [183, 0, 43, 191, 42, 27, 4, 96, 181, 0, 25, 44, 42, 27, 90, 181, 0, 13, 50, 176]
abbrev dktJ21_next_2 : List UInt8 := dkwJ21_next_2 ++ []
def dkwJ21_next_1 : List UInt8 := [183, 0, 36, 191, 42, 180, 0, 1, 180, 0, 37, 77, 27, 44, 190, 161, 0, 11, 187, 0, 41, 89]
abbrev dktJ21_next_1 : List UInt8 := dkwJ21_next_1 ++ dktJ21_next_2
def dkwJ21_next_0 : List UInt8 := [42, 182, 0, 31, 42, 180, 0, 25, 60, 27, 42, 180, 0, 1, 180, 0, 28, 161, 0, 11, 187, 0, 34, 89]
abbrev dktJ21_next_0 : List UInt8 := dkwJ21_next_0 ++ dktJ21_next_1
theorem dksJ21_next_0 : cJ21_next.data.toList.drop 0 = dktJ21_next_0 := by decide +kernel
theorem dksJ21_next_1 : cJ21_next.data.toList.drop 24 = dktJ21_next_1 := dk_seg dksJ21_next_0 24 rfl rfl
theorem dksJ21_next_2 : cJ21_next.data.toList.drop 46 = dktJ21_next_2 := dk_seg dksJ21_next_1 22 rfl rfl
theorem dJ21_next_0 : decode cJ21_next 0 = .ok (.aload_n 0, 1) := dk_42 (dk_at dksJ21_next_0 0 rfl rfl)
theorem dJ21_next_1 : decode cJ21_next 1 = .ok (.invokevirtual 31, 3) := dk_182 0 31 (dk_at dksJ21_next_0 1 rfl rfl)
theorem dJ21_next_4 : decode cJ21_next 4 = .ok (.aload_n 0, 1) := dk_42 (dk_at dksJ21_next_0 4 rfl rfl)
theorem dJ21_next_5 : decode cJ21_next 5 = .ok (.getfield 25, 3) := dk_180 0 25 (dk_at dksJ21_next_0 5 rfl rfl)
theorem dJ21_next_8 : decode cJ21_next 8 = .ok (.istore_n 1, 1) := dk_60 (dk_at dksJ21_next_0 8 rfl rfl)
theorem dJ21_next_9 : decode cJ21_next 9 = .ok (.iload_n 1, 1) := dk_27 (dk_at dksJ21_next_0 9 rfl rfl)
theorem dJ21_next_10 : decode cJ21_next 10 = .ok (.aload_n 0, 1) := dk_42 (dk_at dksJ21_next_0 10 rfl rfl)
theorem dJ21_next_11 : decode cJ21_next 11 = .ok (.getfield 1, 3) := dk_180 0 1 (dk_at dksJ21_next_0 11 rfl rfl)
theorem dJ21_next_14 : decode cJ21_next 14 = .ok (.getfield 28, 3) := dk_180 0 28 (dk_at dksJ21_next_0 14 rfl rfl)
theorem dJ21_next_17 : decode cJ21_next 17 = .ok (.if_icmp .lt 11, 3) := dk_161 0 11 (dk_at dksJ21_next_0 17 rfl rfl)
theorem dJ21_next_20 : decode cJ21_next 20 = .ok (.new 34, 3) := dk_187 0 34 (dk_at dksJ21_next_0 20 rfl rfl)
theorem dJ21_next_23 : decode cJ21_next 23 = .ok (.dup, 1) := dk_89 (dk_at dksJ21_next_0 23 rfl rfl)
theorem dJ21_next_24 : decode cJ21_next 24 = .ok (.invokespecial 36, 3) := dk_183 0 36 (dk_at dksJ21_next_1 0 rfl rfl)
theorem dJ21_next_27 : decode cJ21_next 27 = .ok (.athrow, 1) := dk_191 (dk_at dksJ21_next_1 3 rfl rfl)
theorem dJ21_next_28 : decode cJ21_next 28 = .ok (.aload_n 0, 1) := dk_42 (dk_at dksJ21_next_1 4 rfl rfl)
theorem dJ21_next_29 : decode cJ21_next 29 = .ok (.getfield 1, 3) := dk_180 0 1 (dk_at dksJ21_next_1 5 rfl rfl)
theorem dJ21_next_32 : decode cJ21_next 32 = .ok (.getfield 37, 3) := dk_180 0 37 (dk_at dksJ21_next_1 8 rfl rfl)
theorem dJ21_next_35 : decode cJ21_next 35 = .ok (.astore_n 2, 1) := dk_77 (dk_at dksJ21_next_1 11 rfl rfl)
theorem dJ21_next_36 : decode cJ21_next 36 = .ok (.iload_n 1, 1) := dk_27 (dk_at dksJ21_next_1 12 rfl rfl)
theorem dJ21_next_37 : decode cJ21_next 37 = .ok (.aload_n 2, 1) := dk_44 (dk_at dksJ21_next_1 13 rfl rfl)
theorem dJ21_next_38 : decode cJ21_next 38 = .ok (.arraylength, 1) := dk_190 (dk_at dksJ21_next_1 14 rfl rfl)
theorem dJ21_next_39 : decode cJ21_next 39 = .ok (.if_icmp .lt 11, 3) := dk_161 0 11 (dk_at dksJ21_next_1 15 rfl rfl)
theorem dJ21_next_42 : decode cJ21_next 42 = .ok (.new 41, 3) := dk_187 0 41 (dk_at dksJ21_next_1 18 rfl rfl)
theorem dJ21_next_45 : decode cJ21_next 45 = .ok (.dup, 1) := dk_89 (dk_at dksJ21_next_1 21 rfl rfl)
theorem dJ21_next_46 : decode cJ21_next 46 = .ok (.invokespecial 43, 3) := dk_183 0 43 (dk_at dksJ21_next_2 0 rfl rfl)
theorem dJ21_next_49 : decode cJ21_next 49 = .ok (.athrow, 1) := dk_191 (dk_at dksJ21_next_2 3 rfl rfl)
theorem dJ21_next_50 : decode cJ21_next 50 = .ok (.aload_n 0, 1) := dk_42 (dk_at dksJ21_next_2 4 rfl rfl)
theorem dJ21_next_51 : decode cJ21_next 51 = .ok (.iload_n 1, 1) := dk_27 (dk_at dksJ21_next_2 5 rfl rfl)
theorem dJ21_next_52 : decode cJ21_next 52 = .ok (.iconst 1, 1) := dk_4 (dk_at dksJ21_next_2 6 rfl rfl)
theorem dJ21_next_53 : decode cJ21_next 53 = .ok (.iadd, 1) := dk_96 (dk_at dksJ21_next_2 7 rfl rfl)
theorem dJ21_next_54 : decode cJ21_next 54 = .ok (.putfield 25, 3) := dk_181 0 25 (dk_at dksJ21_next_2 8 rfl rfl)
theorem dJ21_next_57 : decode cJ21_next 57 = .ok (.aload_n 2, 1) := dk_44 (dk_at dksJ21_next_2 11 rfl rfl)
theorem dJ21_next_58 : decode cJ21_next 58 = .ok (.aload_n 0, 1) := dk_42 (dk_at dksJ21_next_2 12 rfl rfl)
theorem dJ21_next_59 : decode cJ21_next 59 = .ok (.iload_n 1, 1) := dk_27 (dk_at dksJ21_next_2 13 rfl rfl)
theorem dJ21_next_60 : decode cJ21_next 60 = .ok (.dup_x1, 1) := dk_90 (dk_at dksJ21_next_2 14 rfl rfl)
theorem dJ21_next_61 : decode cJ21_next 61 = .ok (.putfield 13, 3) := dk_181 0 13 (dk_at dksJ21_next_2 15 rfl rfl)
theorem dJ21_next_64 : decode cJ21_next 64 = .ok (.aaload, 1) := dk_50 (dk_at dksJ21_next_2 18 rfl rfl)
theorem dJ21_next_65 : decode cJ21_next 65 = .ok (.areturn, 1) := dk_176 (dk_at dksJ21_next_2 19 rfl rfl)
abbrev cJ21_checkForComodification : ByteArray := prog_53_method_6_code
def yJ21_checkForComodification : MethodName := ⟨RJ21, "checkForComodification", "()V"⟩
def dkwJ21_checkForComodification_0 : List UInt8 := [42, 180, 0, 1, 180, 0, 17, 42, 180, 0, 22, 159, 0, 11, 187, 0, 41, 89, 183, 0, 43, 191, 177]
abbrev dktJ21_checkForComodification_0 : List UInt8 := dkwJ21_checkForComodification_0 ++ []
theorem dksJ21_checkForComodification_0 : cJ21_checkForComodification.data.toList.drop 0 = dktJ21_checkForComodification_0 := by decide +kernel
theorem dJ21_checkForComodification_0 : decode cJ21_checkForComodification 0 = .ok (.aload_n 0, 1) := dk_42 (dk_at dksJ21_checkForComodification_0 0 rfl rfl)
theorem dJ21_checkForComodification_1 : decode cJ21_checkForComodification 1 = .ok (.getfield 1, 3) := dk_180 0 1 (dk_at dksJ21_checkForComodification_0 1 rfl rfl)
theorem dJ21_checkForComodification_4 : decode cJ21_checkForComodification 4 = .ok (.getfield 17, 3) := dk_180 0 17 (dk_at dksJ21_checkForComodification_0 4 rfl rfl)
theorem dJ21_checkForComodification_7 : decode cJ21_checkForComodification 7 = .ok (.aload_n 0, 1) := dk_42 (dk_at dksJ21_checkForComodification_0 7 rfl rfl)
theorem dJ21_checkForComodification_8 : decode cJ21_checkForComodification 8 = .ok (.getfield 22, 3) := dk_180 0 22 (dk_at dksJ21_checkForComodification_0 8 rfl rfl)
theorem dJ21_checkForComodification_11 : decode cJ21_checkForComodification 11 = .ok (.if_icmp .eq 11, 3) := dk_159 0 11 (dk_at dksJ21_checkForComodification_0 11 rfl rfl)
theorem dJ21_checkForComodification_14 : decode cJ21_checkForComodification 14 = .ok (.new 41, 3) := dk_187 0 41 (dk_at dksJ21_checkForComodification_0 14 rfl rfl)
theorem dJ21_checkForComodification_17 : decode cJ21_checkForComodification 17 = .ok (.dup, 1) := dk_89 (dk_at dksJ21_checkForComodification_0 17 rfl rfl)
theorem dJ21_checkForComodification_18 : decode cJ21_checkForComodification 18 = .ok (.invokespecial 43, 3) := dk_183 0 43 (dk_at dksJ21_checkForComodification_0 18 rfl rfl)
theorem dJ21_checkForComodification_21 : decode cJ21_checkForComodification 21 = .ok (.athrow, 1) := dk_191 (dk_at dksJ21_checkForComodification_0 21 rfl rfl)
theorem dJ21_checkForComodification_22 : decode cJ21_checkForComodification 22 = .ok (.return_, 1) := dk_177 (dk_at dksJ21_checkForComodification_0 22 rfl rfl)
theorem q144 : (Jvm.Cond.initialized "java/util/ArrayList$Itr") ∈ lw_all := lw_g (lw_at lw_m1 33 rfl) rfl
theorem q513 : (Jvm.Cond.fieldLink "java/util/ArrayList$Itr" (37 : Nat) "java/util/ArrayList" "elementData" "[Ljava/lang/Object;") ∈ lw_all := lw_g (lw_at lw_m2 162 rfl) rfl
theorem q514 : (Jvm.Cond.fieldLinkNest "java/util/ArrayList$Itr" (28 : Nat) "java/util/ArrayList" "size" "I" "java/util/ArrayList") ∈ lw_tbl := lw_at lw_m2 163 rfl
theorem q519 : (Jvm.Cond.fieldLink "java/util/ArrayList$Itr" (17 : Nat) "java/util/ArrayList" "modCount" "I") ∈ lw_all := lw_g (lw_at lw_m2 168 rfl) rfl
theorem q1004 : (Jvm.Cond.selects "java/util/ArrayList$Itr" ({ cls := "java/lang/Object", name := "getClass", desc := "()Ljava/lang/Class;" } : Jvm.MethodName) ({ cls := "java/lang/Object", name := "getClass", desc := "()Ljava/lang/Class;" } : Jvm.MethodName)) ∈ lw_all := lw_g (lw_at lw_m4 173 rfl) rfl
theorem q1441 : (Jvm.Cond.instantiable "java/util/ArrayList$Itr" (4 : Nat)) ∈ lw_all := lw_g (lw_at lw_m6 130 rfl) rfl
theorem q1443 : (Jvm.Cond.instanceMethod ({ cls := "java/util/ArrayList$Itr", name := "<init>", desc := "(Ljava/util/ArrayList;)V" } : Jvm.MethodName)) ∈ lw_all := lw_g (lw_at lw_m6 132 rfl) rfl
theorem q1444 : (Jvm.Cond.code ({ cls := "java/util/ArrayList$Itr", name := "<init>", desc := "(Ljava/util/ArrayList;)V" } : Jvm.MethodName) prog_53_method_1_code (2 : Nat) (Option.none : Option Jvm.ClassFile.FieldType)) ∈ lw_all := lw_g (lw_at lw_m6 133 rfl) rfl
theorem q1445 : (Jvm.Cond.methodLink "java/util/ArrayList$Itr" (7 : Nat) ({ cls := "java/lang/Object", name := "<init>", desc := "()V" } : Jvm.MethodName)) ∈ lw_all := lw_g (lw_at lw_m6 134 rfl) rfl
theorem q1448 : (Jvm.Cond.fieldLink "java/util/ArrayList$Itr" (25 : Nat) "java/util/ArrayList$Itr" "cursor" "I") ∈ lw_all := lw_g (lw_at lw_m6 137 rfl) rfl
theorem q1449 : (Jvm.Cond.fieldLink "java/util/ArrayList$Itr" (13 : Nat) "java/util/ArrayList$Itr" "lastRet" "I") ∈ lw_all := lw_g (lw_at lw_m6 138 rfl) rfl
theorem q1450 : (Jvm.Cond.fieldLink "java/util/ArrayList$Itr" (22 : Nat) "java/util/ArrayList$Itr" "expectedModCount" "I") ∈ lw_all := lw_g (lw_at lw_m6 139 rfl) rfl
theorem q1451 : (Jvm.Cond.fieldLink "java/util/ArrayList$Itr" (1 : Nat) "java/util/ArrayList$Itr" "this$0" "Ljava/util/ArrayList;") ∈ lw_all := lw_g (lw_at lw_m6 140 rfl) rfl
theorem q1452 : (Jvm.Cond.lays "java/util/ArrayList$Itr" "java/util/ArrayList$Itr" "cursor" "I") ∈ lw_all := lw_g (lw_at lw_m6 141 rfl) rfl
theorem q1453 : (Jvm.Cond.soleField "java/util/ArrayList$Itr" "cursor") ∈ lw_all := lw_g (lw_at lw_m6 142 rfl) rfl
theorem q1454 : (Jvm.Cond.lays "java/util/ArrayList$Itr" "java/util/ArrayList$Itr" "lastRet" "I") ∈ lw_all := lw_g (lw_at lw_m6 143 rfl) rfl
theorem q1455 : (Jvm.Cond.soleField "java/util/ArrayList$Itr" "lastRet") ∈ lw_all := lw_g (lw_at lw_m6 144 rfl) rfl
theorem q1456 : (Jvm.Cond.lays "java/util/ArrayList$Itr" "java/util/ArrayList$Itr" "expectedModCount" "I") ∈ lw_all := lw_g (lw_at lw_m6 145 rfl) rfl
theorem q1457 : (Jvm.Cond.soleField "java/util/ArrayList$Itr" "expectedModCount") ∈ lw_all := lw_g (lw_at lw_m6 146 rfl) rfl
theorem q1458 : (Jvm.Cond.laysFinal "java/util/ArrayList$Itr" "java/util/ArrayList$Itr" "this$0" "Ljava/util/ArrayList;") ∈ lw_all := lw_g (lw_at lw_m6 147 rfl) rfl
theorem q1459 : (Jvm.Cond.soleField "java/util/ArrayList$Itr" "this$0") ∈ lw_all := lw_g (lw_at lw_m6 148 rfl) rfl
theorem q1460 : (Jvm.Cond.superclass "java/util/ArrayList$Itr" "java/lang/Object") ∈ lw_all := lw_g (lw_at lw_m6 149 rfl) rfl
theorem q1568 : (Jvm.Cond.castable "java/util/ArrayList$Itr" "java/util/Iterator") ∈ lw_tbl := lw_at lw_m7 17 rfl
theorem q1569 : (Jvm.Cond.selects "java/util/ArrayList$Itr" ({ cls := "java/util/Iterator", name := "hasNext", desc := "()Z" } : Jvm.MethodName) ({ cls := "java/util/ArrayList$Itr", name := "hasNext", desc := "()Z" } : Jvm.MethodName)) ∈ lw_all := lw_g (lw_at lw_m7 18 rfl) rfl
theorem q1570 : (Jvm.Cond.unhidden "java/util/ArrayList$Itr" "hasNext" "()Z") ∈ lw_tbl := lw_at lw_m7 19 rfl
theorem q1571 : (Jvm.Cond.instanceMethod ({ cls := "java/util/ArrayList$Itr", name := "hasNext", desc := "()Z" } : Jvm.MethodName)) ∈ lw_all := lw_g (lw_at lw_m7 20 rfl) rfl
theorem q1572 : (Jvm.Cond.publicMethod ({ cls := "java/util/ArrayList$Itr", name := "hasNext", desc := "()Z" } : Jvm.MethodName)) ∈ lw_tbl := lw_at lw_m7 21 rfl
theorem q1573 : (Jvm.Cond.code ({ cls := "java/util/ArrayList$Itr", name := "hasNext", desc := "()Z" } : Jvm.MethodName) prog_53_method_2_code (1 : Nat) (Option.some Jvm.ClassFile.FieldType.boolean)) ∈ lw_all := lw_g (lw_at lw_m7 22 rfl) rfl
theorem q1681 : (Jvm.Cond.selects "java/util/ArrayList$Itr" ({ cls := "java/util/Iterator", name := "next", desc := "()Ljava/lang/Object;" } : Jvm.MethodName) ({ cls := "java/util/ArrayList$Itr", name := "next", desc := "()Ljava/lang/Object;" } : Jvm.MethodName)) ∈ lw_all := lw_g (lw_at lw_m7 130 rfl) rfl
theorem q1682 : (Jvm.Cond.unhidden "java/util/ArrayList$Itr" "next" "()Ljava/lang/Object;") ∈ lw_tbl := lw_at lw_m7 131 rfl
theorem q1683 : (Jvm.Cond.instanceMethod ({ cls := "java/util/ArrayList$Itr", name := "next", desc := "()Ljava/lang/Object;" } : Jvm.MethodName)) ∈ lw_all := lw_g (lw_at lw_m7 132 rfl) rfl
theorem q1684 : (Jvm.Cond.publicMethod ({ cls := "java/util/ArrayList$Itr", name := "next", desc := "()Ljava/lang/Object;" } : Jvm.MethodName)) ∈ lw_tbl := lw_at lw_m7 133 rfl
theorem q1685 : (Jvm.Cond.code ({ cls := "java/util/ArrayList$Itr", name := "next", desc := "()Ljava/lang/Object;" } : Jvm.MethodName) prog_53_method_3_code (3 : Nat) (Option.some (Jvm.ClassFile.FieldType.object "java/lang/Object"))) ∈ lw_all := lw_g (lw_at lw_m7 134 rfl) rfl
theorem q1686 : (Jvm.Cond.methodLink "java/util/ArrayList$Itr" (31 : Nat) ({ cls := "java/util/ArrayList$Itr", name := "checkForComodification", desc := "()V" } : Jvm.MethodName)) ∈ lw_all := lw_g (lw_at lw_m7 135 rfl) rfl
theorem q1687 : (Jvm.Cond.instanceMethod ({ cls := "java/util/ArrayList$Itr", name := "checkForComodification", desc := "()V" } : Jvm.MethodName)) ∈ lw_all := lw_g (lw_at lw_m7 136 rfl) rfl
theorem q1688 : (Jvm.Cond.selects "java/util/ArrayList$Itr" ({ cls := "java/util/ArrayList$Itr", name := "checkForComodification", desc := "()V" } : Jvm.MethodName) ({ cls := "java/util/ArrayList$Itr", name := "checkForComodification", desc := "()V" } : Jvm.MethodName)) ∈ lw_all := lw_g (lw_at lw_m7 137 rfl) rfl
theorem q1689 : (Jvm.Cond.sameMethod "java/util/ArrayList$Itr" "java/util/ArrayList$Itr" "checkForComodification" "()V") ∈ lw_all := lw_g (lw_at lw_m7 138 rfl) rfl
theorem q1691 : (Jvm.Cond.code ({ cls := "java/util/ArrayList$Itr", name := "checkForComodification", desc := "()V" } : Jvm.MethodName) prog_53_method_6_code (1 : Nat) (Option.none : Option Jvm.ClassFile.FieldType)) ∈ lw_all := lw_g (lw_at lw_m7 140 rfl) rfl
theorem q3072 : (Jvm.Cond.castable "java/util/ArrayList$Itr" "java/lang/Object") ∈ lw_tbl := lw_at lw_m13 81 rfl
theorem in_J21 : ∀ w ∈ wsJ210, w ∈ lw_all := lw_in wsJ210 [1452, 1454, 1456, 1458] (by decide +kernel) (by decide +kernel)
/-! java/lang/IndexOutOfBoundsException -/
set_option maxRecDepth 100000
def RJ22 : String := "java/lang/IndexOutOfBoundsException"
def TJ22 : u_T := fun k => match k with
  | 0 => ("java/lang/Throwable", "cause", "Ljava/lang/Throwable;", false)
  | 1 => ("java/lang/Throwable", "stackTrace", "[Ljava/lang/StackTraceElement;", false)
  | 2 => ("java/lang/Throwable", "suppressedExceptions", "Ljava/util/List;", false)
  | 3 => ("java/lang/Throwable", "detailMessage", "Ljava/lang/String;", false)
  | 4 => ("java/lang/Throwable", "backtrace", "Ljava/lang/Object;", false)
  | _ => ("java/lang/Throwable", "depth", "I", false)
def tyJ22 : Nat → FieldType := fun k => match k with
  | 0 => .object "java/lang/Throwable"
  | 1 => .array (.object "java/lang/StackTraceElement")
  | 2 => .object "java/util/List"
  | 3 => .object "java/lang/String"
  | 4 => .object "java/lang/Object"
  | _ => .int
abbrev wsJ220 : List Cond := u_ws RJ22 TJ22 6
theorem nmJ22 : ∀ a, a < 6 → ∀ b, b < 6 → a ≠ b → (TJ22 a).2.1 ≠ (TJ22 b).2.1 := by decide +kernel
theorem tyJ22_ok : ∀ k, k < 6 → parseFieldDescriptor (TJ22 k).2.2.1 = some (tyJ22 k) := by decide +kernel
abbrev cJ22_init : ByteArray := prog_27_method_2_code
def yJ22_init : MethodName := ⟨RJ22, "<init>", "(Ljava/lang/String;)V"⟩
def dkwJ22_init_0 : List UInt8 := [42, 43, 183, 0, 7, 177]
abbrev dktJ22_init_0 : List UInt8 := dkwJ22_init_0 ++ []
theorem dksJ22_init_0 : cJ22_init.data.toList.drop 0 = dktJ22_init_0 := by decide +kernel
theorem dJ22_init_0 : decode cJ22_init 0 = .ok (.aload_n 0, 1) := dk_42 (dk_at dksJ22_init_0 0 rfl rfl)
theorem dJ22_init_1 : decode cJ22_init 1 = .ok (.aload_n 1, 1) := dk_43 (dk_at dksJ22_init_0 1 rfl rfl)
theorem dJ22_init_2 : decode cJ22_init 2 = .ok (.invokespecial 7, 3) := dk_183 0 7 (dk_at dksJ22_init_0 2 rfl rfl)
theorem dJ22_init_5 : decode cJ22_init 5 = .ok (.return_, 1) := dk_177 (dk_at dksJ22_init_0 5 rfl rfl)
abbrev cJ22_init_2 : ByteArray := prog_27_method_1_code
def yJ22_init_2 : MethodName := ⟨RJ22, "<init>", "()V"⟩
theorem dJ22_init_2_0 : decode cJ22_init_2 0 = .ok (.aload_n 0, 1) := by decide +kernel
theorem dJ22_init_2_1 : decode cJ22_init_2 1 = .ok (.invokespecial 1, 3) := by decide +kernel
theorem dJ22_init_2_4 : decode cJ22_init_2 4 = .ok (.return_, 1) := by decide +kernel
theorem q145 : (Jvm.Cond.initialized "java/lang/IndexOutOfBoundsException") ∈ lw_all := lw_g (lw_at lw_m1 34 rfl) rfl
theorem q229 : (Jvm.Cond.selects "java/lang/IndexOutOfBoundsException" ({ cls := "java/lang/Throwable", name := "fillInStackTrace", desc := "()Ljava/lang/Throwable;" } : Jvm.MethodName) ({ cls := "java/lang/Throwable", name := "fillInStackTrace", desc := "()Ljava/lang/Throwable;" } : Jvm.MethodName)) ∈ lw_all := lw_g (lw_at lw_m1 118 rfl) rfl
theorem q995 : (Jvm.Cond.selects "java/lang/IndexOutOfBoundsException" ({ cls := "java/lang/Object", name := "getClass", desc := "()Ljava/lang/Class;" } : Jvm.MethodName) ({ cls := "java/lang/Object", name := "getClass", desc := "()Ljava/lang/Class;" } : Jvm.MethodName)) ∈ lw_all := lw_g (lw_at lw_m4 164 rfl) rfl
theorem q1236 : (Jvm.Cond.instantiable "java/lang/IndexOutOfBoundsException" (6 : Nat)) ∈ lw_all := lw_g (lw_at lw_m5 165 rfl) rfl
theorem q1237 : (Jvm.Cond.castable "java/lang/IndexOutOfBoundsException" "java/lang/IndexOutOfBoundsException") ∈ lw_tbl := lw_at lw_m5 166 rfl
theorem q1238 : (Jvm.Cond.selects "java/lang/IndexOutOfBoundsException" ({ cls := "java/lang/Throwable", name := "fillInStackTrace", desc := "(I)Ljava/lang/Throwable;" } : Jvm.MethodName) ({ cls := "java/lang/Throwable", name := "fillInStackTrace", desc := "(I)Ljava/lang/Throwable;" } : Jvm.MethodName)) ∈ lw_all := lw_g (lw_at lw_m5 167 rfl) rfl
theorem q1239 : (Jvm.Cond.lays "java/lang/IndexOutOfBoundsException" "java/lang/Throwable" "cause" "Ljava/lang/Throwable;") ∈ lw_all := lw_g (lw_at lw_m5 168 rfl) rfl
theorem q1240 : (Jvm.Cond.lays "java/lang/IndexOutOfBoundsException" "java/lang/Throwable" "stackTrace" "[Ljava/lang/StackTraceElement;") ∈ lw_all := lw_g (lw_at lw_m5 169 rfl) rfl
theorem q1241 : (Jvm.Cond.lays "java/lang/IndexOutOfBoundsException" "java/lang/Throwable" "suppressedExceptions" "Ljava/util/List;") ∈ lw_all := lw_g (lw_at lw_m5 170 rfl) rfl
theorem q1242 : (Jvm.Cond.lays "java/lang/IndexOutOfBoundsException" "java/lang/Throwable" "detailMessage" "Ljava/lang/String;") ∈ lw_all := lw_g (lw_at lw_m5 171 rfl) rfl
theorem q1243 : (Jvm.Cond.lays "java/lang/IndexOutOfBoundsException" "java/lang/Throwable" "backtrace" "Ljava/lang/Object;") ∈ lw_all := lw_g (lw_at lw_m5 172 rfl) rfl
theorem q1256 : (Jvm.Cond.instanceMethod ({ cls := "java/lang/IndexOutOfBoundsException", name := "<init>", desc := "(Ljava/lang/String;)V" } : Jvm.MethodName)) ∈ lw_all := lw_g (lw_at lw_m5 185 rfl) rfl
theorem q1257 : (Jvm.Cond.code ({ cls := "java/lang/IndexOutOfBoundsException", name := "<init>", desc := "(Ljava/lang/String;)V" } : Jvm.MethodName) prog_27_method_2_code (2 : Nat) (Option.none : Option Jvm.ClassFile.FieldType)) ∈ lw_all := lw_g (lw_at lw_m5 186 rfl) rfl
theorem q1258 : (Jvm.Cond.methodLink "java/lang/IndexOutOfBoundsException" (7 : Nat) ({ cls := "java/lang/RuntimeException", name := "<init>", desc := "(Ljava/lang/String;)V" } : Jvm.MethodName)) ∈ lw_all := lw_g (lw_at lw_m5 187 rfl) rfl
theorem q1259 : (Jvm.Cond.lays "java/lang/IndexOutOfBoundsException" "java/lang/Throwable" "depth" "I") ∈ lw_all := lw_g (lw_at lw_m5 188 rfl) rfl
theorem q1260 : (Jvm.Cond.superclass "java/lang/IndexOutOfBoundsException" "java/lang/RuntimeException") ∈ lw_all := lw_g (lw_at lw_m5 189 rfl) rfl
theorem q1642 : (Jvm.Cond.selects "java/lang/IndexOutOfBoundsException" ({ cls := "java/lang/Throwable", name := "toString", desc := "()Ljava/lang/String;" } : Jvm.MethodName) ({ cls := "java/lang/Throwable", name := "toString", desc := "()Ljava/lang/String;" } : Jvm.MethodName)) ∈ lw_all := lw_g (lw_at lw_m7 91 rfl) rfl
theorem q1653 : (Jvm.Cond.selects "java/lang/IndexOutOfBoundsException" ({ cls := "java/lang/Throwable", name := "getLocalizedMessage", desc := "()Ljava/lang/String;" } : Jvm.MethodName) ({ cls := "java/lang/Throwable", name := "getLocalizedMessage", desc := "()Ljava/lang/String;" } : Jvm.MethodName)) ∈ lw_all := lw_g (lw_at lw_m7 102 rfl) rfl
theorem q1663 : (Jvm.Cond.selects "java/lang/IndexOutOfBoundsException" ({ cls := "java/lang/Throwable", name := "getMessage", desc := "()Ljava/lang/String;" } : Jvm.MethodName) ({ cls := "java/lang/Throwable", name := "getMessage", desc := "()Ljava/lang/String;" } : Jvm.MethodName)) ∈ lw_all := lw_g (lw_at lw_m7 112 rfl) rfl
theorem q1868 : (Jvm.Cond.declares ({ cls := "java/lang/IndexOutOfBoundsException", name := "<init>", desc := "()V" } : Jvm.MethodName)) ∈ lw_tbl := lw_at lw_m8 77 rfl
theorem q1869 : (Jvm.Cond.declares ({ cls := "java/lang/IndexOutOfBoundsException", name := "<init>", desc := "(Ljava/lang/String;)V" } : Jvm.MethodName)) ∈ lw_tbl := lw_at lw_m8 78 rfl
theorem q1961 : (Jvm.Cond.instanceMethod ({ cls := "java/lang/IndexOutOfBoundsException", name := "<init>", desc := "()V" } : Jvm.MethodName)) ∈ lw_all := lw_g (lw_at lw_m8 170 rfl) rfl
theorem q1962 : (Jvm.Cond.code ({ cls := "java/lang/IndexOutOfBoundsException", name := "<init>", desc := "()V" } : Jvm.MethodName) prog_27_method_1_code (1 : Nat) (Option.none : Option Jvm.ClassFile.FieldType)) ∈ lw_all := lw_g (lw_at lw_m8 171 rfl) rfl
theorem q1963 : (Jvm.Cond.methodLink "java/lang/IndexOutOfBoundsException" (1 : Nat) ({ cls := "java/lang/RuntimeException", name := "<init>", desc := "()V" } : Jvm.MethodName)) ∈ lw_all := lw_g (lw_at lw_m8 172 rfl) rfl
theorem q3074 : (Jvm.Cond.castable "java/lang/IndexOutOfBoundsException" "java/lang/Object") ∈ lw_tbl := lw_at lw_m13 83 rfl
theorem in_J22 : ∀ w ∈ wsJ220, w ∈ lw_all := lw_in wsJ220 [1239, 1240, 1241, 1242, 1243, 1259] (by decide +kernel) (by decide +kernel)
/-! java/util/AbstractList$Itr -/
set_option maxRecDepth 100000
def RJ23 : String := "java/util/AbstractList$Itr"
abbrev cJ23_hasNext : ByteArray := prog_47_method_2_code
def yJ23_hasNext : MethodName := ⟨RJ23, "hasNext", "()Z"⟩
def dkwJ23_hasNext_0 : List UInt8 := [42, 180, 0, 13, 42, 180, 0, 1, 182, 0, 28, 159, 0, 7, 4, 167, 0, 4, 3, 172]
abbrev dktJ23_hasNext_0 : List UInt8 := dkwJ23_hasNext_0 ++ []
theorem dksJ23_hasNext_0 : cJ23_hasNext.data.toList.drop 0 = dktJ23_hasNext_0 := by decide +kernel
theorem dJ23_hasNext_0 : decode cJ23_hasNext 0 = .ok (.aload_n 0, 1) := dk_42 (dk_at dksJ23_hasNext_0 0 rfl rfl)
theorem dJ23_hasNext_1 : decode cJ23_hasNext 1 = .ok (.getfield 13, 3) := dk_180 0 13 (dk_at dksJ23_hasNext_0 1 rfl rfl)
theorem dJ23_hasNext_4 : decode cJ23_hasNext 4 = .ok (.aload_n 0, 1) := dk_42 (dk_at dksJ23_hasNext_0 4 rfl rfl)
theorem dJ23_hasNext_5 : decode cJ23_hasNext 5 = .ok (.getfield 1, 3) := dk_180 0 1 (dk_at dksJ23_hasNext_0 5 rfl rfl)
theorem dJ23_hasNext_8 : decode cJ23_hasNext 8 = .ok (.invokevirtual 28, 3) := dk_182 0 28 (dk_at dksJ23_hasNext_0 8 rfl rfl)
theorem dJ23_hasNext_11 : decode cJ23_hasNext 11 = .ok (.if_icmp .eq 7, 3) := dk_159 0 7 (dk_at dksJ23_hasNext_0 11 rfl rfl)
theorem dJ23_hasNext_14 : decode cJ23_hasNext 14 = .ok (.iconst 1, 1) := dk_4 (dk_at dksJ23_hasNext_0 14 rfl rfl)
theorem dJ23_hasNext_15 : decode cJ23_hasNext 15 = .ok (.goto 4, 3) := dk_167 0 4 (dk_at dksJ23_hasNext_0 15 rfl rfl)
theorem dJ23_hasNext_18 : decode cJ23_hasNext 18 = .ok (.iconst 0, 1) := dk_3 (dk_at dksJ23_hasNext_0 18 rfl rfl)
theorem dJ23_hasNext_19 : decode cJ23_hasNext 19 = .ok (.ireturn, 1) := dk_172 (dk_at dksJ23_hasNext_0 19 rfl rfl)
abbrev cJ23_next : ByteArray := prog_47_method_3_code
def yJ23_next : MethodName := ⟨RJ23, "next", "()Ljava/lang/Object;"⟩
def dkwJ23_next_1 : List UInt8 := [27, 4, 96, 181, 0, 13, 44, 176, 76, 42, 182, 0, 32, 187, 0, 41, 89, 43, 183, 0, 43, 191]
abbrev dktJ23_next_1 : List UInt8 := dkwJ23_next_1 ++ []
def dkwJ23_next_0 : List UInt8 := [42, 182, 0, 32, 42, 180, 0, 13, 60, 42, 180, 0, 1, 27, 182, 0, 35, 77, 42, 27, 181, 0, 17, 42]
abbrev dktJ23_next_0 : List UInt8 := dkwJ23_next_0 ++ dktJ23_next_1
theorem dksJ23_next_0 : cJ23_next.data.toList.drop 0 = dktJ23_next_0 := by decide +kernel
theorem dksJ23_next_1 : cJ23_next.data.toList.drop 24 = dktJ23_next_1 := dk_seg dksJ23_next_0 24 rfl rfl
theorem dJ23_next_0 : decode cJ23_next 0 = .ok (.aload_n 0, 1) := dk_42 (dk_at dksJ23_next_0 0 rfl rfl)
theorem dJ23_next_1 : decode cJ23_next 1 = .ok (.invokevirtual 32, 3) := dk_182 0 32 (dk_at dksJ23_next_0 1 rfl rfl)
theorem dJ23_next_4 : decode cJ23_next 4 = .ok (.aload_n 0, 1) := dk_42 (dk_at dksJ23_next_0 4 rfl rfl)
theorem dJ23_next_5 : decode cJ23_next 5 = .ok (.getfield 13, 3) := dk_180 0 13 (dk_at dksJ23_next_0 5 rfl rfl)
theorem dJ23_next_8 : decode cJ23_next 8 = .ok (.istore_n 1, 1) := dk_60 (dk_at dksJ23_next_0 8 rfl rfl)
theorem dJ23_next_9 : decode cJ23_next 9 = .ok (.aload_n 0, 1) := dk_42 (dk_at dksJ23_next_0 9 rfl rfl)
theorem dJ23_next_10 : decode cJ23_next 10 = .ok (.getfield 1, 3) := dk_180 0 1 (dk_at dksJ23_next_0 10 rfl rfl)
theorem dJ23_next_13 : decode cJ23_next 13 = .ok (.iload_n 1, 1) := dk_27 (dk_at dksJ23_next_0 13 rfl rfl)
theorem dJ23_next_14 : decode cJ23_next 14 = .ok (.invokevirtual 35, 3) := dk_182 0 35 (dk_at dksJ23_next_0 14 rfl rfl)
theorem dJ23_next_17 : decode cJ23_next 17 = .ok (.astore_n 2, 1) := dk_77 (dk_at dksJ23_next_0 17 rfl rfl)
theorem dJ23_next_18 : decode cJ23_next 18 = .ok (.aload_n 0, 1) := dk_42 (dk_at dksJ23_next_0 18 rfl rfl)
theorem dJ23_next_19 : decode cJ23_next 19 = .ok (.iload_n 1, 1) := dk_27 (dk_at dksJ23_next_0 19 rfl rfl)
theorem dJ23_next_20 : decode cJ23_next 20 = .ok (.putfield 17, 3) := dk_181 0 17 (dk_at dksJ23_next_0 20 rfl rfl)
theorem dJ23_next_23 : decode cJ23_next 23 = .ok (.aload_n 0, 1) := dk_42 (dk_at dksJ23_next_0 23 rfl rfl)
theorem dJ23_next_24 : decode cJ23_next 24 = .ok (.iload_n 1, 1) := dk_27 (dk_at dksJ23_next_1 0 rfl rfl)
theorem dJ23_next_25 : decode cJ23_next 25 = .ok (.iconst 1, 1) := dk_4 (dk_at dksJ23_next_1 1 rfl rfl)
theorem dJ23_next_26 : decode cJ23_next 26 = .ok (.iadd, 1) := dk_96 (dk_at dksJ23_next_1 2 rfl rfl)
theorem dJ23_next_27 : decode cJ23_next 27 = .ok (.putfield 13, 3) := dk_181 0 13 (dk_at dksJ23_next_1 3 rfl rfl)
theorem dJ23_next_30 : decode cJ23_next 30 = .ok (.aload_n 2, 1) := dk_44 (dk_at dksJ23_next_1 6 rfl rfl)
theorem dJ23_next_31 : decode cJ23_next 31 = .ok (.areturn, 1) := dk_176 (dk_at dksJ23_next_1 7 rfl rfl)
theorem dJ23_next_32 : decode cJ23_next 32 = .ok (.astore_n 1, 1) := dk_76 (dk_at dksJ23_next_1 8 rfl rfl)
theorem dJ23_next_33 : decode cJ23_next 33 = .ok (.aload_n 0, 1) := dk_42 (dk_at dksJ23_next_1 9 rfl rfl)
theorem dJ23_next_34 : decode cJ23_next 34 = .ok (.invokevirtual 32, 3) := dk_182 0 32 (dk_at dksJ23_next_1 10 rfl rfl)
theorem dJ23_next_37 : decode cJ23_next 37 = .ok (.new 41, 3) := dk_187 0 41 (dk_at dksJ23_next_1 13 rfl rfl)
theorem dJ23_next_40 : decode cJ23_next 40 = .ok (.dup, 1) := dk_89 (dk_at dksJ23_next_1 16 rfl rfl)
theorem dJ23_next_41 : decode cJ23_next 41 = .ok (.aload_n 1, 1) := dk_43 (dk_at dksJ23_next_1 17 rfl rfl)
theorem dJ23_next_42 : decode cJ23_next 42 = .ok (.invokespecial 43, 3) := dk_183 0 43 (dk_at dksJ23_next_1 18 rfl rfl)
theorem dJ23_next_45 : decode cJ23_next 45 = .ok (.athrow, 1) := dk_191 (dk_at dksJ23_next_1 21 rfl rfl)
abbrev cJ23_checkForComodification : ByteArray := prog_47_method_5_code
def yJ23_checkForComodification : MethodName := ⟨RJ23, "checkForComodification", "()V"⟩
def dkwJ23_checkForComodification_0 : List UInt8 := [42, 180, 0, 1, 180, 0, 20, 42, 180, 0, 25, 159, 0, 11, 187, 0, 52, 89, 183, 0, 54, 191, 177]
abbrev dktJ23_checkForComodification_0 : List UInt8 := dkwJ23_checkForComodification_0 ++ []
theorem dksJ23_checkForComodification_0 : cJ23_checkForComodification.data.toList.drop 0 = dktJ23_checkForComodification_0 := by decide +kernel
theorem dJ23_checkForComodification_0 : decode cJ23_checkForComodification 0 = .ok (.aload_n 0, 1) := dk_42 (dk_at dksJ23_checkForComodification_0 0 rfl rfl)
theorem dJ23_checkForComodification_1 : decode cJ23_checkForComodification 1 = .ok (.getfield 1, 3) := dk_180 0 1 (dk_at dksJ23_checkForComodification_0 1 rfl rfl)
theorem dJ23_checkForComodification_4 : decode cJ23_checkForComodification 4 = .ok (.getfield 20, 3) := dk_180 0 20 (dk_at dksJ23_checkForComodification_0 4 rfl rfl)
theorem dJ23_checkForComodification_7 : decode cJ23_checkForComodification 7 = .ok (.aload_n 0, 1) := dk_42 (dk_at dksJ23_checkForComodification_0 7 rfl rfl)
theorem dJ23_checkForComodification_8 : decode cJ23_checkForComodification 8 = .ok (.getfield 25, 3) := dk_180 0 25 (dk_at dksJ23_checkForComodification_0 8 rfl rfl)
theorem dJ23_checkForComodification_11 : decode cJ23_checkForComodification 11 = .ok (.if_icmp .eq 11, 3) := dk_159 0 11 (dk_at dksJ23_checkForComodification_0 11 rfl rfl)
theorem dJ23_checkForComodification_14 : decode cJ23_checkForComodification 14 = .ok (.new 52, 3) := dk_187 0 52 (dk_at dksJ23_checkForComodification_0 14 rfl rfl)
theorem dJ23_checkForComodification_17 : decode cJ23_checkForComodification 17 = .ok (.dup, 1) := dk_89 (dk_at dksJ23_checkForComodification_0 17 rfl rfl)
theorem dJ23_checkForComodification_18 : decode cJ23_checkForComodification 18 = .ok (.invokespecial 54, 3) := dk_183 0 54 (dk_at dksJ23_checkForComodification_0 18 rfl rfl)
theorem dJ23_checkForComodification_21 : decode cJ23_checkForComodification 21 = .ok (.athrow, 1) := dk_191 (dk_at dksJ23_checkForComodification_0 21 rfl rfl)
theorem dJ23_checkForComodification_22 : decode cJ23_checkForComodification 22 = .ok (.return_, 1) := dk_177 (dk_at dksJ23_checkForComodification_0 22 rfl rfl)
theorem q146 : (Jvm.Cond.initialized "java/util/AbstractList$Itr") ∈ lw_all := lw_g (lw_at lw_m1 35 rfl) rfl
theorem q521 : (Jvm.Cond.fieldLink "java/util/AbstractList$Itr" (20 : Nat) "java/util/AbstractList" "modCount" "I") ∈ lw_all := lw_g (lw_at lw_m2 170 rfl) rfl
theorem q1554 : (Jvm.Cond.instanceMethod ({ cls := "java/util/AbstractList$Itr", name := "hasNext", desc := "()Z" } : Jvm.MethodName)) ∈ lw_all := lw_g (lw_at lw_m7 3 rfl) rfl
theorem q1555 : (Jvm.Cond.publicMethod ({ cls := "java/util/AbstractList$Itr", name := "hasNext", desc := "()Z" } : Jvm.MethodName)) ∈ lw_tbl := lw_at lw_m7 4 rfl
theorem q1556 : (Jvm.Cond.code ({ cls := "java/util/AbstractList$Itr", name := "hasNext", desc := "()Z" } : Jvm.MethodName) prog_47_method_2_code (1 : Nat) (Option.some Jvm.ClassFile.FieldType.boolean)) ∈ lw_all := lw_g (lw_at lw_m7 5 rfl) rfl
theorem q1557 : (Jvm.Cond.methodLink "java/util/AbstractList$Itr" (28 : Nat) ({ cls := "java/util/AbstractList", name := "size", desc := "()I" } : Jvm.MethodName)) ∈ lw_all := lw_g (lw_at lw_m7 6 rfl) rfl
theorem q1610 : (Jvm.Cond.instanceMethod ({ cls := "java/util/AbstractList$Itr", name := "next", desc := "()Ljava/lang/Object;" } : Jvm.MethodName)) ∈ lw_all := lw_g (lw_at lw_m7 59 rfl) rfl
theorem q1611 : (Jvm.Cond.publicMethod ({ cls := "java/util/AbstractList$Itr", name := "next", desc := "()Ljava/lang/Object;" } : Jvm.MethodName)) ∈ lw_tbl := lw_at lw_m7 60 rfl
theorem q1612 : (Jvm.Cond.codeWith ({ cls := "java/util/AbstractList$Itr", name := "next", desc := "()Ljava/lang/Object;" } : Jvm.MethodName) prog_47_method_3_code (3 : Nat) (Option.some (Jvm.ClassFile.FieldType.object "java/lang/Object")) [((4 : Nat), (31 : Nat), (32 : Nat), (39 : Nat))]) ∈ lw_all := lw_g (lw_at lw_m7 61 rfl) rfl
theorem q1613 : (Jvm.Cond.methodLink "java/util/AbstractList$Itr" (32 : Nat) ({ cls := "java/util/AbstractList$Itr", name := "checkForComodification", desc := "()V" } : Jvm.MethodName)) ∈ lw_all := lw_g (lw_at lw_m7 62 rfl) rfl
theorem q1614 : (Jvm.Cond.instanceMethod ({ cls := "java/util/AbstractList$Itr", name := "checkForComodification", desc := "()V" } : Jvm.MethodName)) ∈ lw_all := lw_g (lw_at lw_m7 63 rfl) rfl
theorem q1615 : (Jvm.Cond.sameMethod "java/util/AbstractList$Itr" "java/util/AbstractList$Itr" "checkForComodification" "()V") ∈ lw_all := lw_g (lw_at lw_m7 64 rfl) rfl
theorem q1617 : (Jvm.Cond.code ({ cls := "java/util/AbstractList$Itr", name := "checkForComodification", desc := "()V" } : Jvm.MethodName) prog_47_method_5_code (1 : Nat) (Option.none : Option Jvm.ClassFile.FieldType)) ∈ lw_all := lw_g (lw_at lw_m7 66 rfl) rfl
theorem q1618 : (Jvm.Cond.methodLink "java/util/AbstractList$Itr" (35 : Nat) ({ cls := "java/util/AbstractList", name := "get", desc := "(I)Ljava/lang/Object;" } : Jvm.MethodName)) ∈ lw_all := lw_g (lw_at lw_m7 67 rfl) rfl
theorem q1623 : (Jvm.Cond.classLink "java/util/AbstractList$Itr" (41 : Nat) "java/util/NoSuchElementException") ∈ lw_all := lw_g (lw_at lw_m7 72 rfl) rfl
theorem q1624 : (Jvm.Cond.methodLink "java/util/AbstractList$Itr" (43 : Nat) ({ cls := "java/util/NoSuchElementException", name := "<init>", desc := "(Ljava/lang/Throwable;)V" } : Jvm.MethodName)) ∈ lw_all := lw_g (lw_at lw_m7 73 rfl) rfl
theorem q3102 : (Jvm.Cond.fieldLink "java/util/AbstractList$Itr" (1 : Nat) "java/util/AbstractList$Itr" "this$0" "Ljava/util/AbstractList;") ∈ lw_all := lw_g (lw_at lw_m13 111 rfl) rfl
theorem q3103 : (Jvm.Cond.fieldLink "java/util/AbstractList$Itr" (13 : Nat) "java/util/AbstractList$Itr" "cursor" "I") ∈ lw_all := lw_g (lw_at lw_m13 112 rfl) rfl
theorem q3104 : (Jvm.Cond.fieldLink "java/util/AbstractList$Itr" (17 : Nat) "java/util/AbstractList$Itr" "lastRet" "I") ∈ lw_all := lw_g (lw_at lw_m13 113 rfl) rfl
theorem q3105 : (Jvm.Cond.fieldLink "java/util/AbstractList$Itr" (25 : Nat) "java/util/AbstractList$Itr" "expectedModCount" "I") ∈ lw_all := lw_g (lw_at lw_m13 114 rfl) rfl
/-! java/util/ArrayList$ListItr -/
set_option maxRecDepth 100000
def RJ24 : String := "java/util/ArrayList$ListItr"
def TJ24 : u_T := fun k => match k with
  | 0 => ("java/util/ArrayList$Itr", "cursor", "I", false)
  | 1 => ("java/util/ArrayList$Itr", "lastRet", "I", false)
  | 2 => ("java/util/ArrayList$Itr", "expectedModCount", "I", false)
  | 3 => ("java/util/ArrayList$Itr", "this$0", "Ljava/util/ArrayList;", true)
  | _ => ("java/util/ArrayList$ListItr", "this$0", "Ljava/util/ArrayList;", true)
def tyJ24 : Nat → FieldType := fun k => match k with
  | 0 => .int
  | 1 => .int
  | 2 => .int
  | 3 => .object "java/util/ArrayList"
  | _ => .object "java/util/ArrayList"
abbrev wsJ240 : List Cond := u_ws RJ24 TJ24 5
-- two fields of one name: no nmJ24
theorem tyJ24_ok : ∀ k, k < 5 → parseFieldDescriptor (TJ24 k).2.2.1 = some (tyJ24 k) := by decide +kernel
abbrev cJ24_init : ByteArray := prog_54_method_1_code
def yJ24_init : MethodName := ⟨RJ24, "<init>", "(Ljava/util/ArrayList;I)V"⟩
def dkwJ24_init_0 : List UInt8 := [42, 43, 181, 0, 1, 42, 43, 183, 0, 7, 42, 28, 181, 0, 13, 177]
abbrev dktJ24_init_0 : List UInt8 := dkwJ24_init_0 ++ []
theorem dksJ24_init_0 : cJ24_init.data.toList.drop 0 = dktJ24_init_0 := by decide +kernel
theorem dJ24_init_0 : decode cJ24_init 0 = .ok (.aload_n 0, 1) := dk_42 (dk_at dksJ24_init_0 0 rfl rfl)
theorem dJ24_init_1 : decode cJ24_init 1 = .ok (.aload_n 1, 1) := dk_43 (dk_at dksJ24_init_0 1 rfl rfl)
theorem dJ24_init_2 : decode cJ24_init 2 = .ok (.putfield 1, 3) := dk_181 0 1 (dk_at dksJ24_init_0 2 rfl rfl)
theorem dJ24_init_5 : decode cJ24_init 5 = .ok (.aload_n 0, 1) := dk_42 (dk_at dksJ24_init_0 5 rfl rfl)
theorem dJ24_init_6 : decode cJ24_init 6 = .ok (.aload_n 1, 1) := dk_43 (dk_at dksJ24_init_0 6 rfl rfl)
theorem dJ24_init_7 : decode cJ24_init 7 = .ok (.invokespecial 7, 3) := dk_183 0 7 (dk_at dksJ24_init_0 7 rfl rfl)
theorem dJ24_init_10 : decode cJ24_init 10 = .ok (.aload_n 0, 1) := dk_42 (dk_at dksJ24_init_0 10 rfl rfl)
theorem dJ24_init_11 : decode cJ24_init 11 = .ok (.iload_n 2, 1) := dk_28 (dk_at dksJ24_init_0 11 rfl rfl)
theorem dJ24_init_12 : decode cJ24_init 12 = .ok (.putfield 13, 3) := dk_181 0 13 (dk_at dksJ24_init_0 12 rfl rfl)
theorem dJ24_init_15 : decode cJ24_init 15 = .ok (.return_, 1) := dk_177 (dk_at dksJ24_init_0 15 rfl rfl)
theorem q148 : (Jvm.Cond.initialized "java/util/ArrayList$ListItr") ∈ lw_all := lw_g (lw_at lw_m1 37 rfl) rfl
theorem q1005 : (Jvm.Cond.selects "java/util/ArrayList$ListItr" ({ cls := "java/lang/Object", name := "getClass", desc := "()Ljava/lang/Class;" } : Jvm.MethodName) ({ cls := "java/lang/Object", name := "getClass", desc := "()Ljava/lang/Class;" } : Jvm.MethodName)) ∈ lw_all := lw_g (lw_at lw_m4 174 rfl) rfl
theorem q1446 : (Jvm.Cond.fieldLink "java/util/ArrayList$ListItr" (13 : Nat) "java/util/ArrayList$ListItr" "cursor" "I") ∈ lw_all := lw_g (lw_at lw_m6 135 rfl) rfl
theorem q1447 : (Jvm.Cond.sameField "java/util/ArrayList$ListItr" "java/util/ArrayList$Itr" "cursor" "I") ∈ lw_all := lw_g (lw_at lw_m6 136 rfl) rfl
theorem q1491 : (Jvm.Cond.instantiable "java/util/ArrayList$ListItr" (5 : Nat)) ∈ lw_all := lw_g (lw_at lw_m6 180 rfl) rfl
theorem q1493 : (Jvm.Cond.instanceMethod ({ cls := "java/util/ArrayList$ListItr", name := "<init>", desc := "(Ljava/util/ArrayList;I)V" } : Jvm.MethodName)) ∈ lw_all := lw_g (lw_at lw_m6 182 rfl) rfl
theorem q1494 : (Jvm.Cond.code ({ cls := "java/util/ArrayList$ListItr", name := "<init>", desc := "(Ljava/util/ArrayList;I)V" } : Jvm.MethodName) prog_54_method_1_code (3 : Nat) (Option.none : Option Jvm.ClassFile.FieldType)) ∈ lw_all := lw_g (lw_at lw_m6 183 rfl) rfl
theorem q1495 : (Jvm.Cond.methodLink "java/util/ArrayList$ListItr" (7 : Nat) ({ cls := "java/util/ArrayList$Itr", name := "<init>", desc := "(Ljava/util/ArrayList;)V" } : Jvm.MethodName)) ∈ lw_all := lw_g (lw_at lw_m6 184 rfl) rfl
theorem q1496 : (Jvm.Cond.fieldLink "java/util/ArrayList$ListItr" (1 : Nat) "java/util/ArrayList$ListItr" "this$0" "Ljava/util/ArrayList;") ∈ lw_all := lw_g (lw_at lw_m6 185 rfl) rfl
theorem q1497 : (Jvm.Cond.laysFinal "java/util/ArrayList$ListItr" "java/util/ArrayList$ListItr" "this$0" "Ljava/util/ArrayList;") ∈ lw_all := lw_g (lw_at lw_m6 186 rfl) rfl
theorem q1498 : (Jvm.Cond.soleField "java/util/ArrayList$ListItr" "this$0") ∈ lw_all := lw_g (lw_at lw_m6 187 rfl) rfl
theorem q1499 : (Jvm.Cond.lays "java/util/ArrayList$ListItr" "java/util/ArrayList$Itr" "cursor" "I") ∈ lw_all := lw_g (lw_at lw_m6 188 rfl) rfl
theorem q1500 : (Jvm.Cond.lays "java/util/ArrayList$ListItr" "java/util/ArrayList$Itr" "lastRet" "I") ∈ lw_all := lw_g (lw_at lw_m6 189 rfl) rfl
theorem q1501 : (Jvm.Cond.lays "java/util/ArrayList$ListItr" "java/util/ArrayList$Itr" "expectedModCount" "I") ∈ lw_all := lw_g (lw_at lw_m6 190 rfl) rfl
theorem q1502 : (Jvm.Cond.laysFinal "java/util/ArrayList$ListItr" "java/util/ArrayList$Itr" "this$0" "Ljava/util/ArrayList;") ∈ lw_all := lw_g (lw_at lw_m6 191 rfl) rfl
theorem q1503 : (Jvm.Cond.superclass "java/util/ArrayList$ListItr" "java/util/ArrayList$Itr") ∈ lw_all := lw_g (lw_at lw_m6 192 rfl) rfl
theorem q1574 : (Jvm.Cond.castable "java/util/ArrayList$ListItr" "java/util/Iterator") ∈ lw_tbl := lw_at lw_m7 23 rfl
theorem q1575 : (Jvm.Cond.selects "java/util/ArrayList$ListItr" ({ cls := "java/util/Iterator", name := "hasNext", desc := "()Z" } : Jvm.MethodName) ({ cls := "java/util/ArrayList$Itr", name := "hasNext", desc := "()Z" } : Jvm.MethodName)) ∈ lw_all := lw_g (lw_at lw_m7 24 rfl) rfl
theorem q1576 : (Jvm.Cond.unhidden "java/util/ArrayList$ListItr" "hasNext" "()Z") ∈ lw_tbl := lw_at lw_m7 25 rfl
theorem q1690 : (Jvm.Cond.selects "java/util/ArrayList$ListItr" ({ cls := "java/util/ArrayList$Itr", name := "checkForComodification", desc := "()V" } : Jvm.MethodName) ({ cls := "java/util/ArrayList$Itr", name := "checkForComodification", desc := "()V" } : Jvm.MethodName)) ∈ lw_all := lw_g (lw_at lw_m7 139 rfl) rfl
theorem q1692 : (Jvm.Cond.selects "java/util/ArrayList$ListItr" ({ cls := "java/util/Iterator", name := "next", desc := "()Ljava/lang/Object;" } : Jvm.MethodName) ({ cls := "java/util/ArrayList$Itr", name := "next", desc := "()Ljava/lang/Object;" } : Jvm.MethodName)) ∈ lw_all := lw_g (lw_at lw_m7 141 rfl) rfl
theorem q1693 : (Jvm.Cond.unhidden "java/util/ArrayList$ListItr" "next" "()Ljava/lang/Object;") ∈ lw_tbl := lw_at lw_m7 142 rfl
theorem q3081 : (Jvm.Cond.castable "java/util/ArrayList$ListItr" "java/lang/Object") ∈ lw_tbl := lw_at lw_m13 90 rfl
theorem in_J24 : ∀ w ∈ wsJ240, w ∈ lw_all := lw_in wsJ240 [1499, 1500, 1501, 1502, 1497] (by decide +kernel) (by decide +kernel)
/-! java/util/LinkedList$ListItr -/
set_option maxRecDepth 100000
def RJ25 : String := "java/util/LinkedList$ListItr"
def TJ25 : u_T := fun k => match k with
  | 0 => ("java/util/LinkedList$ListItr", "lastReturned", "Ljava/util/LinkedList$Node;", false)
  | 1 => ("java/util/LinkedList$ListItr", "next", "Ljava/util/LinkedList$Node;", false)
  | 2 => ("java/util/LinkedList$ListItr", "nextIndex", "I", false)
  | 3 => ("java/util/LinkedList$ListItr", "expectedModCount", "I", false)
  | _ => ("java/util/LinkedList$ListItr", "this$0", "Ljava/util/LinkedList;", true)
def tyJ25 : Nat → FieldType := fun k => match k with
  | 0 => .object "java/util/LinkedList$Node"
  | 1 => .object "java/util/LinkedList$Node"
  | 2 => .int
  | 3 => .int
  | _ => .object "java/util/LinkedList"
abbrev wsJ250 : List Cond := u_ws RJ25 TJ25 5
theorem nmJ25 : ∀ a, a < 5 → ∀ b, b < 5 → a ≠ b → (TJ25 a).2.1 ≠ (TJ25 b).2.1 := by decide +kernel
theorem tyJ25_ok : ∀ k, k < 5 → parseFieldDescriptor (TJ25 k).2.2.1 = some (tyJ25 k) := by decide +kernel
abbrev cJ25_init : ByteArray := prog_61_method_1_code
def yJ25_init : MethodName := ⟨RJ25, "<init>", "(Ljava/util/LinkedList;I)V"⟩
def dkwJ25_init_1 : List UInt8 := [180, 0, 22, 160, 0, 7, 1, 167, 0, 8, 43, 28, 182, 0, 25, 181, 0, 29, 42, 28, 181, 0, 33, 177]
abbrev dktJ25_init_1 : List UInt8 := dkwJ25_init_1 ++ []
def dkwJ25_init_0 : List UInt8 := [42, 43, 181, 0, 1, 42, 183, 0, 7, 42, 42, 180, 0, 1, 180, 0, 13, 181, 0, 19, 42, 28, 43]
abbrev dktJ25_init_0 : List UInt8 := dkwJ25_init_0 ++ dktJ25_init_1
theorem dksJ25_init_0 : cJ25_init.data.toList.drop 0 = dktJ25_init_0 := by decide +kernel
theorem dksJ25_init_1 : cJ25_init.data.toList.drop 23 = dktJ25_init_1 := dk_seg dksJ25_init_0 23 rfl rfl
theorem dJ25_init_0 : decode cJ25_init 0 = .ok (.aload_n 0, 1) := dk_42 (dk_at dksJ25_init_0 0 rfl rfl)
theorem dJ25_init_1 : decode cJ25_init 1 = .ok (.aload_n 1, 1) := dk_43 (dk_at dksJ25_init_0 1 rfl rfl)
theorem dJ25_init_2 : decode cJ25_init 2 = .ok (.putfield 1, 3) := dk_181 0 1 (dk_at dksJ25_init_0 2 rfl rfl)
theorem dJ25_init_5 : decode cJ25_init 5 = .ok (.aload_n 0, 1) := dk_42 (dk_at dksJ25_init_0 5 rfl rfl)
theorem dJ25_init_6 : decode cJ25_init 6 = .ok (.invokespecial 7, 3) := dk_183 0 7 (dk_at dksJ25_init_0 6 rfl rfl)
theorem dJ25_init_9 : decode cJ25_init 9 = .ok (.aload_n 0, 1) := dk_42 (dk_at dksJ25_init_0 9 rfl rfl)
theorem dJ25_init_10 : decode cJ25_init 10 = .ok (.aload_n 0, 1) := dk_42 (dk_at dksJ25_init_0 10 rfl rfl)
theorem dJ25_init_11 : decode cJ25_init 11 = .ok (.getfield 1, 3) := dk_180 0 1 (dk_at dksJ25_init_0 11 rfl rfl)
theorem dJ25_init_14 : decode cJ25_init 14 = .ok (.getfield 13, 3) := dk_180 0 13 (dk_at dksJ25_init_0 14 rfl rfl)
theorem dJ25_init_17 : decode cJ25_init 17 = .ok (.putfield 19, 3) := dk_181 0 19 (dk_at dksJ25_init_0 17 rfl rfl)
theorem dJ25_init_20 : decode cJ25_init 20 = .ok (.aload_n 0, 1) := dk_42 (dk_at dksJ25_init_0 20 rfl rfl)
theorem dJ25_init_21 : decode cJ25_init 21 = .ok (.iload_n 2, 1) := dk_28 (dk_at dksJ25_init_0 21 rfl rfl)
theorem dJ25_init_22 : decode cJ25_init 22 = .ok (.aload_n 1, 1) := dk_43 (dk_at dksJ25_init_0 22 rfl rfl)
theorem dJ25_init_23 : decode cJ25_init 23 = .ok (.getfield 22, 3) := dk_180 0 22 (dk_at dksJ25_init_1 0 rfl rfl)
theorem dJ25_init_26 : decode cJ25_init 26 = .ok (.if_icmp .ne 7, 3) := dk_160 0 7 (dk_at dksJ25_init_1 3 rfl rfl)
theorem dJ25_init_29 : decode cJ25_init 29 = .ok (.aconst_null, 1) := dk_1 (dk_at dksJ25_init_1 6 rfl rfl)
theorem dJ25_init_30 : decode cJ25_init 30 = .ok (.goto 8, 3) := dk_167 0 8 (dk_at dksJ25_init_1 7 rfl rfl)
theorem dJ25_init_33 : decode cJ25_init 33 = .ok (.aload_n 1, 1) := dk_43 (dk_at dksJ25_init_1 10 rfl rfl)
theorem dJ25_init_34 : decode cJ25_init 34 = .ok (.iload_n 2, 1) := dk_28 (dk_at dksJ25_init_1 11 rfl rfl)
theorem dJ25_init_35 : decode cJ25_init 35 = .ok (.invokevirtual 25, 3) := dk_182 0 25 (dk_at dksJ25_init_1 12 rfl rfl)
theorem dJ25_init_38 : decode cJ25_init 38 = .ok (.putfield 29, 3) := dk_181 0 29 (dk_at dksJ25_init_1 15 rfl rfl)
theorem dJ25_init_41 : decode cJ25_init 41 = .ok (.aload_n 0, 1) := dk_42 (dk_at dksJ25_init_1 18 rfl rfl)
theorem dJ25_init_42 : decode cJ25_init 42 = .ok (.iload_n 2, 1) := dk_28 (dk_at dksJ25_init_1 19 rfl rfl)
theorem dJ25_init_43 : decode cJ25_init 43 = .ok (.putfield 33, 3) := dk_181 0 33 (dk_at dksJ25_init_1 20 rfl rfl)
theorem dJ25_init_46 : decode cJ25_init 46 = .ok (.return_, 1) := dk_177 (dk_at dksJ25_init_1 23 rfl rfl)
abbrev cJ25_hasNext : ByteArray := prog_61_method_2_code
def yJ25_hasNext : MethodName := ⟨RJ25, "hasNext", "()Z"⟩
def dkwJ25_hasNext_0 : List UInt8 := [42, 180, 0, 33, 42, 180, 0, 1, 180, 0, 22, 162, 0, 7, 4, 167, 0, 4, 3, 172]
abbrev dktJ25_hasNext_0 : List UInt8 := dkwJ25_hasNext_0 ++ []
theorem dksJ25_hasNext_0 : cJ25_hasNext.data.toList.drop 0 = dktJ25_hasNext_0 := by decide +kernel
theorem dJ25_hasNext_0 : decode cJ25_hasNext 0 = .ok (.aload_n 0, 1) := dk_42 (dk_at dksJ25_hasNext_0 0 rfl rfl)
theorem dJ25_hasNext_1 : decode cJ25_hasNext 1 = .ok (.getfield 33, 3) := dk_180 0 33 (dk_at dksJ25_hasNext_0 1 rfl rfl)
theorem dJ25_hasNext_4 : decode cJ25_hasNext 4 = .ok (.aload_n 0, 1) := dk_42 (dk_at dksJ25_hasNext_0 4 rfl rfl)
theorem dJ25_hasNext_5 : decode cJ25_hasNext 5 = .ok (.getfield 1, 3) := dk_180 0 1 (dk_at dksJ25_hasNext_0 5 rfl rfl)
theorem dJ25_hasNext_8 : decode cJ25_hasNext 8 = .ok (.getfield 22, 3) := dk_180 0 22 (dk_at dksJ25_hasNext_0 8 rfl rfl)
theorem dJ25_hasNext_11 : decode cJ25_hasNext 11 = .ok (.if_icmp .ge 7, 3) := dk_162 0 7 (dk_at dksJ25_hasNext_0 11 rfl rfl)
theorem dJ25_hasNext_14 : decode cJ25_hasNext 14 = .ok (.iconst 1, 1) := dk_4 (dk_at dksJ25_hasNext_0 14 rfl rfl)
theorem dJ25_hasNext_15 : decode cJ25_hasNext 15 = .ok (.goto 4, 3) := dk_167 0 4 (dk_at dksJ25_hasNext_0 15 rfl rfl)
theorem dJ25_hasNext_18 : decode cJ25_hasNext 18 = .ok (.iconst 0, 1) := dk_3 (dk_at dksJ25_hasNext_0 18 rfl rfl)
theorem dJ25_hasNext_19 : decode cJ25_hasNext 19 = .ok (.ireturn, 1) := dk_172 (dk_at dksJ25_hasNext_0 19 rfl rfl)
abbrev cJ25_next : ByteArray := prog_61_method_3_code
def yJ25_next : MethodName := ⟨RJ25, "next", "()Ljava/lang/Object;"⟩
def dkwJ25_next_2 : List UInt8 := [42, 180, 0, 46, 180, 0, 52, 176]
abbrev dktJ25_next_2 : List UInt8 := dkwJ25_next_2 ++ []
def dkwJ25_next_1 : List UInt8 := [181, 0, 46, 42, 42, 180, 0, 29, 180, 0, 49, 181, 0, 29, 42, 89, 180, 0, 33, 4, 96, 181, 0, 33]
abbrev dktJ25_next_1 : List UInt8 := dkwJ25_next_1 ++ dktJ25_next_2
def dkwJ25_next_0 : List UInt8 := [42, 182, 0, 36, 42, 182, 0, 39, 154, 0, 11, 187, 0, 43, 89, 183, 0, 45, 191, 42, 42, 180, 0, 29]
abbrev dktJ25_next_0 : List UInt8 := dkwJ25_next_0 ++ dktJ25_next_1
theorem dksJ25_next_0 : cJ25_next.data.toList.drop 0 = dktJ25_next_0 := by decide +kernel
theorem dksJ25_next_1 : cJ25_next.data.toList.drop 24 = dktJ25_next_1 := dk_seg dksJ25_next_0 24 rfl rfl
theorem dksJ25_next_2 : cJ25_next.data.toList.drop 48 = dktJ25_next_2 := dk_seg dksJ25_next_1 24 rfl rfl
theorem dJ25_next_0 : decode cJ25_next 0 = .ok (.aload_n 0, 1) := dk_42 (dk_at dksJ25_next_0 0 rfl rfl)
theorem dJ25_next_1 : decode cJ25_next 1 = .ok (.invokevirtual 36, 3) := dk_182 0 36 (dk_at dksJ25_next_0 1 rfl rfl)
theorem dJ25_next_4 : decode cJ25_next 4 = .ok (.aload_n 0, 1) := dk_42 (dk_at dksJ25_next_0 4 rfl rfl)
theorem dJ25_next_5 : decode cJ25_next 5 = .ok (.invokevirtual 39, 3) := dk_182 0 39 (dk_at dksJ25_next_0 5 rfl rfl)
theorem dJ25_next_8 : decode cJ25_next 8 = .ok (.ifCond .ne 11, 3) := dk_154 0 11 (dk_at dksJ25_next_0 8 rfl rfl)
theorem dJ25_next_11 : decode cJ25_next 11 = .ok (.new 43, 3) := dk_187 0 43 (dk_at dksJ25_next_0 11 rfl rfl)
theorem dJ25_next_14 : decode cJ25_next 14 = .ok (.dup, 1) := dk_89 (dk_at dksJ25_next_0 14 rfl rfl)
theorem dJ25_next_15 : decode cJ25_next 15 = .ok (.invokespecial 45, 3) := dk_183 0 45 (dk_at dksJ25_next_0 15 rfl rfl)
theorem dJ25_next_18 : decode cJ25_next 18 = .ok (.athrow, 1) := dk_191 (dk_at dksJ25_next_0 18 rfl rfl)
theorem dJ25_next_19 : decode cJ25_next 19 = .ok (.aload_n 0, 1) := dk_42 (dk_at dksJ25_next_0 19 rfl rfl)
theorem dJ25_next_20 : decode cJ25_next 20 = .ok (.aload_n 0, 1) := dk_42 (dk_at dksJ25_next_0 20 rfl rfl)
theorem dJ25_next_21 : decode cJ25_next 21 = .ok (.getfield 29, 3) := dk_180 0 29 (dk_at dksJ25_next_0 21 rfl rfl)
theorem dJ25_next_24 : decode cJ25_next 24 = .ok (.putfield 46, 3) := dk_181 0 46 (dk_at dksJ25_next_1 0 rfl rfl)
theorem dJ25_next_27 : decode cJ25_next 27 = .ok (.aload_n 0, 1) := dk_42 (dk_at dksJ25_next_1 3 rfl rfl)
theorem dJ25_next_28 : decode cJ25_next 28 = .ok (.aload_n 0, 1) := dk_42 (dk_at dksJ25_next_1 4 rfl rfl)
theorem dJ25_next_29 : decode cJ25_next 29 = .ok (.getfield 29, 3) := dk_180 0 29 (dk_at dksJ25_next_1 5 rfl rfl)
theorem dJ25_next_32 : decode cJ25_next 32 = .ok (.getfield 49, 3) := dk_180 0 49 (dk_at dksJ25_next_1 8 rfl rfl)
theorem dJ25_next_35 : decode cJ25_next 35 = .ok (.putfield 29, 3) := dk_181 0 29 (dk_at dksJ25_next_1 11 rfl rfl)
theorem dJ25_next_38 : decode cJ25_next 38 = .ok (.aload_n 0, 1) := dk_42 (dk_at dksJ25_next_1 14 rfl rfl)
theorem dJ25_next_39 : decode cJ25_next 39 = .ok (.dup, 1) := dk_89 (dk_at dksJ25_next_1 15 rfl rfl)
theorem dJ25_next_40 : decode cJ25_next 40 = .ok (.getfield 33, 3) := dk_180 0 33 (dk_at dksJ25_next_1 16 rfl rfl)
theorem dJ25_next_43 : decode cJ25_next 43 = .ok (.iconst 1, 1) := dk_4 (dk_at dksJ25_next_1 19 rfl rfl)
theorem dJ25_next_44 : decode cJ25_next 44 = .ok (.iadd, 1) := dk_96 (dk_at dksJ25_next_1 20 rfl rfl)
theorem dJ25_next_45 : decode cJ25_next 45 = .ok (.putfield 33, 3) := dk_181 0 33 (dk_at dksJ25_next_1 21 rfl rfl)
theorem dJ25_next_48 : decode cJ25_next 48 = .ok (.aload_n 0, 1) := dk_42 (dk_at dksJ25_next_2 0 rfl rfl)
theorem dJ25_next_49 : decode cJ25_next 49 = .ok (.getfield 46, 3) := dk_180 0 46 (dk_at dksJ25_next_2 1 rfl rfl)
theorem dJ25_next_52 : decode cJ25_next 52 = .ok (.getfield 52, 3) := dk_180 0 52 (dk_at dksJ25_next_2 4 rfl rfl)
theorem dJ25_next_55 : decode cJ25_next 55 = .ok (.areturn, 1) := dk_176 (dk_at dksJ25_next_2 7 rfl rfl)
abbrev cJ25_checkForComodification : ByteArray := prog_61_method_12_code
def yJ25_checkForComodification : MethodName := ⟨RJ25, "checkForComodification", "()V"⟩
def dkwJ25_checkForComodification_0 : List UInt8 := [42, 180, 0, 1, 180, 0, 13, 42, 180, 0, 19, 159, 0, 11, 187, 0, 91, 89, 183, 0, 93, 191, 177]
abbrev dktJ25_checkForComodification_0 : List UInt8 := dkwJ25_checkForComodification_0 ++ []
theorem dksJ25_checkForComodification_0 : cJ25_checkForComodification.data.toList.drop 0 = dktJ25_checkForComodification_0 := by decide +kernel
theorem dJ25_checkForComodification_0 : decode cJ25_checkForComodification 0 = .ok (.aload_n 0, 1) := dk_42 (dk_at dksJ25_checkForComodification_0 0 rfl rfl)
theorem dJ25_checkForComodification_1 : decode cJ25_checkForComodification 1 = .ok (.getfield 1, 3) := dk_180 0 1 (dk_at dksJ25_checkForComodification_0 1 rfl rfl)
theorem dJ25_checkForComodification_4 : decode cJ25_checkForComodification 4 = .ok (.getfield 13, 3) := dk_180 0 13 (dk_at dksJ25_checkForComodification_0 4 rfl rfl)
theorem dJ25_checkForComodification_7 : decode cJ25_checkForComodification 7 = .ok (.aload_n 0, 1) := dk_42 (dk_at dksJ25_checkForComodification_0 7 rfl rfl)
theorem dJ25_checkForComodification_8 : decode cJ25_checkForComodification 8 = .ok (.getfield 19, 3) := dk_180 0 19 (dk_at dksJ25_checkForComodification_0 8 rfl rfl)
theorem dJ25_checkForComodification_11 : decode cJ25_checkForComodification 11 = .ok (.if_icmp .eq 11, 3) := dk_159 0 11 (dk_at dksJ25_checkForComodification_0 11 rfl rfl)
theorem dJ25_checkForComodification_14 : decode cJ25_checkForComodification 14 = .ok (.new 91, 3) := dk_187 0 91 (dk_at dksJ25_checkForComodification_0 14 rfl rfl)
theorem dJ25_checkForComodification_17 : decode cJ25_checkForComodification 17 = .ok (.dup, 1) := dk_89 (dk_at dksJ25_checkForComodification_0 17 rfl rfl)
theorem dJ25_checkForComodification_18 : decode cJ25_checkForComodification 18 = .ok (.invokespecial 93, 3) := dk_183 0 93 (dk_at dksJ25_checkForComodification_0 18 rfl rfl)
theorem dJ25_checkForComodification_21 : decode cJ25_checkForComodification 21 = .ok (.athrow, 1) := dk_191 (dk_at dksJ25_checkForComodification_0 21 rfl rfl)
theorem dJ25_checkForComodification_22 : decode cJ25_checkForComodification 22 = .ok (.return_, 1) := dk_177 (dk_at dksJ25_checkForComodification_0 22 rfl rfl)
theorem q149 : (Jvm.Cond.initialized "java/util/LinkedList$ListItr") ∈ lw_all := lw_g (lw_at lw_m1 38 rfl) rfl
theorem q517 : (Jvm.Cond.fieldLink "java/util/LinkedList$ListItr" (13 : Nat) "java/util/LinkedList" "modCount" "I") ∈ lw_all := lw_g (lw_at lw_m2 166 rfl) rfl
theorem q1008 : (Jvm.Cond.selects "java/util/LinkedList$ListItr" ({ cls := "java/lang/Object", name := "getClass", desc := "()Ljava/lang/Class;" } : Jvm.MethodName) ({ cls := "java/lang/Object", name := "getClass", desc := "()Ljava/lang/Class;" } : Jvm.MethodName)) ∈ lw_all := lw_g (lw_at lw_m4 177 rfl) rfl
theorem q1034 : (Jvm.Cond.fieldLink "java/util/LinkedList$ListItr" (52 : Nat) "java/util/LinkedList$Node" "item" "Ljava/lang/Object;") ∈ lw_all := lw_g (lw_at lw_m4 203 rfl) rfl
theorem q1037 : (Jvm.Cond.fieldLink "java/util/LinkedList$ListItr" (49 : Nat) "java/util/LinkedList$Node" "next" "Ljava/util/LinkedList$Node;") ∈ lw_all := lw_g (lw_at lw_m4 206 rfl) rfl
theorem q1516 : (Jvm.Cond.instantiable "java/util/LinkedList$ListItr" (5 : Nat)) ∈ lw_all := lw_g (lw_at lw_m6 205 rfl) rfl
theorem q1518 : (Jvm.Cond.instanceMethod ({ cls := "java/util/LinkedList$ListItr", name := "<init>", desc := "(Ljava/util/LinkedList;I)V" } : Jvm.MethodName)) ∈ lw_all := lw_g (lw_at lw_m6 207 rfl) rfl
theorem q1519 : (Jvm.Cond.code ({ cls := "java/util/LinkedList$ListItr", name := "<init>", desc := "(Ljava/util/LinkedList;I)V" } : Jvm.MethodName) prog_61_method_1_code (3 : Nat) (Option.none : Option Jvm.ClassFile.FieldType)) ∈ lw_all := lw_g (lw_at lw_m6 208 rfl) rfl
theorem q1520 : (Jvm.Cond.methodLink "java/util/LinkedList$ListItr" (7 : Nat) ({ cls := "java/lang/Object", name := "<init>", desc := "()V" } : Jvm.MethodName)) ∈ lw_all := lw_g (lw_at lw_m6 209 rfl) rfl
theorem q1521 : (Jvm.Cond.methodLink "java/util/LinkedList$ListItr" (25 : Nat) ({ cls := "java/util/LinkedList", name := "node", desc := "(I)Ljava/util/LinkedList$Node;" } : Jvm.MethodName)) ∈ lw_all := lw_g (lw_at lw_m6 210 rfl) rfl
theorem q1522 : (Jvm.Cond.fieldLink "java/util/LinkedList$ListItr" (46 : Nat) "java/util/LinkedList$ListItr" "lastReturned" "Ljava/util/LinkedList$Node;") ∈ lw_all := lw_g (lw_at lw_m6 211 rfl) rfl
theorem q1523 : (Jvm.Cond.fieldLink "java/util/LinkedList$ListItr" (29 : Nat) "java/util/LinkedList$ListItr" "next" "Ljava/util/LinkedList$Node;") ∈ lw_all := lw_g (lw_at lw_m6 212 rfl) rfl
theorem q1524 : (Jvm.Cond.fieldLink "java/util/LinkedList$ListItr" (33 : Nat) "java/util/LinkedList$ListItr" "nextIndex" "I") ∈ lw_all := lw_g (lw_at lw_m6 213 rfl) rfl
theorem q1525 : (Jvm.Cond.fieldLink "java/util/LinkedList$ListItr" (19 : Nat) "java/util/LinkedList$ListItr" "expectedModCount" "I") ∈ lw_all := lw_g (lw_at lw_m6 214 rfl) rfl
theorem q1526 : (Jvm.Cond.fieldLink "java/util/LinkedList$ListItr" (1 : Nat) "java/util/LinkedList$ListItr" "this$0" "Ljava/util/LinkedList;") ∈ lw_all := lw_g (lw_at lw_m6 215 rfl) rfl
theorem q1527 : (Jvm.Cond.lays "java/util/LinkedList$ListItr" "java/util/LinkedList$ListItr" "lastReturned" "Ljava/util/LinkedList$Node;") ∈ lw_all := lw_g (lw_at lw_m6 216 rfl) rfl
theorem q1528 : (Jvm.Cond.soleField "java/util/LinkedList$ListItr" "lastReturned") ∈ lw_all := lw_g (lw_at lw_m6 217 rfl) rfl
theorem q1529 : (Jvm.Cond.lays "java/util/LinkedList$ListItr" "java/util/LinkedList$ListItr" "next" "Ljava/util/LinkedList$Node;") ∈ lw_all := lw_g (lw_at lw_m6 218 rfl) rfl
theorem q1530 : (Jvm.Cond.soleField "java/util/LinkedList$ListItr" "next") ∈ lw_all := lw_g (lw_at lw_m6 219 rfl) rfl
theorem q1531 : (Jvm.Cond.lays "java/util/LinkedList$ListItr" "java/util/LinkedList$ListItr" "nextIndex" "I") ∈ lw_all := lw_g (lw_at lw_m6 220 rfl) rfl
theorem q1532 : (Jvm.Cond.soleField "java/util/LinkedList$ListItr" "nextIndex") ∈ lw_all := lw_g (lw_at lw_m6 221 rfl) rfl
theorem q1533 : (Jvm.Cond.lays "java/util/LinkedList$ListItr" "java/util/LinkedList$ListItr" "expectedModCount" "I") ∈ lw_all := lw_g (lw_at lw_m6 222 rfl) rfl
theorem q1534 : (Jvm.Cond.soleField "java/util/LinkedList$ListItr" "expectedModCount") ∈ lw_all := lw_g (lw_at lw_m6 223 rfl) rfl
theorem q1535 : (Jvm.Cond.laysFinal "java/util/LinkedList$ListItr" "java/util/LinkedList$ListItr" "this$0" "Ljava/util/LinkedList;") ∈ lw_all := lw_g (lw_at lw_m6 224 rfl) rfl
theorem q1536 : (Jvm.Cond.soleField "java/util/LinkedList$ListItr" "this$0") ∈ lw_all := lw_g (lw_at lw_m6 225 rfl) rfl
theorem q1537 : (Jvm.Cond.superclass "java/util/LinkedList$ListItr" "java/lang/Object") ∈ lw_all := lw_g (lw_at lw_m6 226 rfl) rfl
theorem q1577 : (Jvm.Cond.castable "java/util/LinkedList$ListItr" "java/util/Iterator") ∈ lw_tbl := lw_at lw_m7 26 rfl
theorem q1578 : (Jvm.Cond.selects "java/util/LinkedList$ListItr" ({ cls := "java/util/Iterator", name := "hasNext", desc := "()Z" } : Jvm.MethodName) ({ cls := "java/util/LinkedList$ListItr", name := "hasNext", desc := "()Z" } : Jvm.MethodName)) ∈ lw_all := lw_g (lw_at lw_m7 27 rfl) rfl
theorem q1579 : (Jvm.Cond.unhidden "java/util/LinkedList$ListItr" "hasNext" "()Z") ∈ lw_tbl := lw_at lw_m7 28 rfl
theorem q1580 : (Jvm.Cond.instanceMethod ({ cls := "java/util/LinkedList$ListItr", name := "hasNext", desc := "()Z" } : Jvm.MethodName)) ∈ lw_all := lw_g (lw_at lw_m7 29 rfl) rfl
theorem q1581 : (Jvm.Cond.publicMethod ({ cls := "java/util/LinkedList$ListItr", name := "hasNext", desc := "()Z" } : Jvm.MethodName)) ∈ lw_tbl := lw_at lw_m7 30 rfl
theorem q1582 : (Jvm.Cond.code ({ cls := "java/util/LinkedList$ListItr", name := "hasNext", desc := "()Z" } : Jvm.MethodName) prog_61_method_2_code (1 : Nat) (Option.some Jvm.ClassFile.FieldType.boolean)) ∈ lw_all := lw_g (lw_at lw_m7 31 rfl) rfl
theorem q1694 : (Jvm.Cond.selects "java/util/LinkedList$ListItr" ({ cls := "java/util/Iterator", name := "next", desc := "()Ljava/lang/Object;" } : Jvm.MethodName) ({ cls := "java/util/LinkedList$ListItr", name := "next", desc := "()Ljava/lang/Object;" } : Jvm.MethodName)) ∈ lw_all := lw_g (lw_at lw_m7 143 rfl) rfl
theorem q1695 : (Jvm.Cond.unhidden "java/util/LinkedList$ListItr" "next" "()Ljava/lang/Object;") ∈ lw_tbl := lw_at lw_m7 144 rfl
theorem q1696 : (Jvm.Cond.instanceMethod ({ cls := "java/util/LinkedList$ListItr", name := "next", desc := "()Ljava/lang/Object;" } : Jvm.MethodName)) ∈ lw_all := lw_g (lw_at lw_m7 145 rfl) rfl
theorem q1697 : (Jvm.Cond.publicMethod ({ cls := "java/util/LinkedList$ListItr", name := "next", desc := "()Ljava/lang/Object;" } : Jvm.MethodName)) ∈ lw_tbl := lw_at lw_m7 146 rfl
theorem q1698 : (Jvm.Cond.code ({ cls := "java/util/LinkedList$ListItr", name := "next", desc := "()Ljava/lang/Object;" } : Jvm.MethodName) prog_61_method_3_code (1 : Nat) (Option.some (Jvm.ClassFile.FieldType.object "java/lang/Object"))) ∈ lw_all := lw_g (lw_at lw_m7 147 rfl) rfl
theorem q1699 : (Jvm.Cond.methodLink "java/util/LinkedList$ListItr" (36 : Nat) ({ cls := "java/util/LinkedList$ListItr", name := "checkForComodification", desc := "()V" } : Jvm.MethodName)) ∈ lw_all := lw_g (lw_at lw_m7 148 rfl) rfl
theorem q1700 : (Jvm.Cond.instanceMethod ({ cls := "java/util/LinkedList$ListItr", name := "checkForComodification", desc := "()V" } : Jvm.MethodName)) ∈ lw_all := lw_g (lw_at lw_m7 149 rfl) rfl
theorem q1701 : (Jvm.Cond.selects "java/util/LinkedList$ListItr" ({ cls := "java/util/LinkedList$ListItr", name := "checkForComodification", desc := "()V" } : Jvm.MethodName) ({ cls := "java/util/LinkedList$ListItr", name := "checkForComodification", desc := "()V" } : Jvm.MethodName)) ∈ lw_all := lw_g (lw_at lw_m7 150 rfl) rfl
theorem q1702 : (Jvm.Cond.code ({ cls := "java/util/LinkedList$ListItr", name := "checkForComodification", desc := "()V" } : Jvm.MethodName) prog_61_method_12_code (1 : Nat) (Option.none : Option Jvm.ClassFile.FieldType)) ∈ lw_all := lw_g (lw_at lw_m7 151 rfl) rfl
theorem q1703 : (Jvm.Cond.methodLink "java/util/LinkedList$ListItr" (39 : Nat) ({ cls := "java/util/LinkedList$ListItr", name := "hasNext", desc := "()Z" } : Jvm.MethodName)) ∈ lw_all := lw_g (lw_at lw_m7 152 rfl) rfl
theorem q2058 : (Jvm.Cond.fieldLink "java/util/LinkedList$ListItr" (22 : Nat) "java/util/LinkedList" "size" "I") ∈ lw_all := lw_g (lw_at lw_m9 27 rfl) rfl
theorem q3044 : (Jvm.Cond.selects "java/util/LinkedList$ListItr" ({ cls := "java/util/LinkedList$ListItr", name := "hasNext", desc := "()Z" } : Jvm.MethodName) ({ cls := "java/util/LinkedList$ListItr", name := "hasNext", desc := "()Z" } : Jvm.MethodName)) ∈ lw_all := lw_g (lw_at lw_m13 53 rfl) rfl
theorem q3082 : (Jvm.Cond.castable "java/util/LinkedList$ListItr" "java/lang/Object") ∈ lw_tbl := lw_at lw_m13 91 rfl
theorem in_J25 : ∀ w ∈ wsJ250, w ∈ lw_all := lw_in wsJ250 [1527, 1529, 1531, 1533, 1535] (by decide +kernel) (by decide +kernel)
/-! java/util/NoSuchElementException -/
set_option maxRecDepth 100000
def RJ26 : String := "java/util/NoSuchElementException"
def TJ26 : u_T := fun k => match k with
  | 0 => ("java/lang/Throwable", "cause", "Ljava/lang/Throwable;", false)
  | 1 => ("java/lang/Throwable", "stackTrace", "[Ljava/lang/StackTraceElement;", false)
  | 2 => ("java/lang/Throwable", "suppressedExceptions", "Ljava/util/List;", false)
  | 3 => ("java/lang/Throwable", "detailMessage", "Ljava/lang/String;", false)
  | 4 => ("java/lang/Throwable", "backtrace", "Ljava/lang/Object;", false)
  | _ => ("java/lang/Throwable", "depth", "I", false)
def tyJ26 : Nat → FieldType := fun k => match k with
  | 0 => .object "java/lang/Throwable"
  | 1 => .array (.object "java/lang/StackTraceElement")
  | 2 => .object "java/util/List"
  | 3 => .object "java/lang/String"
  | 4 => .object "java/lang/Object"
  | _ => .int
abbrev wsJ260 : List Cond := u_ws RJ26 TJ26 6
theorem nmJ26 : ∀ a, a < 6 → ∀ b, b < 6 → a ≠ b → (TJ26 a).2.1 ≠ (TJ26 b).2.1 := by decide +kernel
theorem tyJ26_ok : ∀ k, k < 6 → parseFieldDescriptor (TJ26 k).2.2.1 = some (tyJ26 k) := by decide +kernel
abbrev cJ26_init : ByteArray := prog_65_method_1_code
def yJ26_init : MethodName := ⟨RJ26, "<init>", "()V"⟩
theorem dJ26_init_0 : decode cJ26_init 0 = .ok (.aload_n 0, 1) := by decide +kernel
theorem dJ26_init_1 : decode cJ26_init 1 = .ok (.invokespecial 1, 3) := by decide +kernel
theorem dJ26_init_4 : decode cJ26_init 4 = .ok (.return_, 1) := by decide +kernel
abbrev cJ26_init_2 : ByteArray := prog_65_method_3_code
def yJ26_init_2 : MethodName := ⟨RJ26, "<init>", "(Ljava/lang/Throwable;)V"⟩
def dkwJ26_init_2_0 : List UInt8 := [42, 43, 183, 0, 10, 177]
abbrev dktJ26_init_2_0 : List UInt8 := dkwJ26_init_2_0 ++ []
theorem dksJ26_init_2_0 : cJ26_init_2.data.toList.drop 0 = dktJ26_init_2_0 := by decide +kernel
theorem dJ26_init_2_0 : decode cJ26_init_2 0 = .ok (.aload_n 0, 1) := dk_42 (dk_at dksJ26_init_2_0 0 rfl rfl)
theorem dJ26_init_2_1 : decode cJ26_init_2 1 = .ok (.aload_n 1, 1) := dk_43 (dk_at dksJ26_init_2_0 1 rfl rfl)
theorem dJ26_init_2_2 : decode cJ26_init_2 2 = .ok (.invokespecial 10, 3) := dk_183 0 10 (dk_at dksJ26_init_2_0 2 rfl rfl)
theorem dJ26_init_2_5 : decode cJ26_init_2 5 = .ok (.return_, 1) := dk_177 (dk_at dksJ26_init_2_0 5 rfl rfl)
theorem q150 : (Jvm.Cond.initialized "java/util/NoSuchElementException") ∈ lw_all := lw_g (lw_at lw_m1 39 rfl) rfl
theorem q231 : (Jvm.Cond.selects "java/util/NoSuchElementException" ({ cls := "java/lang/Throwable", name := "fillInStackTrace", desc := "()Ljava/lang/Throwable;" } : Jvm.MethodName) ({ cls := "java/lang/Throwable", name := "fillInStackTrace", desc := "()Ljava/lang/Throwable;" } : Jvm.MethodName)) ∈ lw_all := lw_g (lw_at lw_m1 120 rfl) rfl
theorem q1010 : (Jvm.Cond.selects "java/util/NoSuchElementException" ({ cls := "java/lang/Object", name := "getClass", desc := "()Ljava/lang/Class;" } : Jvm.MethodName) ({ cls := "java/lang/Object", name := "getClass", desc := "()Ljava/lang/Class;" } : Jvm.MethodName)) ∈ lw_all := lw_g (lw_at lw_m4 179 rfl) rfl
theorem q1383 : (Jvm.Cond.instantiable "java/util/NoSuchElementException" (6 : Nat)) ∈ lw_all := lw_g (lw_at lw_m6 72 rfl) rfl
theorem q1384 : (Jvm.Cond.castable "java/util/NoSuchElementException" "java/util/NoSuchElementException") ∈ lw_tbl := lw_at lw_m6 73 rfl
theorem q1385 : (Jvm.Cond.selects "java/util/NoSuchElementException" ({ cls := "java/lang/Throwable", name := "fillInStackTrace", desc := "(I)Ljava/lang/Throwable;" } : Jvm.MethodName) ({ cls := "java/lang/Throwable", name := "fillInStackTrace", desc := "(I)Ljava/lang/Throwable;" } : Jvm.MethodName)) ∈ lw_all := lw_g (lw_at lw_m6 74 rfl) rfl
theorem q1386 : (Jvm.Cond.lays "java/util/NoSuchElementException" "java/lang/Throwable" "cause" "Ljava/lang/Throwable;") ∈ lw_all := lw_g (lw_at lw_m6 75 rfl) rfl
theorem q1387 : (Jvm.Cond.lays "java/util/NoSuchElementException" "java/lang/Throwable" "stackTrace" "[Ljava/lang/StackTraceElement;") ∈ lw_all := lw_g (lw_at lw_m6 76 rfl) rfl
theorem q1388 : (Jvm.Cond.lays "java/util/NoSuchElementException" "java/lang/Throwable" "suppressedExceptions" "Ljava/util/List;") ∈ lw_all := lw_g (lw_at lw_m6 77 rfl) rfl
theorem q1389 : (Jvm.Cond.lays "java/util/NoSuchElementException" "java/lang/Throwable" "detailMessage" "Ljava/lang/String;") ∈ lw_all := lw_g (lw_at lw_m6 78 rfl) rfl
theorem q1390 : (Jvm.Cond.lays "java/util/NoSuchElementException" "java/lang/Throwable" "backtrace" "Ljava/lang/Object;") ∈ lw_all := lw_g (lw_at lw_m6 79 rfl) rfl
theorem q1392 : (Jvm.Cond.instanceMethod ({ cls := "java/util/NoSuchElementException", name := "<init>", desc := "()V" } : Jvm.MethodName)) ∈ lw_all := lw_g (lw_at lw_m6 81 rfl) rfl
theorem q1393 : (Jvm.Cond.code ({ cls := "java/util/NoSuchElementException", name := "<init>", desc := "()V" } : Jvm.MethodName) prog_65_method_1_code (1 : Nat) (Option.none : Option Jvm.ClassFile.FieldType)) ∈ lw_all := lw_g (lw_at lw_m6 82 rfl) rfl
theorem q1394 : (Jvm.Cond.methodLink "java/util/NoSuchElementException" (1 : Nat) ({ cls := "java/lang/RuntimeException", name := "<init>", desc := "()V" } : Jvm.MethodName)) ∈ lw_all := lw_g (lw_at lw_m6 83 rfl) rfl
theorem q1401 : (Jvm.Cond.lays "java/util/NoSuchElementException" "java/lang/Throwable" "depth" "I") ∈ lw_all := lw_g (lw_at lw_m6 90 rfl) rfl
theorem q1402 : (Jvm.Cond.superclass "java/util/NoSuchElementException" "java/lang/RuntimeException") ∈ lw_all := lw_g (lw_at lw_m6 91 rfl) rfl
theorem q1625 : (Jvm.Cond.instanceMethod ({ cls := "java/util/NoSuchElementException", name := "<init>", desc := "(Ljava/lang/Throwable;)V" } : Jvm.MethodName)) ∈ lw_all := lw_g (lw_at lw_m7 74 rfl) rfl
theorem q1626 : (Jvm.Cond.code ({ cls := "java/util/NoSuchElementException", name := "<init>", desc := "(Ljava/lang/Throwable;)V" } : Jvm.MethodName) prog_65_method_3_code (2 : Nat) (Option.none : Option Jvm.ClassFile.FieldType)) ∈ lw_all := lw_g (lw_at lw_m7 75 rfl) rfl
theorem q1627 : (Jvm.Cond.methodLink "java/util/NoSuchElementException" (10 : Nat) ({ cls := "java/lang/RuntimeException", name := "<init>", desc := "(Ljava/lang/Throwable;)V" } : Jvm.MethodName)) ∈ lw_all := lw_g (lw_at lw_m7 76 rfl) rfl
theorem q1644 : (Jvm.Cond.selects "java/util/NoSuchElementException" ({ cls := "java/lang/Throwable", name := "toString", desc := "()Ljava/lang/String;" } : Jvm.MethodName) ({ cls := "java/lang/Throwable", name := "toString", desc := "()Ljava/lang/String;" } : Jvm.MethodName)) ∈ lw_all := lw_g (lw_at lw_m7 93 rfl) rfl
theorem q1655 : (Jvm.Cond.selects "java/util/NoSuchElementException" ({ cls := "java/lang/Throwable", name := "getLocalizedMessage", desc := "()Ljava/lang/String;" } : Jvm.MethodName) ({ cls := "java/lang/Throwable", name := "getLocalizedMessage", desc := "()Ljava/lang/String;" } : Jvm.MethodName)) ∈ lw_all := lw_g (lw_at lw_m7 104 rfl) rfl
theorem q1665 : (Jvm.Cond.selects "java/util/NoSuchElementException" ({ cls := "java/lang/Throwable", name := "getMessage", desc := "()Ljava/lang/String;" } : Jvm.MethodName) ({ cls := "java/lang/Throwable", name := "getMessage", desc := "()Ljava/lang/String;" } : Jvm.MethodName)) ∈ lw_all := lw_g (lw_at lw_m7 114 rfl) rfl
theorem q3076 : (Jvm.Cond.castable "java/util/NoSuchElementException" "java/lang/Object") ∈ lw_tbl := lw_at lw_m13 85 rfl
theorem in_J26 : ∀ w ∈ wsJ260, w ∈ lw_all := lw_in wsJ260 [1386, 1387, 1388, 1389, 1390, 1401] (by decide +kernel) (by decide +kernel)
/-! java/util/Objects -/
set_option maxRecDepth 100000
def RJ27 : String := "java/util/Objects"
abbrev cJ27_checkIndex : ByteArray := prog_66_method_17_code
def yJ27_checkIndex : MethodName := ⟨RJ27, "checkIndex", "(II)I"⟩
def dkwJ27_checkIndex_0 : List UInt8 := [26, 27, 1, 184, 0, 105, 172]
abbrev dktJ27_checkIndex_0 : List UInt8 := dkwJ27_checkIndex_0 ++ []
theorem dksJ27_checkIndex_0 : cJ27_checkIndex.data.toList.drop 0 = dktJ27_checkIndex_0 := by decide +kernel
theorem dJ27_checkIndex_0 : decode cJ27_checkIndex 0 = .ok (.iload_n 0, 1) := dk_26 (dk_at dksJ27_checkIndex_0 0 rfl rfl)
theorem dJ27_checkIndex_1 : decode cJ27_checkIndex 1 = .ok (.iload_n 1, 1) := dk_27 (dk_at dksJ27_checkIndex_0 1 rfl rfl)
theorem dJ27_checkIndex_2 : decode cJ27_checkIndex 2 = .ok (.aconst_null, 1) := dk_1 (dk_at dksJ27_checkIndex_0 2 rfl rfl)
theorem dJ27_checkIndex_3 : decode cJ27_checkIndex 3 = .ok (.invokestatic 105, 3) := dk_184 0 105 (dk_at dksJ27_checkIndex_0 3 rfl rfl)
theorem dJ27_checkIndex_6 : decode cJ27_checkIndex 6 = .ok (.ireturn, 1) := dk_172 (dk_at dksJ27_checkIndex_0 6 rfl rfl)
theorem q151 : (Jvm.Cond.initialized "java/util/Objects") ∈ lw_all := lw_g (lw_at lw_m1 40 rfl) rfl
theorem q1214 : (Jvm.Cond.static ({ cls := "java/util/Objects", name := "checkIndex", desc := "(II)I" } : Jvm.MethodName)) ∈ lw_all := lw_g (lw_at lw_m5 143 rfl) rfl
theorem q1215 : (Jvm.Cond.code ({ cls := "java/util/Objects", name := "checkIndex", desc := "(II)I" } : Jvm.MethodName) prog_66_method_17_code (2 : Nat) (Option.some Jvm.ClassFile.FieldType.int)) ∈ lw_all := lw_g (lw_at lw_m5 144 rfl) rfl
theorem q1216 : (Jvm.Cond.methodLink "java/util/Objects" (105 : Nat) ({ cls := "jdk/internal/util/Preconditions", name := "checkIndex", desc := "(IILjava/util/function/BiFunction;)I" } : Jvm.MethodName)) ∈ lw_all := lw_g (lw_at lw_m5 145 rfl) rfl
/-! java/lang/Long -/
set_option maxRecDepth 100000
def RJ28 : String := "java/lang/Long"
abbrev cJ28_numberOfTrailingZeros : ByteArray := prog_30_method_49_code
def yJ28_numberOfTrailingZeros : MethodName := ⟨RJ28, "numberOfTrailingZeros", "(J)I"⟩
def dkwJ28_numberOfTrailingZeros_1 : List UInt8 := [184, 1, 55, 172]
abbrev dktJ28_numberOfTrailingZeros_1 : List UInt8 := dkwJ28_numberOfTrailingZeros_1 ++ []
def dkwJ28_numberOfTrailingZeros_0 : List UInt8 := [30, 136, 61, 28, 154, 0, 17, 16, 32, 30, 16, 32, 125, 136, 184, 1, 55, 96, 167, 0, 7, 28]
abbrev dktJ28_numberOfTrailingZeros_0 : List UInt8 := dkwJ28_numberOfTrailingZeros_0 ++ dktJ28_numberOfTrailingZeros_1
theorem dksJ28_numberOfTrailingZeros_0 : cJ28_numberOfTrailingZeros.data.toList.drop 0 = dktJ28_numberOfTrailingZeros_0 := by decide +kernel
theorem dksJ28_numberOfTrailingZeros_1 : cJ28_numberOfTrailingZeros.data.toList.drop 22 = dktJ28_numberOfTrailingZeros_1 := dk_seg dksJ28_numberOfTrailingZeros_0 22 rfl rfl
theorem dJ28_numberOfTrailingZeros_0 : decode cJ28_numberOfTrailingZeros 0 = .ok (.lload_n 0, 1) := dk_30 (dk_at dksJ28_numberOfTrailingZeros_0 0 rfl rfl)
theorem dJ28_numberOfTrailingZeros_1 : decode cJ28_numberOfTrailingZeros 1 = .ok (.l2i, 1) := dk_136 (dk_at dksJ28_numberOfTrailingZeros_0 1 rfl rfl)
theorem dJ28_numberOfTrailingZeros_2 : decode cJ28_numberOfTrailingZeros 2 = .ok (.istore_n 2, 1) := dk_61 (dk_at dksJ28_numberOfTrailingZeros_0 2 rfl rfl)
theorem dJ28_numberOfTrailingZeros_3 : decode cJ28_numberOfTrailingZeros 3 = .ok (.iload_n 2, 1) := dk_28 (dk_at dksJ28_numberOfTrailingZeros_0 3 rfl rfl)
theorem dJ28_numberOfTrailingZeros_4 : decode cJ28_numberOfTrailingZeros 4 = .ok (.ifCond .ne 17, 3) := dk_154 0 17 (dk_at dksJ28_numberOfTrailingZeros_0 4 rfl rfl)
theorem dJ28_numberOfTrailingZeros_7 : decode cJ28_numberOfTrailingZeros 7 = .ok (.bipush 32, 2) := dk_16 32 (dk_at dksJ28_numberOfTrailingZeros_0 7 rfl rfl)
theorem dJ28_numberOfTrailingZeros_9 : decode cJ28_numberOfTrailingZeros 9 = .ok (.lload_n 0, 1) := dk_30 (dk_at dksJ28_numberOfTrailingZeros_0 9 rfl rfl)
theorem dJ28_numberOfTrailingZeros_10 : decode cJ28_numberOfTrailingZeros 10 = .ok (.bipush 32, 2) := dk_16 32 (dk_at dksJ28_numberOfTrailingZeros_0 10 rfl rfl)
theorem dJ28_numberOfTrailingZeros_12 : decode cJ28_numberOfTrailingZeros 12 = .ok (.lushr, 1) := dk_125 (dk_at dksJ28_numberOfTrailingZeros_0 12 rfl rfl)
theorem dJ28_numberOfTrailingZeros_13 : decode cJ28_numberOfTrailingZeros 13 = .ok (.l2i, 1) := dk_136 (dk_at dksJ28_numberOfTrailingZeros_0 13 rfl rfl)
theorem dJ28_numberOfTrailingZeros_14 : decode cJ28_numberOfTrailingZeros 14 = .ok (.invokestatic 311, 3) := dk_184 1 55 (dk_at dksJ28_numberOfTrailingZeros_0 14 rfl rfl)
theorem dJ28_numberOfTrailingZeros_17 : decode cJ28_numberOfTrailingZeros 17 = .ok (.iadd, 1) := dk_96 (dk_at dksJ28_numberOfTrailingZeros_0 17 rfl rfl)
theorem dJ28_numberOfTrailingZeros_18 : decode cJ28_numberOfTrailingZeros 18 = .ok (.goto 7, 3) := dk_167 0 7 (dk_at dksJ28_numberOfTrailingZeros_0 18 rfl rfl)
theorem dJ28_numberOfTrailingZeros_21 : decode cJ28_numberOfTrailingZeros 21 = .ok (.iload_n 2, 1) := dk_28 (dk_at dksJ28_numberOfTrailingZeros_0 21 rfl rfl)
theorem dJ28_numberOfTrailingZeros_22 : decode cJ28_numberOfTrailingZeros 22 = .ok (.invokestatic 311, 3) := dk_184 1 55 (dk_at dksJ28_numberOfTrailingZeros_1 0 rfl rfl)
theorem dJ28_numberOfTrailingZeros_25 : decode cJ28_numberOfTrailingZeros 25 = .ok (.ireturn, 1) := dk_172 (dk_at dksJ28_numberOfTrailingZeros_1 3 rfl rfl)
abbrev cJ28_bitCount : ByteArray := prog_30_method_50_code
def yJ28_bitCount : MethodName := ⟨RJ28, "bitCount", "(J)I"⟩
def dkwJ28_bitCount_2 : List UInt8 := [30, 30, 16, 32, 125, 97, 63, 30, 136, 16, 127, 126, 172]
abbrev dktJ28_bitCount_2 : List UInt8 := dkwJ28_bitCount_2 ++ []
def dkwJ28_bitCount_1 : List UInt8 := [30, 30, 7, 125, 97, 20, 1, 62, 127, 63, 30, 30, 16, 8, 125, 97, 63, 30, 30, 16, 16, 125, 97, 63]
abbrev dktJ28_bitCount_1 : List UInt8 := dkwJ28_bitCount_1 ++ dktJ28_bitCount_2
def dkwJ28_bitCount_0 : List UInt8 := [30, 30, 4, 125, 20, 1, 58, 127, 101, 63, 30, 20, 1, 60, 127, 30, 5, 125, 20, 1, 60, 127, 97, 63]
abbrev dktJ28_bitCount_0 : List UInt8 := dkwJ28_bitCount_0 ++ dktJ28_bitCount_1
theorem dksJ28_bitCount_0 : cJ28_bitCount.data.toList.drop 0 = dktJ28_bitCount_0 := by decide +kernel
theorem dksJ28_bitCount_1 : cJ28_bitCount.data.toList.drop 24 = dktJ28_bitCount_1 := dk_seg dksJ28_bitCount_0 24 rfl rfl
theorem dksJ28_bitCount_2 : cJ28_bitCount.data.toList.drop 48 = dktJ28_bitCount_2 := dk_seg dksJ28_bitCount_1 24 rfl rfl
theorem dJ28_bitCount_0 : decode cJ28_bitCount 0 = .ok (.lload_n 0, 1) := dk_30 (dk_at dksJ28_bitCount_0 0 rfl rfl)
theorem dJ28_bitCount_1 : decode cJ28_bitCount 1 = .ok (.lload_n 0, 1) := dk_30 (dk_at dksJ28_bitCount_0 1 rfl rfl)
theorem dJ28_bitCount_2 : decode cJ28_bitCount 2 = .ok (.iconst 1, 1) := dk_4 (dk_at dksJ28_bitCount_0 2 rfl rfl)
theorem dJ28_bitCount_3 : decode cJ28_bitCount 3 = .ok (.lushr, 1) := dk_125 (dk_at dksJ28_bitCount_0 3 rfl rfl)
theorem dJ28_bitCount_4 : decode cJ28_bitCount 4 = .ok (.ldc2_w 314, 3) := dk_20 1 58 (dk_at dksJ28_bitCount_0 4 rfl rfl)
theorem dJ28_bitCount_7 : decode cJ28_bitCount 7 = .ok (.land, 1) := dk_127 (dk_at dksJ28_bitCount_0 7 rfl rfl)
theorem dJ28_bitCount_8 : decode cJ28_bitCount 8 = .ok (.lsub, 1) := dk_101 (dk_at dksJ28_bitCount_0 8 rfl rfl)
theorem dJ28_bitCount_9 : decode cJ28_bitCount 9 = .ok (.lstore_n 0, 1) := dk_63 (dk_at dksJ28_bitCount_0 9 rfl rfl)
theorem dJ28_bitCount_10 : decode cJ28_bitCount 10 = .ok (.lload_n 0, 1) := dk_30 (dk_at dksJ28_bitCount_0 10 rfl rfl)
theorem dJ28_bitCount_11 : decode cJ28_bitCount 11 = .ok (.ldc2_w 316, 3) := dk_20 1 60 (dk_at dksJ28_bitCount_0 11 rfl rfl)
theorem dJ28_bitCount_14 : decode cJ28_bitCount 14 = .ok (.land, 1) := dk_127 (dk_at dksJ28_bitCount_0 14 rfl rfl)
theorem dJ28_bitCount_15 : decode cJ28_bitCount 15 = .ok (.lload_n 0, 1) := dk_30 (dk_at dksJ28_bitCount_0 15 rfl rfl)
theorem dJ28_bitCount_16 : decode cJ28_bitCount 16 = .ok (.iconst 2, 1) := dk_5 (dk_at dksJ28_bitCount_0 16 rfl rfl)
theorem dJ28_bitCount_17 : decode cJ28_bitCount 17 = .ok (.lushr, 1) := dk_125 (dk_at dksJ28_bitCount_0 17 rfl rfl)
theorem dJ28_bitCount_18 : decode cJ28_bitCount 18 = .ok (.ldc2_w 316, 3) := dk_20 1 60 (dk_at dksJ28_bitCount_0 18 rfl rfl)
theorem dJ28_bitCount_21 : decode cJ28_bitCount 21 = .ok (.land, 1) := dk_127 (dk_at dksJ28_bitCount_0 21 rfl rfl)
theorem dJ28_bitCount_22 : decode cJ28_bitCount 22 = .ok (.ladd, 1) := dk_97 (dk_at dksJ28_bitCount_0 22 rfl rfl)
theorem dJ28_bitCount_23 : decode cJ28_bitCount 23 = .ok (.lstore_n 0, 1) := dk_63 (dk_at dksJ28_bitCount_0 23 rfl rfl)
theorem dJ28_bitCount_24 : decode cJ28_bitCount 24 = .ok (.lload_n 0, 1) := dk_30 (dk_at dksJ28_bitCount_1 0 rfl rfl)
theorem dJ28_bitCount_25 : decode cJ28_bitCount 25 = .ok (.lload_n 0, 1) := dk_30 (dk_at dksJ28_bitCount_1 1 rfl rfl)
theorem dJ28_bitCount_26 : decode cJ28_bitCount 26 = .ok (.iconst 4, 1) := dk_7 (dk_at dksJ28_bitCount_1 2 rfl rfl)
theorem dJ28_bitCount_27 : decode cJ28_bitCount 27 = .ok (.lushr, 1) := dk_125 (dk_at dksJ28_bitCount_1 3 rfl rfl)
theorem dJ28_bitCount_28 : decode cJ28_bitCount 28 = .ok (.ladd, 1) := dk_97 (dk_at dksJ28_bitCount_1 4 rfl rfl)
theorem dJ28_bitCount_29 : decode cJ28_bitCount 29 = .ok (.ldc2_w 318, 3) := dk_20 1 62 (dk_at dksJ28_bitCount_1 5 rfl rfl)
theorem dJ28_bitCount_32 : decode cJ28_bitCount 32 = .ok (.land, 1) := dk_127 (dk_at dksJ28_bitCount_1 8 rfl rfl)
theorem dJ28_bitCount_33 : decode cJ28_bitCount 33 = .ok (.lstore_n 0, 1) := dk_63 (dk_at dksJ28_bitCount_1 9 rfl rfl)
theorem dJ28_bitCount_34 : decode cJ28_bitCount 34 = .ok (.lload_n 0, 1) := dk_30 (dk_at dksJ28_bitCount_1 10 rfl rfl)
theorem dJ28_bitCount_35 : decode cJ28_bitCount 35 = .ok (.lload_n 0, 1) := dk_30 (dk_at dksJ28_bitCount_1 11 rfl rfl)
theorem dJ28_bitCount_36 : decode cJ28_bitCount 36 = .ok (.bipush 8, 2) := dk_16 8 (dk_at dksJ28_bitCount_1 12 rfl rfl)
theorem dJ28_bitCount_38 : decode cJ28_bitCount 38 = .ok (.lushr, 1) := dk_125 (dk_at dksJ28_bitCount_1 14 rfl rfl)
theorem dJ28_bitCount_39 : decode cJ28_bitCount 39 = .ok (.ladd, 1) := dk_97 (dk_at dksJ28_bitCount_1 15 rfl rfl)
theorem dJ28_bitCount_40 : decode cJ28_bitCount 40 = .ok (.lstore_n 0, 1) := dk_63 (dk_at dksJ28_bitCount_1 16 rfl rfl)
theorem dJ28_bitCount_41 : decode cJ28_bitCount 41 = .ok (.lload_n 0, 1) := dk_30 (dk_at dksJ28_bitCount_1 17 rfl rfl)
theorem dJ28_bitCount_42 : decode cJ28_bitCount 42 = .ok (.lload_n 0, 1) := dk_30 (dk_at dksJ28_bitCount_1 18 rfl rfl)
theorem dJ28_bitCount_43 : decode cJ28_bitCount 43 = .ok (.bipush 16, 2) := dk_16 16 (dk_at dksJ28_bitCount_1 19 rfl rfl)
theorem dJ28_bitCount_45 : decode cJ28_bitCount 45 = .ok (.lushr, 1) := dk_125 (dk_at dksJ28_bitCount_1 21 rfl rfl)
theorem dJ28_bitCount_46 : decode cJ28_bitCount 46 = .ok (.ladd, 1) := dk_97 (dk_at dksJ28_bitCount_1 22 rfl rfl)
theorem dJ28_bitCount_47 : decode cJ28_bitCount 47 = .ok (.lstore_n 0, 1) := dk_63 (dk_at dksJ28_bitCount_1 23 rfl rfl)
theorem dJ28_bitCount_48 : decode cJ28_bitCount 48 = .ok (.lload_n 0, 1) := dk_30 (dk_at dksJ28_bitCount_2 0 rfl rfl)
theorem dJ28_bitCount_49 : decode cJ28_bitCount 49 = .ok (.lload_n 0, 1) := dk_30 (dk_at dksJ28_bitCount_2 1 rfl rfl)
theorem dJ28_bitCount_50 : decode cJ28_bitCount 50 = .ok (.bipush 32, 2) := dk_16 32 (dk_at dksJ28_bitCount_2 2 rfl rfl)
theorem dJ28_bitCount_52 : decode cJ28_bitCount 52 = .ok (.lushr, 1) := dk_125 (dk_at dksJ28_bitCount_2 4 rfl rfl)
theorem dJ28_bitCount_53 : decode cJ28_bitCount 53 = .ok (.ladd, 1) := dk_97 (dk_at dksJ28_bitCount_2 5 rfl rfl)
theorem dJ28_bitCount_54 : decode cJ28_bitCount 54 = .ok (.lstore_n 0, 1) := dk_63 (dk_at dksJ28_bitCount_2 6 rfl rfl)
theorem dJ28_bitCount_55 : decode cJ28_bitCount 55 = .ok (.lload_n 0, 1) := dk_30 (dk_at dksJ28_bitCount_2 7 rfl rfl)
theorem dJ28_bitCount_56 : decode cJ28_bitCount 56 = .ok (.l2i, 1) := dk_136 (dk_at dksJ28_bitCount_2 8 rfl rfl)
theorem dJ28_bitCount_57 : decode cJ28_bitCount 57 = .ok (.bipush 127, 2) := dk_16 127 (dk_at dksJ28_bitCount_2 9 rfl rfl)
theorem dJ28_bitCount_59 : decode cJ28_bitCount 59 = .ok (.iand, 1) := dk_126 (dk_at dksJ28_bitCount_2 11 rfl rfl)
theorem dJ28_bitCount_60 : decode cJ28_bitCount 60 = .ok (.ireturn, 1) := dk_172 (dk_at dksJ28_bitCount_2 12 rfl rfl)
theorem q152 : (Jvm.Cond.initialized "java/lang/Long") ∈ lw_all := lw_g (lw_at lw_m1 41 rfl) rfl
theorem q1717 : (Jvm.Cond.static ({ cls := "java/lang/Long", name := "numberOfTrailingZeros", desc := "(J)I" } : Jvm.MethodName)) ∈ lw_all := lw_g (lw_at lw_m7 166 rfl) rfl
theorem q1718 : (Jvm.Cond.code ({ cls := "java/lang/Long", name := "numberOfTrailingZeros", desc := "(J)I" } : Jvm.MethodName) prog_30_method_49_code (3 : Nat) (Option.some Jvm.ClassFile.FieldType.int)) ∈ lw_all := lw_g (lw_at lw_m7 167 rfl) rfl
theorem q1719 : (Jvm.Cond.methodLink "java/lang/Long" (311 : Nat) ({ cls := "java/lang/Integer", name := "numberOfTrailingZeros", desc := "(I)I" } : Jvm.MethodName)) ∈ lw_all := lw_g (lw_at lw_m7 168 rfl) rfl
theorem q1928 : (Jvm.Cond.static ({ cls := "java/lang/Long", name := "bitCount", desc := "(J)I" } : Jvm.MethodName)) ∈ lw_all := lw_g (lw_at lw_m8 137 rfl) rfl
theorem q1929 : (Jvm.Cond.code ({ cls := "java/lang/Long", name := "bitCount", desc := "(J)I" } : Jvm.MethodName) prog_30_method_50_code (2 : Nat) (Option.some Jvm.ClassFile.FieldType.int)) ∈ lw_all := lw_g (lw_at lw_m8 138 rfl) rfl
theorem q1930 : (Jvm.Cond.constantLong "java/lang/Long" (314 : Nat) (6148914691236517205 : Int64)) ∈ lw_all := lw_g (lw_at lw_m8 139 rfl) rfl
theorem q1931 : (Jvm.Cond.constantLong "java/lang/Long" (316 : Nat) (3689348814741910323 : Int64)) ∈ lw_all := lw_g (lw_at lw_m8 140 rfl) rfl
theorem q1932 : (Jvm.Cond.constantLong "java/lang/Long" (318 : Nat) (1085102592571150095 : Int64)) ∈ lw_all := lw_g (lw_at lw_m8 141 rfl) rfl
/-! java/lang/ArrayIndexOutOfBoundsException -/
set_option maxRecDepth 100000
def RJ29 : String := "java/lang/ArrayIndexOutOfBoundsException"
def TJ29 : u_T := fun k => match k with
  | 0 => ("java/lang/Throwable", "cause", "Ljava/lang/Throwable;", false)
  | 1 => ("java/lang/Throwable", "stackTrace", "[Ljava/lang/StackTraceElement;", false)
  | 2 => ("java/lang/Throwable", "suppressedExceptions", "Ljava/util/List;", false)
  | 3 => ("java/lang/Throwable", "detailMessage", "Ljava/lang/String;", false)
  | 4 => ("java/lang/Throwable", "backtrace", "Ljava/lang/Object;", false)
  | _ => ("java/lang/Throwable", "depth", "I", false)
def tyJ29 : Nat → FieldType := fun k => match k with
  | 0 => .object "java/lang/Throwable"
  | 1 => .array (.object "java/lang/StackTraceElement")
  | 2 => .object "java/util/List"
  | 3 => .object "java/lang/String"
  | 4 => .object "java/lang/Object"
  | _ => .int
abbrev wsJ290 : List Cond := u_ws RJ29 TJ29 6
theorem nmJ29 : ∀ a, a < 6 → ∀ b, b < 6 → a ≠ b → (TJ29 a).2.1 ≠ (TJ29 b).2.1 := by decide +kernel
theorem tyJ29_ok : ∀ k, k < 6 → parseFieldDescriptor (TJ29 k).2.2.1 = some (tyJ29 k) := by decide +kernel
abbrev cJ29_init : ByteArray := prog_21_method_3_code
def yJ29_init : MethodName := ⟨RJ29, "<init>", "(I)V"⟩
def dkwJ29_init_0 : List UInt8 := [42, 187, 0, 10, 89, 183, 0, 12, 18, 13, 182, 0, 15, 27, 182, 0, 19, 182, 0, 22, 183, 0, 7, 177]
abbrev dktJ29_init_0 : List UInt8 := dkwJ29_init_0 ++ []
theorem dksJ29_init_0 : cJ29_init.data.toList.drop 0 = dktJ29_init_0 := by decide +kernel
theorem dJ29_init_0 : decode cJ29_init 0 = .ok (.aload_n 0, 1) := dk_42 (dk_at dksJ29_init_0 0 rfl rfl)
theorem dJ29_init_1 : decode cJ29_init 1 = .ok (.new 10, 3) := dk_187 0 10 (dk_at dksJ29_init_0 1 rfl rfl)
theorem dJ29_init_4 : decode cJ29_init 4 = .ok (.dup, 1) := dk_89 (dk_at dksJ29_init_0 4 rfl rfl)
theorem dJ29_init_5 : decode cJ29_init 5 = .ok (.invokespecial 12, 3) := dk_183 0 12 (dk_at dksJ29_init_0 5 rfl rfl)
theorem dJ29_init_8 : decode cJ29_init 8 = .ok (.ldc 13, 2) := dk_18 13 (dk_at dksJ29_init_0 8 rfl rfl)
theorem dJ29_init_10 : decode cJ29_init 10 = .ok (.invokevirtual 15, 3) := dk_182 0 15 (dk_at dksJ29_init_0 10 rfl rfl)
theorem dJ29_init_13 : decode cJ29_init 13 = .ok (.iload_n 1, 1) := dk_27 (dk_at dksJ29_init_0 13 rfl rfl)
theorem dJ29_init_14 : decode cJ29_init 14 = .ok (.invokevirtual 19, 3) := dk_182 0 19 (dk_at dksJ29_init_0 14 rfl rfl)
theorem dJ29_init_17 : decode cJ29_init 17 = .ok (.invokevirtual 22, 3) := dk_182 0 22 (dk_at dksJ29_init_0 17 rfl rfl)
theorem dJ29_init_20 : decode cJ29_init 20 = .ok (.invokespecial 7, 3) := dk_183 0 7 (dk_at dksJ29_init_0 20 rfl rfl)
theorem dJ29_init_23 : decode cJ29_init 23 = .ok (.return_, 1) := dk_177 (dk_at dksJ29_init_0 23 rfl rfl)
abbrev cJ29_init_2 : ByteArray := prog_21_method_2_code
def yJ29_init_2 : MethodName := ⟨RJ29, "<init>", "(Ljava/lang/String;)V"⟩
def dkwJ29_init_2_0 : List UInt8 := [42, 43, 183, 0, 7, 177]
abbrev dktJ29_init_2_0 : List UInt8 := dkwJ29_init_2_0 ++ []
theorem dksJ29_init_2_0 : cJ29_init_2.data.toList.drop 0 = dktJ29_init_2_0 := by decide +kernel
theorem dJ29_init_2_0 : decode cJ29_init_2 0 = .ok (.aload_n 0, 1) := dk_42 (dk_at dksJ29_init_2_0 0 rfl rfl)
theorem dJ29_init_2_1 : decode cJ29_init_2 1 = .ok (.aload_n 1, 1) := dk_43 (dk_at dksJ29_init_2_0 1 rfl rfl)
theorem dJ29_init_2_2 : decode cJ29_init_2 2 = .ok (.invokespecial 7, 3) := dk_183 0 7 (dk_at dksJ29_init_2_0 2 rfl rfl)
theorem dJ29_init_2_5 : decode cJ29_init_2 5 = .ok (.return_, 1) := dk_177 (dk_at dksJ29_init_2_0 5 rfl rfl)
theorem q153 : (Jvm.Cond.initialized "java/lang/ArrayIndexOutOfBoundsException") ∈ lw_all := lw_g (lw_at lw_m1 42 rfl) rfl
theorem q228 : (Jvm.Cond.selects "java/lang/ArrayIndexOutOfBoundsException" ({ cls := "java/lang/Throwable", name := "fillInStackTrace", desc := "()Ljava/lang/Throwable;" } : Jvm.MethodName) ({ cls := "java/lang/Throwable", name := "fillInStackTrace", desc := "()Ljava/lang/Throwable;" } : Jvm.MethodName)) ∈ lw_all := lw_g (lw_at lw_m1 117 rfl) rfl
theorem q993 : (Jvm.Cond.selects "java/lang/ArrayIndexOutOfBoundsException" ({ cls := "java/lang/Object", name := "getClass", desc := "()Ljava/lang/Class;" } : Jvm.MethodName) ({ cls := "java/lang/Object", name := "getClass", desc := "()Ljava/lang/Class;" } : Jvm.MethodName)) ∈ lw_all := lw_g (lw_at lw_m4 162 rfl) rfl
theorem q1640 : (Jvm.Cond.selects "java/lang/ArrayIndexOutOfBoundsException" ({ cls := "java/lang/Throwable", name := "toString", desc := "()Ljava/lang/String;" } : Jvm.MethodName) ({ cls := "java/lang/Throwable", name := "toString", desc := "()Ljava/lang/String;" } : Jvm.MethodName)) ∈ lw_all := lw_g (lw_at lw_m7 89 rfl) rfl
theorem q1651 : (Jvm.Cond.selects "java/lang/ArrayIndexOutOfBoundsException" ({ cls := "java/lang/Throwable", name := "getLocalizedMessage", desc := "()Ljava/lang/String;" } : Jvm.MethodName) ({ cls := "java/lang/Throwable", name := "getLocalizedMessage", desc := "()Ljava/lang/String;" } : Jvm.MethodName)) ∈ lw_all := lw_g (lw_at lw_m7 100 rfl) rfl
theorem q1661 : (Jvm.Cond.selects "java/lang/ArrayIndexOutOfBoundsException" ({ cls := "java/lang/Throwable", name := "getMessage", desc := "()Ljava/lang/String;" } : Jvm.MethodName) ({ cls := "java/lang/Throwable", name := "getMessage", desc := "()Ljava/lang/String;" } : Jvm.MethodName)) ∈ lw_all := lw_g (lw_at lw_m7 110 rfl) rfl
theorem q1866 : (Jvm.Cond.instantiable "java/lang/ArrayIndexOutOfBoundsException" (6 : Nat)) ∈ lw_all := lw_g (lw_at lw_m8 75 rfl) rfl
theorem q1867 : (Jvm.Cond.castable "java/lang/ArrayIndexOutOfBoundsException" "java/lang/ArrayIndexOutOfBoundsException") ∈ lw_tbl := lw_at lw_m8 76 rfl
theorem q1870 : (Jvm.Cond.selects "java/lang/ArrayIndexOutOfBoundsException" ({ cls := "java/lang/Throwable", name := "fillInStackTrace", desc := "(I)Ljava/lang/Throwable;" } : Jvm.MethodName) ({ cls := "java/lang/Throwable", name := "fillInStackTrace", desc := "(I)Ljava/lang/Throwable;" } : Jvm.MethodName)) ∈ lw_all := lw_g (lw_at lw_m8 79 rfl) rfl
theorem q1871 : (Jvm.Cond.lays "java/lang/ArrayIndexOutOfBoundsException" "java/lang/Throwable" "cause" "Ljava/lang/Throwable;") ∈ lw_all := lw_g (lw_at lw_m8 80 rfl) rfl
theorem q1872 : (Jvm.Cond.lays "java/lang/ArrayIndexOutOfBoundsException" "java/lang/Throwable" "stackTrace" "[Ljava/lang/StackTraceElement;") ∈ lw_all := lw_g (lw_at lw_m8 81 rfl) rfl
theorem q1873 : (Jvm.Cond.lays "java/lang/ArrayIndexOutOfBoundsException" "java/lang/Throwable" "suppressedExceptions" "Ljava/util/List;") ∈ lw_all := lw_g (lw_at lw_m8 82 rfl) rfl
theorem q1874 : (Jvm.Cond.lays "java/lang/ArrayIndexOutOfBoundsException" "java/lang/Throwable" "detailMessage" "Ljava/lang/String;") ∈ lw_all := lw_g (lw_at lw_m8 83 rfl) rfl
theorem q1875 : (Jvm.Cond.lays "java/lang/ArrayIndexOutOfBoundsException" "java/lang/Throwable" "backtrace" "Ljava/lang/Object;") ∈ lw_all := lw_g (lw_at lw_m8 84 rfl) rfl
theorem q1877 : (Jvm.Cond.instanceMethod ({ cls := "java/lang/ArrayIndexOutOfBoundsException", name := "<init>", desc := "(I)V" } : Jvm.MethodName)) ∈ lw_all := lw_g (lw_at lw_m8 86 rfl) rfl
theorem q1878 : (Jvm.Cond.code ({ cls := "java/lang/ArrayIndexOutOfBoundsException", name := "<init>", desc := "(I)V" } : Jvm.MethodName) prog_21_method_3_code (2 : Nat) (Option.none : Option Jvm.ClassFile.FieldType)) ∈ lw_all := lw_g (lw_at lw_m8 87 rfl) rfl
theorem q1879 : (Jvm.Cond.classLink "java/lang/ArrayIndexOutOfBoundsException" (10 : Nat) "java/lang/StringBuilder") ∈ lw_all := lw_g (lw_at lw_m8 88 rfl) rfl
theorem q1880 : (Jvm.Cond.methodLink "java/lang/ArrayIndexOutOfBoundsException" (12 : Nat) ({ cls := "java/lang/StringBuilder", name := "<init>", desc := "()V" } : Jvm.MethodName)) ∈ lw_all := lw_g (lw_at lw_m8 89 rfl) rfl
theorem q1881 : (Jvm.Cond.stringRef "java/lang/ArrayIndexOutOfBoundsException" (13 : Nat) "Array index out of range: ") ∈ lw_tbl := lw_at lw_m8 90 rfl
theorem q1882 : (Jvm.Cond.methodLink "java/lang/ArrayIndexOutOfBoundsException" (15 : Nat) ({ cls := "java/lang/StringBuilder", name := "append", desc := "(Ljava/lang/String;)Ljava/lang/StringBuilder;" } : Jvm.MethodName)) ∈ lw_all := lw_g (lw_at lw_m8 91 rfl) rfl
theorem q1883 : (Jvm.Cond.methodLink "java/lang/ArrayIndexOutOfBoundsException" (19 : Nat) ({ cls := "java/lang/StringBuilder", name := "append", desc := "(I)Ljava/lang/StringBuilder;" } : Jvm.MethodName)) ∈ lw_all := lw_g (lw_at lw_m8 92 rfl) rfl
theorem q1884 : (Jvm.Cond.methodLink "java/lang/ArrayIndexOutOfBoundsException" (22 : Nat) ({ cls := "java/lang/StringBuilder", name := "toString", desc := "()Ljava/lang/String;" } : Jvm.MethodName)) ∈ lw_all := lw_g (lw_at lw_m8 93 rfl) rfl
theorem q1885 : (Jvm.Cond.methodLink "java/lang/ArrayIndexOutOfBoundsException" (7 : Nat) ({ cls := "java/lang/IndexOutOfBoundsException", name := "<init>", desc := "(Ljava/lang/String;)V" } : Jvm.MethodName)) ∈ lw_all := lw_g (lw_at lw_m8 94 rfl) rfl
theorem q1886 : (Jvm.Cond.lays "java/lang/ArrayIndexOutOfBoundsException" "java/lang/Throwable" "depth" "I") ∈ lw_all := lw_g (lw_at lw_m8 95 rfl) rfl
theorem q1887 : (Jvm.Cond.superclass "java/lang/ArrayIndexOutOfBoundsException" "java/lang/IndexOutOfBoundsException") ∈ lw_all := lw_g (lw_at lw_m8 96 rfl) rfl
theorem q1942 : (Jvm.Cond.instanceMethod ({ cls := "java/lang/ArrayIndexOutOfBoundsException", name := "<init>", desc := "(Ljava/lang/String;)V" } : Jvm.MethodName)) ∈ lw_all := lw_g (lw_at lw_m8 151 rfl) rfl
theorem q1943 : (Jvm.Cond.code ({ cls := "java/lang/ArrayIndexOutOfBoundsException", name := "<init>", desc := "(Ljava/lang/String;)V" } : Jvm.MethodName) prog_21_method_2_code (2 : Nat) (Option.none : Option Jvm.ClassFile.FieldType)) ∈ lw_all := lw_g (lw_at lw_m8 152 rfl) rfl
theorem q3054 : (Jvm.Cond.castable "java/lang/ArrayIndexOutOfBoundsException" "java/lang/IndexOutOfBoundsException") ∈ lw_tbl := lw_at lw_m13 63 rfl
theorem q3073 : (Jvm.Cond.castable "java/lang/ArrayIndexOutOfBoundsException" "java/lang/Object") ∈ lw_tbl := lw_at lw_m13 82 rfl
theorem in_J29 : ∀ w ∈ wsJ290, w ∈ lw_all := lw_in wsJ290 [1871, 1872, 1873, 1874, 1875, 1886] (by decide +kernel) (by decide +kernel)
/-! java/util/AbstractSequentialList -/
set_option maxRecDepth 100000
def RJ30 : String := "java/util/AbstractSequentialList"
abbrev cJ30_iterator : ByteArray := prog_49_method_7_code
def yJ30_iterator : MethodName := ⟨RJ30, "iterator", "()Ljava/util/Iterator;"⟩
theorem dJ30_iterator_0 : decode cJ30_iterator 0 = .ok (.aload_n 0, 1) := by decide +kernel
theorem dJ30_iterator_1 : decode cJ30_iterator 1 = .ok (.invokevirtual 65, 3) := by decide +kernel
theorem dJ30_iterator_4 : decode cJ30_iterator 4 = .ok (.areturn, 1) := by decide +kernel
abbrev cJ30_init : ByteArray := prog_49_method_1_code
def yJ30_init : MethodName := ⟨RJ30, "<init>", "()V"⟩
theorem dJ30_init_0 : decode cJ30_init 0 = .ok (.aload_n 0, 1) := by decide +kernel
theorem dJ30_init_1 : decode cJ30_init 1 = .ok (.invokespecial 1, 3) := by decide +kernel
theorem dJ30_init_4 : decode cJ30_init 4 = .ok (.return_, 1) := by decide +kernel
theorem q155 : (Jvm.Cond.initialized "java/util/AbstractSequentialList") ∈ lw_all := lw_g (lw_at lw_m1 44 rfl) rfl
theorem q1463 : (Jvm.Cond.instanceMethod ({ cls := "java/util/AbstractSequentialList", name := "iterator", desc := "()Ljava/util/Iterator;" } : Jvm.MethodName)) ∈ lw_all := lw_g (lw_at lw_m6 152 rfl) rfl
theorem q1464 : (Jvm.Cond.publicMethod ({ cls := "java/util/AbstractSequentialList", name := "iterator", desc := "()Ljava/util/Iterator;" } : Jvm.MethodName)) ∈ lw_tbl := lw_at lw_m6 153 rfl
theorem q1465 : (Jvm.Cond.code ({ cls := "java/util/AbstractSequentialList", name := "iterator", desc := "()Ljava/util/Iterator;" } : Jvm.MethodName) prog_49_method_7_code (1 : Nat) (Option.some (Jvm.ClassFile.FieldType.object "java/util/Iterator"))) ∈ lw_all := lw_g (lw_at lw_m6 154 rfl) rfl
theorem q1466 : (Jvm.Cond.methodLink "java/util/AbstractSequentialList" (65 : Nat) ({ cls := "java/util/AbstractSequentialList", name := "listIterator", desc := "()Ljava/util/ListIterator;" } : Jvm.MethodName)) ∈ lw_all := lw_g (lw_at lw_m6 155 rfl) rfl
theorem q1467 : (Jvm.Cond.sameMethod "java/util/AbstractSequentialList" "java/util/AbstractList" "listIterator" "()Ljava/util/ListIterator;") ∈ lw_all := lw_g (lw_at lw_m6 156 rfl) rfl
theorem q2054 : (Jvm.Cond.instanceMethod ({ cls := "java/util/AbstractSequentialList", name := "<init>", desc := "()V" } : Jvm.MethodName)) ∈ lw_all := lw_g (lw_at lw_m9 23 rfl) rfl
theorem q2055 : (Jvm.Cond.code ({ cls := "java/util/AbstractSequentialList", name := "<init>", desc := "()V" } : Jvm.MethodName) prog_49_method_1_code (1 : Nat) (Option.none : Option Jvm.ClassFile.FieldType)) ∈ lw_all := lw_g (lw_at lw_m9 24 rfl) rfl
theorem q2056 : (Jvm.Cond.methodLink "java/util/AbstractSequentialList" (1 : Nat) ({ cls := "java/util/AbstractList", name := "<init>", desc := "()V" } : Jvm.MethodName)) ∈ lw_all := lw_g (lw_at lw_m9 25 rfl) rfl
theorem q2405 : (Jvm.Cond.declares ({ cls := "java/util/AbstractSequentialList", name := "iterator", desc := "()Ljava/util/Iterator;" } : Jvm.MethodName)) ∈ lw_tbl := lw_at lw_m10 134 rfl
/-! java/util/LinkedList -/
set_option maxRecDepth 100000
def RJ31 : String := "java/util/LinkedList"
def TJ31 : u_T := fun k => match k with
  | 0 => ("java/util/AbstractList", "modCount", "I", false)
  | 1 => ("java/util/LinkedList", "size", "I", false)
  | 2 => ("java/util/LinkedList", "first", "Ljava/util/LinkedList$Node;", false)
  | _ => ("java/util/LinkedList", "last", "Ljava/util/LinkedList$Node;", false)
def tyJ31 : Nat → FieldType := fun k => match k with
  | 0 => .int
  | 1 => .int
  | 2 => .object "java/util/LinkedList$Node"
  | _ => .object "java/util/LinkedList$Node"
abbrev wsJ310 : List Cond := u_ws RJ31 TJ31 4
theorem nmJ31 : ∀ a, a < 4 → ∀ b, b < 4 → a ≠ b → (TJ31 a).2.1 ≠ (TJ31 b).2.1 := by decide +kernel
theorem tyJ31_ok : ∀ k, k < 4 → parseFieldDescriptor (TJ31 k).2.2.1 = some (tyJ31 k) := by decide +kernel
abbrev cJ31_size : ByteArray := prog_60_method_16_code
def yJ31_size : MethodName := ⟨RJ31, "size", "()I"⟩
theorem dJ31_size_0 : decode cJ31_size 0 = .ok (.aload_n 0, 1) := by decide +kernel
theorem dJ31_size_1 : decode cJ31_size 1 = .ok (.getfield 7, 3) := by decide +kernel
theorem dJ31_size_4 : decode cJ31_size 4 = .ok (.ireturn, 1) := by decide +kernel
abbrev cJ31_add : ByteArray := prog_60_method_17_code
def yJ31_add : MethodName := ⟨RJ31, "add", "(Ljava/lang/Object;)Z"⟩
def dkwJ31_add_0 : List UInt8 := [42, 43, 182, 0, 57, 4, 172]
abbrev dktJ31_add_0 : List UInt8 := dkwJ31_add_0 ++ []
theorem dksJ31_add_0 : cJ31_add.data.toList.drop 0 = dktJ31_add_0 := by decide +kernel
theorem dJ31_add_0 : decode cJ31_add 0 = .ok (.aload_n 0, 1) := dk_42 (dk_at dksJ31_add_0 0 rfl rfl)
theorem dJ31_add_1 : decode cJ31_add 1 = .ok (.aload_n 1, 1) := dk_43 (dk_at dksJ31_add_0 1 rfl rfl)
theorem dJ31_add_2 : decode cJ31_add 2 = .ok (.invokevirtual 57, 3) := dk_182 0 57 (dk_at dksJ31_add_0 2 rfl rfl)
theorem dJ31_add_5 : decode cJ31_add 5 = .ok (.iconst 1, 1) := dk_4 (dk_at dksJ31_add_0 5 rfl rfl)
theorem dJ31_add_6 : decode cJ31_add 6 = .ok (.ireturn, 1) := dk_172 (dk_at dksJ31_add_0 6 rfl rfl)
abbrev cJ31_linkLast : ByteArray := prog_60_method_4_code
def yJ31_linkLast : MethodName := ⟨RJ31, "linkLast", "(Ljava/lang/Object;)V"⟩
def dkwJ31_linkLast_2 : List UInt8 := [181, 0, 7, 42, 89, 180, 0, 33, 4, 96, 181, 0, 33, 177]
abbrev dktJ31_linkLast_2 : List UInt8 := dkwJ31_linkLast_2 ++ []
def dkwJ31_linkLast_1 : List UInt8 := [199, 0, 11, 42, 45, 181, 0, 18, 167, 0, 8, 44, 45, 181, 0, 36, 42, 89, 180, 0, 7, 4, 96]
abbrev dktJ31_linkLast_1 : List UInt8 := dkwJ31_linkLast_1 ++ dktJ31_linkLast_2
def dkwJ31_linkLast_0 : List UInt8 := [42, 180, 0, 27, 77, 187, 0, 22, 89, 44, 43, 1, 183, 0, 24, 78, 42, 45, 181, 0, 27, 44]
abbrev dktJ31_linkLast_0 : List UInt8 := dkwJ31_linkLast_0 ++ dktJ31_linkLast_1
theorem dksJ31_linkLast_0 : cJ31_linkLast.data.toList.drop 0 = dktJ31_linkLast_0 := by decide +kernel
theorem dksJ31_linkLast_1 : cJ31_linkLast.data.toList.drop 22 = dktJ31_linkLast_1 := dk_seg dksJ31_linkLast_0 22 rfl rfl
theorem dksJ31_linkLast_2 : cJ31_linkLast.data.toList.drop 45 = dktJ31_linkLast_2 := dk_seg dksJ31_linkLast_1 23 rfl rfl
theorem dJ31_linkLast_0 : decode cJ31_linkLast 0 = .ok (.aload_n 0, 1) := dk_42 (dk_at dksJ31_linkLast_0 0 rfl rfl)
theorem dJ31_linkLast_1 : decode cJ31_linkLast 1 = .ok (.getfield 27, 3) := dk_180 0 27 (dk_at dksJ31_linkLast_0 1 rfl rfl)
theorem dJ31_linkLast_4 : decode cJ31_linkLast 4 = .ok (.astore_n 2, 1) := dk_77 (dk_at dksJ31_linkLast_0 4 rfl rfl)
theorem dJ31_linkLast_5 : decode cJ31_linkLast 5 = .ok (.new 22, 3) := dk_187 0 22 (dk_at dksJ31_linkLast_0 5 rfl rfl)
theorem dJ31_linkLast_8 : decode cJ31_linkLast 8 = .ok (.dup, 1) := dk_89 (dk_at dksJ31_linkLast_0 8 rfl rfl)
theorem dJ31_linkLast_9 : decode cJ31_linkLast 9 = .ok (.aload_n 2, 1) := dk_44 (dk_at dksJ31_linkLast_0 9 rfl rfl)
theorem dJ31_linkLast_10 : decode cJ31_linkLast 10 = .ok (.aload_n 1, 1) := dk_43 (dk_at dksJ31_linkLast_0 10 rfl rfl)
theorem dJ31_linkLast_11 : decode cJ31_linkLast 11 = .ok (.aconst_null, 1) := dk_1 (dk_at dksJ31_linkLast_0 11 rfl rfl)
theorem dJ31_linkLast_12 : decode cJ31_linkLast 12 = .ok (.invokespecial 24, 3) := dk_183 0 24 (dk_at dksJ31_linkLast_0 12 rfl rfl)
theorem dJ31_linkLast_15 : decode cJ31_linkLast 15 = .ok (.astore_n 3, 1) := dk_78 (dk_at dksJ31_linkLast_0 15 rfl rfl)
theorem dJ31_linkLast_16 : decode cJ31_linkLast 16 = .ok (.aload_n 0, 1) := dk_42 (dk_at dksJ31_linkLast_0 16 rfl rfl)
theorem dJ31_linkLast_17 : decode cJ31_linkLast 17 = .ok (.aload_n 3, 1) := dk_45 (dk_at dksJ31_linkLast_0 17 rfl rfl)
theorem dJ31_linkLast_18 : decode cJ31_linkLast 18 = .ok (.putfield 27, 3) := dk_181 0 27 (dk_at dksJ31_linkLast_0 18 rfl rfl)
theorem dJ31_linkLast_21 : decode cJ31_linkLast 21 = .ok (.aload_n 2, 1) := dk_44 (dk_at dksJ31_linkLast_0 21 rfl rfl)
theorem dJ31_linkLast_22 : decode cJ31_linkLast 22 = .ok (.ifnonnull 11, 3) := dk_199 0 11 (dk_at dksJ31_linkLast_1 0 rfl rfl)
theorem dJ31_linkLast_25 : decode cJ31_linkLast 25 = .ok (.aload_n 0, 1) := dk_42 (dk_at dksJ31_linkLast_1 3 rfl rfl)
theorem dJ31_linkLast_26 : decode cJ31_linkLast 26 = .ok (.aload_n 3, 1) := dk_45 (dk_at dksJ31_linkLast_1 4 rfl rfl)
theorem dJ31_linkLast_27 : decode cJ31_linkLast 27 = .ok (.putfield 18, 3) := dk_181 0 18 (dk_at dksJ31_linkLast_1 5 rfl rfl)
theorem dJ31_linkLast_30 : decode cJ31_linkLast 30 = .ok (.goto 8, 3) := dk_167 0 8 (dk_at dksJ31_linkLast_1 8 rfl rfl)
theorem dJ31_linkLast_33 : decode cJ31_linkLast 33 = .ok (.aload_n 2, 1) := dk_44 (dk_at dksJ31_linkLast_1 11 rfl rfl)
theorem dJ31_linkLast_34 : decode cJ31_linkLast 34 = .ok (.aload_n 3, 1) := dk_45 (dk_at dksJ31_linkLast_1 12 rfl rfl)
theorem dJ31_linkLast_35 : decode cJ31_linkLast 35 = .ok (.putfield 36, 3) := dk_181 0 36 (dk_at dksJ31_linkLast_1 13 rfl rfl)
theorem dJ31_linkLast_38 : decode cJ31_linkLast 38 = .ok (.aload_n 0, 1) := dk_42 (dk_at dksJ31_linkLast_1 16 rfl rfl)
theorem dJ31_linkLast_39 : decode cJ31_linkLast 39 = .ok (.dup, 1) := dk_89 (dk_at dksJ31_linkLast_1 17 rfl rfl)
theorem dJ31_linkLast_40 : decode cJ31_linkLast 40 = .ok (.getfield 7, 3) := dk_180 0 7 (dk_at dksJ31_linkLast_1 18 rfl rfl)
theorem dJ31_linkLast_43 : decode cJ31_linkLast 43 = .ok (.iconst 1, 1) := dk_4 (dk_at dksJ31_linkLast_1 21 rfl rfl)
theorem dJ31_linkLast_44 : decode cJ31_linkLast 44 = .ok (.iadd, 1) := dk_96 (dk_at dksJ31_linkLast_1 22 rfl rfl)
theorem dJ31_linkLast_45 : decode cJ31_linkLast 45 = .ok (.putfield 7, 3) := dk_181 0 7 (dk_at dksJ31_linkLast_2 0 rfl rfl)
theorem dJ31_linkLast_48 : decode cJ31_linkLast 48 = .ok (.aload_n 0, 1) := dk_42 (dk_at dksJ31_linkLast_2 3 rfl rfl)
theorem dJ31_linkLast_49 : decode cJ31_linkLast 49 = .ok (.dup, 1) := dk_89 (dk_at dksJ31_linkLast_2 4 rfl rfl)
theorem dJ31_linkLast_50 : decode cJ31_linkLast 50 = .ok (.getfield 33, 3) := dk_180 0 33 (dk_at dksJ31_linkLast_2 5 rfl rfl)
theorem dJ31_linkLast_53 : decode cJ31_linkLast 53 = .ok (.iconst 1, 1) := dk_4 (dk_at dksJ31_linkLast_2 8 rfl rfl)
theorem dJ31_linkLast_54 : decode cJ31_linkLast 54 = .ok (.iadd, 1) := dk_96 (dk_at dksJ31_linkLast_2 9 rfl rfl)
theorem dJ31_linkLast_55 : decode cJ31_linkLast 55 = .ok (.putfield 33, 3) := dk_181 0 33 (dk_at dksJ31_linkLast_2 10 rfl rfl)
theorem dJ31_linkLast_58 : decode cJ31_linkLast 58 = .ok (.return_, 1) := dk_177 (dk_at dksJ31_linkLast_2 13 rfl rfl)
abbrev cJ31_get : ByteArray := prog_60_method_22_code
def yJ31_get : MethodName := ⟨RJ31, "get", "(I)Ljava/lang/Object;"⟩
def dkwJ31_get_0 : List UInt8 := [42, 27, 182, 0, 90, 42, 27, 182, 0, 86, 180, 0, 39, 176]
abbrev dktJ31_get_0 : List UInt8 := dkwJ31_get_0 ++ []
theorem dksJ31_get_0 : cJ31_get.data.toList.drop 0 = dktJ31_get_0 := by decide +kernel
theorem dJ31_get_0 : decode cJ31_get 0 = .ok (.aload_n 0, 1) := dk_42 (dk_at dksJ31_get_0 0 rfl rfl)
theorem dJ31_get_1 : decode cJ31_get 1 = .ok (.iload_n 1, 1) := dk_27 (dk_at dksJ31_get_0 1 rfl rfl)
theorem dJ31_get_2 : decode cJ31_get 2 = .ok (.invokevirtual 90, 3) := dk_182 0 90 (dk_at dksJ31_get_0 2 rfl rfl)
theorem dJ31_get_5 : decode cJ31_get 5 = .ok (.aload_n 0, 1) := dk_42 (dk_at dksJ31_get_0 5 rfl rfl)
theorem dJ31_get_6 : decode cJ31_get 6 = .ok (.iload_n 1, 1) := dk_27 (dk_at dksJ31_get_0 6 rfl rfl)
theorem dJ31_get_7 : decode cJ31_get 7 = .ok (.invokevirtual 86, 3) := dk_182 0 86 (dk_at dksJ31_get_0 7 rfl rfl)
theorem dJ31_get_10 : decode cJ31_get 10 = .ok (.getfield 39, 3) := dk_180 0 39 (dk_at dksJ31_get_0 10 rfl rfl)
theorem dJ31_get_13 : decode cJ31_get 13 = .ok (.areturn, 1) := dk_176 (dk_at dksJ31_get_0 13 rfl rfl)
abbrev cJ31_checkElementIndex : ByteArray := prog_60_method_29_code
def yJ31_checkElementIndex : MethodName := ⟨RJ31, "checkElementIndex", "(I)V"⟩
def dkwJ31_checkElementIndex_0 : List UInt8 := [42, 27, 182, 0, 115, 154, 0, 16, 187, 0, 119, 89, 42, 27, 182, 0, 121, 183, 0, 125, 191, 177]
abbrev dktJ31_checkElementIndex_0 : List UInt8 := dkwJ31_checkElementIndex_0 ++ []
theorem dksJ31_checkElementIndex_0 : cJ31_checkElementIndex.data.toList.drop 0 = dktJ31_checkElementIndex_0 := by decide +kernel
theorem dJ31_checkElementIndex_0 : decode cJ31_checkElementIndex 0 = .ok (.aload_n 0, 1) := dk_42 (dk_at dksJ31_checkElementIndex_0 0 rfl rfl)
theorem dJ31_checkElementIndex_1 : decode cJ31_checkElementIndex 1 = .ok (.iload_n 1, 1) := dk_27 (dk_at dksJ31_checkElementIndex_0 1 rfl rfl)
theorem dJ31_checkElementIndex_2 : decode cJ31_checkElementIndex 2 = .ok (.invokevirtual 115, 3) := dk_182 0 115 (dk_at dksJ31_checkElementIndex_0 2 rfl rfl)
theorem dJ31_checkElementIndex_5 : decode cJ31_checkElementIndex 5 = .ok (.ifCond .ne 16, 3) := dk_154 0 16 (dk_at dksJ31_checkElementIndex_0 5 rfl rfl)
theorem dJ31_checkElementIndex_8 : decode cJ31_checkElementIndex 8 = .ok (.new 119, 3) := dk_187 0 119 (dk_at dksJ31_checkElementIndex_0 8 rfl rfl)
theorem dJ31_checkElementIndex_11 : decode cJ31_checkElementIndex 11 = .ok (.dup, 1) := dk_89 (dk_at dksJ31_checkElementIndex_0 11 rfl rfl)
theorem dJ31_checkElementIndex_12 : decode cJ31_checkElementIndex 12 = .ok (.aload_n 0, 1) := dk_42 (dk_at dksJ31_checkElementIndex_0 12 rfl rfl)
theorem dJ31_checkElementIndex_13 : decode cJ31_checkElementIndex 13 = .ok (.iload_n 1, 1) := dk_27 (dk_at dksJ31_checkElementIndex_0 13 rfl rfl)
theorem dJ31_checkElementIndex_14 : decode cJ31_checkElementIndex 14 = .ok (.invokevirtual 121, 3) := dk_182 0 121 (dk_at dksJ31_checkElementIndex_0 14 rfl rfl)
theorem dJ31_checkElementIndex_17 : decode cJ31_checkElementIndex 17 = .ok (.invokespecial 125, 3) := dk_183 0 125 (dk_at dksJ31_checkElementIndex_0 17 rfl rfl)
theorem dJ31_checkElementIndex_20 : decode cJ31_checkElementIndex 20 = .ok (.athrow, 1) := dk_191 (dk_at dksJ31_checkElementIndex_0 20 rfl rfl)
theorem dJ31_checkElementIndex_21 : decode cJ31_checkElementIndex 21 = .ok (.return_, 1) := dk_177 (dk_at dksJ31_checkElementIndex_0 21 rfl rfl)
abbrev cJ31_isElementIndex : ByteArray := prog_60_method_26_code
def yJ31_isElementIndex : MethodName := ⟨RJ31, "isElementIndex", "(I)Z"⟩
def dkwJ31_isElementIndex_0 : List UInt8 := [27, 155, 0, 15, 27, 42, 180, 0, 7, 162, 0, 7, 4, 167, 0, 4, 3, 172]
abbrev dktJ31_isElementIndex_0 : List UInt8 := dkwJ31_isElementIndex_0 ++ []
theorem dksJ31_isElementIndex_0 : cJ31_isElementIndex.data.toList.drop 0 = dktJ31_isElementIndex_0 := by decide +kernel
theorem dJ31_isElementIndex_0 : decode cJ31_isElementIndex 0 = .ok (.iload_n 1, 1) := dk_27 (dk_at dksJ31_isElementIndex_0 0 rfl rfl)
theorem dJ31_isElementIndex_1 : decode cJ31_isElementIndex 1 = .ok (.ifCond .lt 15, 3) := dk_155 0 15 (dk_at dksJ31_isElementIndex_0 1 rfl rfl)
theorem dJ31_isElementIndex_4 : decode cJ31_isElementIndex 4 = .ok (.iload_n 1, 1) := dk_27 (dk_at dksJ31_isElementIndex_0 4 rfl rfl)
theorem dJ31_isElementIndex_5 : decode cJ31_isElementIndex 5 = .ok (.aload_n 0, 1) := dk_42 (dk_at dksJ31_isElementIndex_0 5 rfl rfl)
theorem dJ31_isElementIndex_6 : decode cJ31_isElementIndex 6 = .ok (.getfield 7, 3) := dk_180 0 7 (dk_at dksJ31_isElementIndex_0 6 rfl rfl)
theorem dJ31_isElementIndex_9 : decode cJ31_isElementIndex 9 = .ok (.if_icmp .ge 7, 3) := dk_162 0 7 (dk_at dksJ31_isElementIndex_0 9 rfl rfl)
theorem dJ31_isElementIndex_12 : decode cJ31_isElementIndex 12 = .ok (.iconst 1, 1) := dk_4 (dk_at dksJ31_isElementIndex_0 12 rfl rfl)
theorem dJ31_isElementIndex_13 : decode cJ31_isElementIndex 13 = .ok (.goto 4, 3) := dk_167 0 4 (dk_at dksJ31_isElementIndex_0 13 rfl rfl)
theorem dJ31_isElementIndex_16 : decode cJ31_isElementIndex 16 = .ok (.iconst 0, 1) := dk_3 (dk_at dksJ31_isElementIndex_0 16 rfl rfl)
theorem dJ31_isElementIndex_17 : decode cJ31_isElementIndex 17 = .ok (.ireturn, 1) := dk_172 (dk_at dksJ31_isElementIndex_0 17 rfl rfl)
abbrev cJ31_outOfBoundsMsg : ByteArray := prog_60_method_28_code
def yJ31_outOfBoundsMsg : MethodName := ⟨RJ31, "outOfBoundsMsg", "(I)Ljava/lang/String;"⟩
def dkwJ31_outOfBoundsMsg_1 : List UInt8 := [180, 0, 7, 182, 0, 106, 182, 0, 111, 176]
abbrev dktJ31_outOfBoundsMsg_1 : List UInt8 := dkwJ31_outOfBoundsMsg_1 ++ []
def dkwJ31_outOfBoundsMsg_0 : List UInt8 := [187, 0, 97, 89, 183, 0, 99, 18, 100, 182, 0, 102, 27, 182, 0, 106, 18, 109, 182, 0, 102, 42]
abbrev dktJ31_outOfBoundsMsg_0 : List UInt8 := dkwJ31_outOfBoundsMsg_0 ++ dktJ31_outOfBoundsMsg_1
theorem dksJ31_outOfBoundsMsg_0 : cJ31_outOfBoundsMsg.data.toList.drop 0 = dktJ31_outOfBoundsMsg_0 := by decide +kernel
theorem dksJ31_outOfBoundsMsg_1 : cJ31_outOfBoundsMsg.data.toList.drop 22 = dktJ31_outOfBoundsMsg_1 := dk_seg dksJ31_outOfBoundsMsg_0 22 rfl rfl
theorem dJ31_outOfBoundsMsg_0 : decode cJ31_outOfBoundsMsg 0 = .ok (.new 97, 3) := dk_187 0 97 (dk_at dksJ31_outOfBoundsMsg_0 0 rfl rfl)
theorem dJ31_outOfBoundsMsg_3 : decode cJ31_outOfBoundsMsg 3 = .ok (.dup, 1) := dk_89 (dk_at dksJ31_outOfBoundsMsg_0 3 rfl rfl)
theorem dJ31_outOfBoundsMsg_4 : decode cJ31_outOfBoundsMsg 4 = .ok (.invokespecial 99, 3) := dk_183 0 99 (dk_at dksJ31_outOfBoundsMsg_0 4 rfl rfl)
theorem dJ31_outOfBoundsMsg_7 : decode cJ31_outOfBoundsMsg 7 = .ok (.ldc 100, 2) := dk_18 100 (dk_at dksJ31_outOfBoundsMsg_0 7 rfl rfl)
theorem dJ31_outOfBoundsMsg_9 : decode cJ31_outOfBoundsMsg 9 = .ok (.invokevirtual 102, 3) := dk_182 0 102 (dk_at dksJ31_outOfBoundsMsg_0 9 rfl rfl)
theorem dJ31_outOfBoundsMsg_12 : decode cJ31_outOfBoundsMsg 12 = .ok (.iload_n 1, 1) := dk_27 (dk_at dksJ31_outOfBoundsMsg_0 12 rfl rfl)
theorem dJ31_outOfBoundsMsg_13 : decode cJ31_outOfBoundsMsg 13 = .ok (.invokevirtual 106, 3) := dk_182 0 106 (dk_at dksJ31_outOfBoundsMsg_0 13 rfl rfl)
theorem dJ31_outOfBoundsMsg_16 : decode cJ31_outOfBoundsMsg 16 = .ok (.ldc 109, 2) := dk_18 109 (dk_at dksJ31_outOfBoundsMsg_0 16 rfl rfl)
theorem dJ31_outOfBoundsMsg_18 : decode cJ31_outOfBoundsMsg 18 = .ok (.invokevirtual 102, 3) := dk_182 0 102 (dk_at dksJ31_outOfBoundsMsg_0 18 rfl rfl)
theorem dJ31_outOfBoundsMsg_21 : decode cJ31_outOfBoundsMsg 21 = .ok (.aload_n 0, 1) := dk_42 (dk_at dksJ31_outOfBoundsMsg_0 21 rfl rfl)
theorem dJ31_outOfBoundsMsg_22 : decode cJ31_outOfBoundsMsg 22 = .ok (.getfield 7, 3) := dk_180 0 7 (dk_at dksJ31_outOfBoundsMsg_1 0 rfl rfl)
theorem dJ31_outOfBoundsMsg_25 : decode cJ31_outOfBoundsMsg 25 = .ok (.invokevirtual 106, 3) := dk_182 0 106 (dk_at dksJ31_outOfBoundsMsg_1 3 rfl rfl)
theorem dJ31_outOfBoundsMsg_28 : decode cJ31_outOfBoundsMsg 28 = .ok (.invokevirtual 111, 3) := dk_182 0 111 (dk_at dksJ31_outOfBoundsMsg_1 6 rfl rfl)
theorem dJ31_outOfBoundsMsg_31 : decode cJ31_outOfBoundsMsg 31 = .ok (.areturn, 1) := dk_176 (dk_at dksJ31_outOfBoundsMsg_1 9 rfl rfl)
abbrev cJ31_node : ByteArray := prog_60_method_31_code
def yJ31_node : MethodName := ⟨RJ31, "node", "(I)Ljava/util/LinkedList$Node;"⟩
def dkwJ31_node_2 : List UInt8 := [29, 27, 164, 0, 14, 44, 180, 0, 30, 77, 132, 3, 255, 167, 255, 243, 44, 176]
abbrev dktJ31_node_2 : List UInt8 := dkwJ31_node_2 ++ []
def dkwJ31_node_1 : List UInt8 := [180, 0, 36, 77, 132, 3, 1, 167, 255, 243, 44, 176, 42, 180, 0, 27, 77, 42, 180, 0, 7, 4, 100, 62]
abbrev dktJ31_node_1 : List UInt8 := dkwJ31_node_1 ++ dktJ31_node_2
def dkwJ31_node_0 : List UInt8 := [27, 42, 180, 0, 7, 4, 122, 162, 0, 28, 42, 180, 0, 18, 77, 3, 62, 29, 27, 162, 0, 14, 44]
abbrev dktJ31_node_0 : List UInt8 := dkwJ31_node_0 ++ dktJ31_node_1
theorem dksJ31_node_0 : cJ31_node.data.toList.drop 0 = dktJ31_node_0 := by decide +kernel
theorem dksJ31_node_1 : cJ31_node.data.toList.drop 23 = dktJ31_node_1 := dk_seg dksJ31_node_0 23 rfl rfl
theorem dksJ31_node_2 : cJ31_node.data.toList.drop 47 = dktJ31_node_2 := dk_seg dksJ31_node_1 24 rfl rfl
theorem dJ31_node_0 : decode cJ31_node 0 = .ok (.iload_n 1, 1) := dk_27 (dk_at dksJ31_node_0 0 rfl rfl)
theorem dJ31_node_1 : decode cJ31_node 1 = .ok (.aload_n 0, 1) := dk_42 (dk_at dksJ31_node_0 1 rfl rfl)
theorem dJ31_node_2 : decode cJ31_node 2 = .ok (.getfield 7, 3) := dk_180 0 7 (dk_at dksJ31_node_0 2 rfl rfl)
theorem dJ31_node_5 : decode cJ31_node 5 = .ok (.iconst 1, 1) := dk_4 (dk_at dksJ31_node_0 5 rfl rfl)
theorem dJ31_node_6 : decode cJ31_node 6 = .ok (.ishr, 1) := dk_122 (dk_at dksJ31_node_0 6 rfl rfl)
theorem dJ31_node_7 : decode cJ31_node 7 = .ok (.if_icmp .ge 28, 3) := dk_162 0 28 (dk_at dksJ31_node_0 7 rfl rfl)
theorem dJ31_node_10 : decode cJ31_node 10 = .ok (.aload_n 0, 1) := dk_42 (dk_at dksJ31_node_0 10 rfl rfl)
theorem dJ31_node_11 : decode cJ31_node 11 = .ok (.getfield 18, 3) := dk_180 0 18 (dk_at dksJ31_node_0 11 rfl rfl)
theorem dJ31_node_14 : decode cJ31_node 14 = .ok (.astore_n 2, 1) := dk_77 (dk_at dksJ31_node_0 14 rfl rfl)
theorem dJ31_node_15 : decode cJ31_node 15 = .ok (.iconst 0, 1) := dk_3 (dk_at dksJ31_node_0 15 rfl rfl)
theorem dJ31_node_16 : decode cJ31_node 16 = .ok (.istore_n 3, 1) := dk_62 (dk_at dksJ31_node_0 16 rfl rfl)
theorem dJ31_node_17 : decode cJ31_node 17 = .ok (.iload_n 3, 1) := dk_29 (dk_at dksJ31_node_0 17 rfl rfl)
theorem dJ31_node_18 : decode cJ31_node 18 = .ok (.iload_n 1, 1) := dk_27 (dk_at dksJ31_node_0 18 rfl rfl)
theorem dJ31_node_19 : decode cJ31_node 19 = .ok (.if_icmp .ge 14, 3) := dk_162 0 14 (dk_at dksJ31_node_0 19 rfl rfl)
theorem dJ31_node_22 : decode cJ31_node 22 = .ok (.aload_n 2, 1) := dk_44 (dk_at dksJ31_node_0 22 rfl rfl)
theorem dJ31_node_23 : decode cJ31_node 23 = .ok (.getfield 36, 3) := dk_180 0 36 (dk_at dksJ31_node_1 0 rfl rfl)
theorem dJ31_node_26 : decode cJ31_node 26 = .ok (.astore_n 2, 1) := dk_77 (dk_at dksJ31_node_1 3 rfl rfl)
theorem dJ31_node_27 : decode cJ31_node 27 = .ok (.iinc 3 1, 3) := dk_132 3 1 (dk_at dksJ31_node_1 4 rfl rfl)
theorem dJ31_node_30 : decode cJ31_node 30 = .ok (.goto (-13), 3) := dk_167 255 243 (dk_at dksJ31_node_1 7 rfl rfl)
theorem dJ31_node_33 : decode cJ31_node 33 = .ok (.aload_n 2, 1) := dk_44 (dk_at dksJ31_node_1 10 rfl rfl)
theorem dJ31_node_34 : decode cJ31_node 34 = .ok (.areturn, 1) := dk_176 (dk_at dksJ31_node_1 11 rfl rfl)
theorem dJ31_node_35 : decode cJ31_node 35 = .ok (.aload_n 0, 1) := dk_42 (dk_at dksJ31_node_1 12 rfl rfl)
theorem dJ31_node_36 : decode cJ31_node 36 = .ok (.getfield 27, 3) := dk_180 0 27 (dk_at dksJ31_node_1 13 rfl rfl)
theorem dJ31_node_39 : decode cJ31_node 39 = .ok (.astore_n 2, 1) := dk_77 (dk_at dksJ31_node_1 16 rfl rfl)
theorem dJ31_node_40 : decode cJ31_node 40 = .ok (.aload_n 0, 1) := dk_42 (dk_at dksJ31_node_1 17 rfl rfl)
theorem dJ31_node_41 : decode cJ31_node 41 = .ok (.getfield 7, 3) := dk_180 0 7 (dk_at dksJ31_node_1 18 rfl rfl)
theorem dJ31_node_44 : decode cJ31_node 44 = .ok (.iconst 1, 1) := dk_4 (dk_at dksJ31_node_1 21 rfl rfl)
theorem dJ31_node_45 : decode cJ31_node 45 = .ok (.isub, 1) := dk_100 (dk_at dksJ31_node_1 22 rfl rfl)
theorem dJ31_node_46 : decode cJ31_node 46 = .ok (.istore_n 3, 1) := dk_62 (dk_at dksJ31_node_1 23 rfl rfl)
theorem dJ31_node_47 : decode cJ31_node 47 = .ok (.iload_n 3, 1) := dk_29 (dk_at dksJ31_node_2 0 rfl rfl)
theorem dJ31_node_48 : decode cJ31_node 48 = .ok (.iload_n 1, 1) := dk_27 (dk_at dksJ31_node_2 1 rfl rfl)
theorem dJ31_node_49 : decode cJ31_node 49 = .ok (.if_icmp .le 14, 3) := dk_164 0 14 (dk_at dksJ31_node_2 2 rfl rfl)
theorem dJ31_node_52 : decode cJ31_node 52 = .ok (.aload_n 2, 1) := dk_44 (dk_at dksJ31_node_2 5 rfl rfl)
theorem dJ31_node_53 : decode cJ31_node 53 = .ok (.getfield 30, 3) := dk_180 0 30 (dk_at dksJ31_node_2 6 rfl rfl)
theorem dJ31_node_56 : decode cJ31_node 56 = .ok (.astore_n 2, 1) := dk_77 (dk_at dksJ31_node_2 9 rfl rfl)
theorem dJ31_node_57 : decode cJ31_node 57 = .ok (.iinc 3 (-1), 3) := dk_132 3 255 (dk_at dksJ31_node_2 10 rfl rfl)
theorem dJ31_node_60 : decode cJ31_node 60 = .ok (.goto (-13), 3) := dk_167 255 243 (dk_at dksJ31_node_2 13 rfl rfl)
theorem dJ31_node_63 : decode cJ31_node 63 = .ok (.aload_n 2, 1) := dk_44 (dk_at dksJ31_node_2 16 rfl rfl)
theorem dJ31_node_64 : decode cJ31_node 64 = .ok (.areturn, 1) := dk_176 (dk_at dksJ31_node_2 17 rfl rfl)
abbrev cJ31_listIterator : ByteArray := prog_60_method_49_code
def yJ31_listIterator : MethodName := ⟨RJ31, "listIterator", "(I)Ljava/util/ListIterator;"⟩
def dkwJ31_listIterator_0 : List UInt8 := [42, 27, 182, 0, 76, 187, 0, 150, 89, 42, 27, 183, 0, 152, 176]
abbrev dktJ31_listIterator_0 : List UInt8 := dkwJ31_listIterator_0 ++ []
theorem dksJ31_listIterator_0 : cJ31_listIterator.data.toList.drop 0 = dktJ31_listIterator_0 := by decide +kernel
theorem dJ31_listIterator_0 : decode cJ31_listIterator 0 = .ok (.aload_n 0, 1) := dk_42 (dk_at dksJ31_listIterator_0 0 rfl rfl)
theorem dJ31_listIterator_1 : decode cJ31_listIterator 1 = .ok (.iload_n 1, 1) := dk_27 (dk_at dksJ31_listIterator_0 1 rfl rfl)
theorem dJ31_listIterator_2 : decode cJ31_listIterator 2 = .ok (.invokevirtual 76, 3) := dk_182 0 76 (dk_at dksJ31_listIterator_0 2 rfl rfl)
theorem dJ31_listIterator_5 : decode cJ31_listIterator 5 = .ok (.new 150, 3) := dk_187 0 150 (dk_at dksJ31_listIterator_0 5 rfl rfl)
theorem dJ31_listIterator_8 : decode cJ31_listIterator 8 = .ok (.dup, 1) := dk_89 (dk_at dksJ31_listIterator_0 8 rfl rfl)
theorem dJ31_listIterator_9 : decode cJ31_listIterator 9 = .ok (.aload_n 0, 1) := dk_42 (dk_at dksJ31_listIterator_0 9 rfl rfl)
theorem dJ31_listIterator_10 : decode cJ31_listIterator 10 = .ok (.iload_n 1, 1) := dk_27 (dk_at dksJ31_listIterator_0 10 rfl rfl)
theorem dJ31_listIterator_11 : decode cJ31_listIterator 11 = .ok (.invokespecial 152, 3) := dk_183 0 152 (dk_at dksJ31_listIterator_0 11 rfl rfl)
theorem dJ31_listIterator_14 : decode cJ31_listIterator 14 = .ok (.areturn, 1) := dk_176 (dk_at dksJ31_listIterator_0 14 rfl rfl)
abbrev cJ31_checkPositionIndex : ByteArray := prog_60_method_30_code
def yJ31_checkPositionIndex : MethodName := ⟨RJ31, "checkPositionIndex", "(I)V"⟩
def dkwJ31_checkPositionIndex_0 : List UInt8 := [42, 27, 182, 0, 128, 154, 0, 16, 187, 0, 119, 89, 42, 27, 182, 0, 121, 183, 0, 125, 191, 177]
abbrev dktJ31_checkPositionIndex_0 : List UInt8 := dkwJ31_checkPositionIndex_0 ++ []
theorem dksJ31_checkPositionIndex_0 : cJ31_checkPositionIndex.data.toList.drop 0 = dktJ31_checkPositionIndex_0 := by decide +kernel
theorem dJ31_checkPositionIndex_0 : decode cJ31_checkPositionIndex 0 = .ok (.aload_n 0, 1) := dk_42 (dk_at dksJ31_checkPositionIndex_0 0 rfl rfl)
theorem dJ31_checkPositionIndex_1 : decode cJ31_checkPositionIndex 1 = .ok (.iload_n 1, 1) := dk_27 (dk_at dksJ31_checkPositionIndex_0 1 rfl rfl)
theorem dJ31_checkPositionIndex_2 : decode cJ31_checkPositionIndex 2 = .ok (.invokevirtual 128, 3) := dk_182 0 128 (dk_at dksJ31_checkPositionIndex_0 2 rfl rfl)
theorem dJ31_checkPositionIndex_5 : decode cJ31_checkPositionIndex 5 = .ok (.ifCond .ne 16, 3) := dk_154 0 16 (dk_at dksJ31_checkPositionIndex_0 5 rfl rfl)
theorem dJ31_checkPositionIndex_8 : decode cJ31_checkPositionIndex 8 = .ok (.new 119, 3) := dk_187 0 119 (dk_at dksJ31_checkPositionIndex_0 8 rfl rfl)
theorem dJ31_checkPositionIndex_11 : decode cJ31_checkPositionIndex 11 = .ok (.dup, 1) := dk_89 (dk_at dksJ31_checkPositionIndex_0 11 rfl rfl)
theorem dJ31_checkPositionIndex_12 : decode cJ31_checkPositionIndex 12 = .ok (.aload_n 0, 1) := dk_42 (dk_at dksJ31_checkPositionIndex_0 12 rfl rfl)
theorem dJ31_checkPositionIndex_13 : decode cJ31_checkPositionIndex 13 = .ok (.iload_n 1, 1) := dk_27 (dk_at dksJ31_checkPositionIndex_0 13 rfl rfl)
theorem dJ31_checkPositionIndex_14 : decode cJ31_checkPositionIndex 14 = .ok (.invokevirtual 121, 3) := dk_182 0 121 (dk_at dksJ31_checkPositionIndex_0 14 rfl rfl)
theorem dJ31_checkPositionIndex_17 : decode cJ31_checkPositionIndex 17 = .ok (.invokespecial 125, 3) := dk_183 0 125 (dk_at dksJ31_checkPositionIndex_0 17 rfl rfl)
theorem dJ31_checkPositionIndex_20 : decode cJ31_checkPositionIndex 20 = .ok (.athrow, 1) := dk_191 (dk_at dksJ31_checkPositionIndex_0 20 rfl rfl)
theorem dJ31_checkPositionIndex_21 : decode cJ31_checkPositionIndex 21 = .ok (.return_, 1) := dk_177 (dk_at dksJ31_checkPositionIndex_0 21 rfl rfl)
abbrev cJ31_isPositionIndex : ByteArray := prog_60_method_27_code
def yJ31_isPositionIndex : MethodName := ⟨RJ31, "isPositionIndex", "(I)Z"⟩
def dkwJ31_isPositionIndex_0 : List UInt8 := [27, 155, 0, 15, 27, 42, 180, 0, 7, 163, 0, 7, 4, 167, 0, 4, 3, 172]
abbrev dktJ31_isPositionIndex_0 : List UInt8 := dkwJ31_isPositionIndex_0 ++ []
theorem dksJ31_isPositionIndex_0 : cJ31_isPositionIndex.data.toList.drop 0 = dktJ31_isPositionIndex_0 := by decide +kernel
theorem dJ31_isPositionIndex_0 : decode cJ31_isPositionIndex 0 = .ok (.iload_n 1, 1) := dk_27 (dk_at dksJ31_isPositionIndex_0 0 rfl rfl)
theorem dJ31_isPositionIndex_1 : decode cJ31_isPositionIndex 1 = .ok (.ifCond .lt 15, 3) := dk_155 0 15 (dk_at dksJ31_isPositionIndex_0 1 rfl rfl)
theorem dJ31_isPositionIndex_4 : decode cJ31_isPositionIndex 4 = .ok (.iload_n 1, 1) := dk_27 (dk_at dksJ31_isPositionIndex_0 4 rfl rfl)
theorem dJ31_isPositionIndex_5 : decode cJ31_isPositionIndex 5 = .ok (.aload_n 0, 1) := dk_42 (dk_at dksJ31_isPositionIndex_0 5 rfl rfl)
theorem dJ31_isPositionIndex_6 : decode cJ31_isPositionIndex 6 = .ok (.getfield 7, 3) := dk_180 0 7 (dk_at dksJ31_isPositionIndex_0 6 rfl rfl)
theorem dJ31_isPositionIndex_9 : decode cJ31_isPositionIndex 9 = .ok (.if_icmp .gt 7, 3) := dk_163 0 7 (dk_at dksJ31_isPositionIndex_0 9 rfl rfl)
theorem dJ31_isPositionIndex_12 : decode cJ31_isPositionIndex 12 = .ok (.iconst 1, 1) := dk_4 (dk_at dksJ31_isPositionIndex_0 12 rfl rfl)
theorem dJ31_isPositionIndex_13 : decode cJ31_isPositionIndex 13 = .ok (.goto 4, 3) := dk_167 0 4 (dk_at dksJ31_isPositionIndex_0 13 rfl rfl)
theorem dJ31_isPositionIndex_16 : decode cJ31_isPositionIndex 16 = .ok (.iconst 0, 1) := dk_3 (dk_at dksJ31_isPositionIndex_0 16 rfl rfl)
theorem dJ31_isPositionIndex_17 : decode cJ31_isPositionIndex 17 = .ok (.ireturn, 1) := dk_172 (dk_at dksJ31_isPositionIndex_0 17 rfl rfl)
abbrev cJ31_init : ByteArray := prog_60_method_1_code
def yJ31_init : MethodName := ⟨RJ31, "<init>", "()V"⟩
def dkwJ31_init_0 : List UInt8 := [42, 183, 0, 1, 42, 3, 181, 0, 7, 177]
abbrev dktJ31_init_0 : List UInt8 := dkwJ31_init_0 ++ []
theorem dksJ31_init_0 : cJ31_init.data.toList.drop 0 = dktJ31_init_0 := by decide +kernel
theorem dJ31_init_0 : decode cJ31_init 0 = .ok (.aload_n 0, 1) := dk_42 (dk_at dksJ31_init_0 0 rfl rfl)
theorem dJ31_init_1 : decode cJ31_init 1 = .ok (.invokespecial 1, 3) := dk_183 0 1 (dk_at dksJ31_init_0 1 rfl rfl)
theorem dJ31_init_4 : decode cJ31_init 4 = .ok (.aload_n 0, 1) := dk_42 (dk_at dksJ31_init_0 4 rfl rfl)
theorem dJ31_init_5 : decode cJ31_init 5 = .ok (.iconst 0, 1) := dk_3 (dk_at dksJ31_init_0 5 rfl rfl)
theorem dJ31_init_6 : decode cJ31_init 6 = .ok (.putfield 7, 3) := dk_181 0 7 (dk_at dksJ31_init_0 6 rfl rfl)
theorem dJ31_init_9 : decode cJ31_init 9 = .ok (.return_, 1) := dk_177 (dk_at dksJ31_init_0 9 rfl rfl)
abbrev cJ31_addFirst : ByteArray := prog_60_method_13_code
def yJ31_addFirst : MethodName := ⟨RJ31, "addFirst", "(Ljava/lang/Object;)V"⟩
def dkwJ31_addFirst_0 : List UInt8 := [42, 43, 182, 0, 53, 177]
abbrev dktJ31_addFirst_0 : List UInt8 := dkwJ31_addFirst_0 ++ []
theorem dksJ31_addFirst_0 : cJ31_addFirst.data.toList.drop 0 = dktJ31_addFirst_0 := by decide +kernel
theorem dJ31_addFirst_0 : decode cJ31_addFirst 0 = .ok (.aload_n 0, 1) := dk_42 (dk_at dksJ31_addFirst_0 0 rfl rfl)
theorem dJ31_addFirst_1 : decode cJ31_addFirst 1 = .ok (.aload_n 1, 1) := dk_43 (dk_at dksJ31_addFirst_0 1 rfl rfl)
theorem dJ31_addFirst_2 : decode cJ31_addFirst 2 = .ok (.invokevirtual 53, 3) := dk_182 0 53 (dk_at dksJ31_addFirst_0 2 rfl rfl)
theorem dJ31_addFirst_5 : decode cJ31_addFirst 5 = .ok (.return_, 1) := dk_177 (dk_at dksJ31_addFirst_0 5 rfl rfl)
abbrev cJ31_linkFirst : ByteArray := prog_60_method_3_code
def yJ31_linkFirst : MethodName := ⟨RJ31, "linkFirst", "(Ljava/lang/Object;)V"⟩
def dkwJ31_linkFirst_2 : List UInt8 := [181, 0, 7, 42, 89, 180, 0, 33, 4, 96, 181, 0, 33, 177]
abbrev dktJ31_linkFirst_2 : List UInt8 := dkwJ31_linkFirst_2 ++ []
def dkwJ31_linkFirst_1 : List UInt8 := [199, 0, 11, 42, 45, 181, 0, 27, 167, 0, 8, 44, 45, 181, 0, 30, 42, 89, 180, 0, 7, 4, 96]
abbrev dktJ31_linkFirst_1 : List UInt8 := dkwJ31_linkFirst_1 ++ dktJ31_linkFirst_2
def dkwJ31_linkFirst_0 : List UInt8 := [42, 180, 0, 18, 77, 187, 0, 22, 89, 1, 43, 44, 183, 0, 24, 78, 42, 45, 181, 0, 18, 44]
abbrev dktJ31_linkFirst_0 : List UInt8 := dkwJ31_linkFirst_0 ++ dktJ31_linkFirst_1
theorem dksJ31_linkFirst_0 : cJ31_linkFirst.data.toList.drop 0 = dktJ31_linkFirst_0 := by decide +kernel
theorem dksJ31_linkFirst_1 : cJ31_linkFirst.data.toList.drop 22 = dktJ31_linkFirst_1 := dk_seg dksJ31_linkFirst_0 22 rfl rfl
theorem dksJ31_linkFirst_2 : cJ31_linkFirst.data.toList.drop 45 = dktJ31_linkFirst_2 := dk_seg dksJ31_linkFirst_1 23 rfl rfl
theorem dJ31_linkFirst_0 : decode cJ31_linkFirst 0 = .ok (.aload_n 0, 1) := dk_42 (dk_at dksJ31_linkFirst_0 0 rfl rfl)
theorem dJ31_linkFirst_1 : decode cJ31_linkFirst 1 = .ok (.getfield 18, 3) := dk_180 0 18 (dk_at dksJ31_linkFirst_0 1 rfl rfl)
theorem dJ31_linkFirst_4 : decode cJ31_linkFirst 4 = .ok (.astore_n 2, 1) := dk_77 (dk_at dksJ31_linkFirst_0 4 rfl rfl)
theorem dJ31_linkFirst_5 : decode cJ31_linkFirst 5 = .ok (.new 22, 3) := dk_187 0 22 (dk_at dksJ31_linkFirst_0 5 rfl rfl)
theorem dJ31_linkFirst_8 : decode cJ31_linkFirst 8 = .ok (.dup, 1) := dk_89 (dk_at dksJ31_linkFirst_0 8 rfl rfl)
theorem dJ31_linkFirst_9 : decode cJ31_linkFirst 9 = .ok (.aconst_null, 1) := dk_1 (dk_at dksJ31_linkFirst_0 9 rfl rfl)
theorem dJ31_linkFirst_10 : decode cJ31_linkFirst 10 = .ok (.aload_n 1, 1) := dk_43 (dk_at dksJ31_linkFirst_0 10 rfl rfl)
theorem dJ31_linkFirst_11 : decode cJ31_linkFirst 11 = .ok (.aload_n 2, 1) := dk_44 (dk_at dksJ31_linkFirst_0 11 rfl rfl)
theorem dJ31_linkFirst_12 : decode cJ31_linkFirst 12 = .ok (.invokespecial 24, 3) := dk_183 0 24 (dk_at dksJ31_linkFirst_0 12 rfl rfl)
theorem dJ31_linkFirst_15 : decode cJ31_linkFirst 15 = .ok (.astore_n 3, 1) := dk_78 (dk_at dksJ31_linkFirst_0 15 rfl rfl)
theorem dJ31_linkFirst_16 : decode cJ31_linkFirst 16 = .ok (.aload_n 0, 1) := dk_42 (dk_at dksJ31_linkFirst_0 16 rfl rfl)
theorem dJ31_linkFirst_17 : decode cJ31_linkFirst 17 = .ok (.aload_n 3, 1) := dk_45 (dk_at dksJ31_linkFirst_0 17 rfl rfl)
theorem dJ31_linkFirst_18 : decode cJ31_linkFirst 18 = .ok (.putfield 18, 3) := dk_181 0 18 (dk_at dksJ31_linkFirst_0 18 rfl rfl)
theorem dJ31_linkFirst_21 : decode cJ31_linkFirst 21 = .ok (.aload_n 2, 1) := dk_44 (dk_at dksJ31_linkFirst_0 21 rfl rfl)
theorem dJ31_linkFirst_22 : decode cJ31_linkFirst 22 = .ok (.ifnonnull 11, 3) := dk_199 0 11 (dk_at dksJ31_linkFirst_1 0 rfl rfl)
theorem dJ31_linkFirst_25 : decode cJ31_linkFirst 25 = .ok (.aload_n 0, 1) := dk_42 (dk_at dksJ31_linkFirst_1 3 rfl rfl)
theorem dJ31_linkFirst_26 : decode cJ31_linkFirst 26 = .ok (.aload_n 3, 1) := dk_45 (dk_at dksJ31_linkFirst_1 4 rfl rfl)
theorem dJ31_linkFirst_27 : decode cJ31_linkFirst 27 = .ok (.putfield 27, 3) := dk_181 0 27 (dk_at dksJ31_linkFirst_1 5 rfl rfl)
theorem dJ31_linkFirst_30 : decode cJ31_linkFirst 30 = .ok (.goto 8, 3) := dk_167 0 8 (dk_at dksJ31_linkFirst_1 8 rfl rfl)
theorem dJ31_linkFirst_33 : decode cJ31_linkFirst 33 = .ok (.aload_n 2, 1) := dk_44 (dk_at dksJ31_linkFirst_1 11 rfl rfl)
theorem dJ31_linkFirst_34 : decode cJ31_linkFirst 34 = .ok (.aload_n 3, 1) := dk_45 (dk_at dksJ31_linkFirst_1 12 rfl rfl)
theorem dJ31_linkFirst_35 : decode cJ31_linkFirst 35 = .ok (.putfield 30, 3) := dk_181 0 30 (dk_at dksJ31_linkFirst_1 13 rfl rfl)
theorem dJ31_linkFirst_38 : decode cJ31_linkFirst 38 = .ok (.aload_n 0, 1) := dk_42 (dk_at dksJ31_linkFirst_1 16 rfl rfl)
theorem dJ31_linkFirst_39 : decode cJ31_linkFirst 39 = .ok (.dup, 1) := dk_89 (dk_at dksJ31_linkFirst_1 17 rfl rfl)
theorem dJ31_linkFirst_40 : decode cJ31_linkFirst 40 = .ok (.getfield 7, 3) := dk_180 0 7 (dk_at dksJ31_linkFirst_1 18 rfl rfl)
theorem dJ31_linkFirst_43 : decode cJ31_linkFirst 43 = .ok (.iconst 1, 1) := dk_4 (dk_at dksJ31_linkFirst_1 21 rfl rfl)
theorem dJ31_linkFirst_44 : decode cJ31_linkFirst 44 = .ok (.iadd, 1) := dk_96 (dk_at dksJ31_linkFirst_1 22 rfl rfl)
theorem dJ31_linkFirst_45 : decode cJ31_linkFirst 45 = .ok (.putfield 7, 3) := dk_181 0 7 (dk_at dksJ31_linkFirst_2 0 rfl rfl)
theorem dJ31_linkFirst_48 : decode cJ31_linkFirst 48 = .ok (.aload_n 0, 1) := dk_42 (dk_at dksJ31_linkFirst_2 3 rfl rfl)
theorem dJ31_linkFirst_49 : decode cJ31_linkFirst 49 = .ok (.dup, 1) := dk_89 (dk_at dksJ31_linkFirst_2 4 rfl rfl)
theorem dJ31_linkFirst_50 : decode cJ31_linkFirst 50 = .ok (.getfield 33, 3) := dk_180 0 33 (dk_at dksJ31_linkFirst_2 5 rfl rfl)
theorem dJ31_linkFirst_53 : decode cJ31_linkFirst 53 = .ok (.iconst 1, 1) := dk_4 (dk_at dksJ31_linkFirst_2 8 rfl rfl)
theorem dJ31_linkFirst_54 : decode cJ31_linkFirst 54 = .ok (.iadd, 1) := dk_96 (dk_at dksJ31_linkFirst_2 9 rfl rfl)
theorem dJ31_linkFirst_55 : decode cJ31_linkFirst 55 = .ok (.putfield 33, 3) := dk_181 0 33 (dk_at dksJ31_linkFirst_2 10 rfl rfl)
theorem dJ31_linkFirst_58 : decode cJ31_linkFirst 58 = .ok (.return_, 1) := dk_177 (dk_at dksJ31_linkFirst_2 13 rfl rfl)
abbrev cJ31_getFirst : ByteArray := prog_60_method_9_code
def yJ31_getFirst : MethodName := ⟨RJ31, "getFirst", "()Ljava/lang/Object;"⟩
def dkwJ31_getFirst_0 : List UInt8 := [42, 180, 0, 18, 76, 43, 199, 0, 11, 187, 0, 43, 89, 183, 0, 45, 191, 43, 180, 0, 39, 176]
abbrev dktJ31_getFirst_0 : List UInt8 := dkwJ31_getFirst_0 ++ []
theorem dksJ31_getFirst_0 : cJ31_getFirst.data.toList.drop 0 = dktJ31_getFirst_0 := by decide +kernel
theorem dJ31_getFirst_0 : decode cJ31_getFirst 0 = .ok (.aload_n 0, 1) := dk_42 (dk_at dksJ31_getFirst_0 0 rfl rfl)
theorem dJ31_getFirst_1 : decode cJ31_getFirst 1 = .ok (.getfield 18, 3) := dk_180 0 18 (dk_at dksJ31_getFirst_0 1 rfl rfl)
theorem dJ31_getFirst_4 : decode cJ31_getFirst 4 = .ok (.astore_n 1, 1) := dk_76 (dk_at dksJ31_getFirst_0 4 rfl rfl)
theorem dJ31_getFirst_5 : decode cJ31_getFirst 5 = .ok (.aload_n 1, 1) := dk_43 (dk_at dksJ31_getFirst_0 5 rfl rfl)
theorem dJ31_getFirst_6 : decode cJ31_getFirst 6 = .ok (.ifnonnull 11, 3) := dk_199 0 11 (dk_at dksJ31_getFirst_0 6 rfl rfl)
theorem dJ31_getFirst_9 : decode cJ31_getFirst 9 = .ok (.new 43, 3) := dk_187 0 43 (dk_at dksJ31_getFirst_0 9 rfl rfl)
theorem dJ31_getFirst_12 : decode cJ31_getFirst 12 = .ok (.dup, 1) := dk_89 (dk_at dksJ31_getFirst_0 12 rfl rfl)
theorem dJ31_getFirst_13 : decode cJ31_getFirst 13 = .ok (.invokespecial 45, 3) := dk_183 0 45 (dk_at dksJ31_getFirst_0 13 rfl rfl)
theorem dJ31_getFirst_16 : decode cJ31_getFirst 16 = .ok (.athrow, 1) := dk_191 (dk_at dksJ31_getFirst_0 16 rfl rfl)
theorem dJ31_getFirst_17 : decode cJ31_getFirst 17 = .ok (.aload_n 1, 1) := dk_43 (dk_at dksJ31_getFirst_0 17 rfl rfl)
theorem dJ31_getFirst_18 : decode cJ31_getFirst 18 = .ok (.getfield 39, 3) := dk_180 0 39 (dk_at dksJ31_getFirst_0 18 rfl rfl)
theorem dJ31_getFirst_21 : decode cJ31_getFirst 21 = .ok (.areturn, 1) := dk_176 (dk_at dksJ31_getFirst_0 21 rfl rfl)
theorem q156 : (Jvm.Cond.initialized "java/util/LinkedList") ∈ lw_all := lw_g (lw_at lw_m1 45 rfl) rfl
theorem q518 : (Jvm.Cond.sameField "java/util/LinkedList" "java/util/AbstractList" "modCount" "I") ∈ lw_all := lw_g (lw_at lw_m2 167 rfl) rfl
theorem q522 : (Jvm.Cond.fieldLink "java/util/LinkedList" (33 : Nat) "java/util/LinkedList" "modCount" "I") ∈ lw_all := lw_g (lw_at lw_m2 171 rfl) rfl
theorem q908 : (Jvm.Cond.castable "java/util/LinkedList" "java/util/List") ∈ lw_tbl := lw_at lw_m4 77 rfl
theorem q909 : (Jvm.Cond.selects "java/util/LinkedList" ({ cls := "java/util/List", name := "size", desc := "()I" } : Jvm.MethodName) ({ cls := "java/util/LinkedList", name := "size", desc := "()I" } : Jvm.MethodName)) ∈ lw_all := lw_g (lw_at lw_m4 78 rfl) rfl
theorem q910 : (Jvm.Cond.unhidden "java/util/LinkedList" "size" "()I") ∈ lw_tbl := lw_at lw_m4 79 rfl
theorem q911 : (Jvm.Cond.instanceMethod ({ cls := "java/util/LinkedList", name := "size", desc := "()I" } : Jvm.MethodName)) ∈ lw_all := lw_g (lw_at lw_m4 80 rfl) rfl
theorem q912 : (Jvm.Cond.publicMethod ({ cls := "java/util/LinkedList", name := "size", desc := "()I" } : Jvm.MethodName)) ∈ lw_tbl := lw_at lw_m4 81 rfl
theorem q913 : (Jvm.Cond.code ({ cls := "java/util/LinkedList", name := "size", desc := "()I" } : Jvm.MethodName) prog_60_method_16_code (1 : Nat) (Option.some Jvm.ClassFile.FieldType.int)) ∈ lw_all := lw_g (lw_at lw_m4 82 rfl) rfl
theorem q1007 : (Jvm.Cond.selects "java/util/LinkedList" ({ cls := "java/lang/Object", name := "getClass", desc := "()Ljava/lang/Class;" } : Jvm.MethodName) ({ cls := "java/lang/Object", name := "getClass", desc := "()Ljava/lang/Class;" } : Jvm.MethodName)) ∈ lw_all := lw_g (lw_at lw_m4 176 rfl) rfl
theorem q1018 : (Jvm.Cond.selects "java/util/LinkedList" ({ cls := "java/util/List", name := "add", desc := "(Ljava/lang/Object;)Z" } : Jvm.MethodName) ({ cls := "java/util/LinkedList", name := "add", desc := "(Ljava/lang/Object;)Z" } : Jvm.MethodName)) ∈ lw_all := lw_g (lw_at lw_m4 187 rfl) rfl
theorem q1019 : (Jvm.Cond.unhidden "java/util/LinkedList" "add" "(Ljava/lang/Object;)Z") ∈ lw_tbl := lw_at lw_m4 188 rfl
theorem q1020 : (Jvm.Cond.instanceMethod ({ cls := "java/util/LinkedList", name := "add", desc := "(Ljava/lang/Object;)Z" } : Jvm.MethodName)) ∈ lw_all := lw_g (lw_at lw_m4 189 rfl) rfl
theorem q1021 : (Jvm.Cond.publicMethod ({ cls := "java/util/LinkedList", name := "add", desc := "(Ljava/lang/Object;)Z" } : Jvm.MethodName)) ∈ lw_tbl := lw_at lw_m4 190 rfl
theorem q1022 : (Jvm.Cond.code ({ cls := "java/util/LinkedList", name := "add", desc := "(Ljava/lang/Object;)Z" } : Jvm.MethodName) prog_60_method_17_code (2 : Nat) (Option.some Jvm.ClassFile.FieldType.boolean)) ∈ lw_all := lw_g (lw_at lw_m4 191 rfl) rfl
theorem q1023 : (Jvm.Cond.methodLink "java/util/LinkedList" (57 : Nat) ({ cls := "java/util/LinkedList", name := "linkLast", desc := "(Ljava/lang/Object;)V" } : Jvm.MethodName)) ∈ lw_all := lw_g (lw_at lw_m4 192 rfl) rfl
theorem q1024 : (Jvm.Cond.instanceMethod ({ cls := "java/util/LinkedList", name := "linkLast", desc := "(Ljava/lang/Object;)V" } : Jvm.MethodName)) ∈ lw_all := lw_g (lw_at lw_m4 193 rfl) rfl
theorem q1025 : (Jvm.Cond.selects "java/util/LinkedList" ({ cls := "java/util/LinkedList", name := "linkLast", desc := "(Ljava/lang/Object;)V" } : Jvm.MethodName) ({ cls := "java/util/LinkedList", name := "linkLast", desc := "(Ljava/lang/Object;)V" } : Jvm.MethodName)) ∈ lw_all := lw_g (lw_at lw_m4 194 rfl) rfl
theorem q1026 : (Jvm.Cond.code ({ cls := "java/util/LinkedList", name := "linkLast", desc := "(Ljava/lang/Object;)V" } : Jvm.MethodName) prog_60_method_4_code (4 : Nat) (Option.none : Option Jvm.ClassFile.FieldType)) ∈ lw_all := lw_g (lw_at lw_m4 195 rfl) rfl
theorem q1027 : (Jvm.Cond.classLink "java/util/LinkedList" (22 : Nat) "java/util/LinkedList$Node") ∈ lw_all := lw_g (lw_at lw_m4 196 rfl) rfl
theorem q1029 : (Jvm.Cond.methodLink "java/util/LinkedList" (24 : Nat) ({ cls := "java/util/LinkedList$Node", name := "<init>", desc := "(Ljava/util/LinkedList$Node;Ljava/lang/Object;Ljava/util/LinkedList$Node;)V" } : Jvm.MethodName)) ∈ lw_all := lw_g (lw_at lw_m4 198 rfl) rfl
theorem q1035 : (Jvm.Cond.fieldLink "java/util/LinkedList" (39 : Nat) "java/util/LinkedList$Node" "item" "Ljava/lang/Object;") ∈ lw_all := lw_g (lw_at lw_m4 204 rfl) rfl
theorem q1038 : (Jvm.Cond.fieldLink "java/util/LinkedList" (36 : Nat) "java/util/LinkedList$Node" "next" "Ljava/util/LinkedList$Node;") ∈ lw_all := lw_g (lw_at lw_m4 207 rfl) rfl
theorem q1040 : (Jvm.Cond.fieldLink "java/util/LinkedList" (30 : Nat) "java/util/LinkedList$Node" "prev" "Ljava/util/LinkedList$Node;") ∈ lw_all := lw_g (lw_at lw_m4 209 rfl) rfl
theorem q1221 : (Jvm.Cond.selects "java/util/LinkedList" ({ cls := "java/util/List", name := "get", desc := "(I)Ljava/lang/Object;" } : Jvm.MethodName) ({ cls := "java/util/LinkedList", name := "get", desc := "(I)Ljava/lang/Object;" } : Jvm.MethodName)) ∈ lw_all := lw_g (lw_at lw_m5 150 rfl) rfl
theorem q1222 : (Jvm.Cond.unhidden "java/util/LinkedList" "get" "(I)Ljava/lang/Object;") ∈ lw_tbl := lw_at lw_m5 151 rfl
theorem q1223 : (Jvm.Cond.instanceMethod ({ cls := "java/util/LinkedList", name := "get", desc := "(I)Ljava/lang/Object;" } : Jvm.MethodName)) ∈ lw_all := lw_g (lw_at lw_m5 152 rfl) rfl
theorem q1224 : (Jvm.Cond.publicMethod ({ cls := "java/util/LinkedList", name := "get", desc := "(I)Ljava/lang/Object;" } : Jvm.MethodName)) ∈ lw_tbl := lw_at lw_m5 153 rfl
theorem q1225 : (Jvm.Cond.code ({ cls := "java/util/LinkedList", name := "get", desc := "(I)Ljava/lang/Object;" } : Jvm.MethodName) prog_60_method_22_code (2 : Nat) (Option.some (Jvm.ClassFile.FieldType.object "java/lang/Object"))) ∈ lw_all := lw_g (lw_at lw_m5 154 rfl) rfl
theorem q1226 : (Jvm.Cond.methodLink "java/util/LinkedList" (90 : Nat) ({ cls := "java/util/LinkedList", name := "checkElementIndex", desc := "(I)V" } : Jvm.MethodName)) ∈ lw_all := lw_g (lw_at lw_m5 155 rfl) rfl
theorem q1227 : (Jvm.Cond.privateMethod ({ cls := "java/util/LinkedList", name := "checkElementIndex", desc := "(I)V" } : Jvm.MethodName)) ∈ lw_tbl := lw_at lw_m5 156 rfl
theorem q1228 : (Jvm.Cond.instanceMethod ({ cls := "java/util/LinkedList", name := "checkElementIndex", desc := "(I)V" } : Jvm.MethodName)) ∈ lw_all := lw_g (lw_at lw_m5 157 rfl) rfl
theorem q1229 : (Jvm.Cond.instantiable "java/util/LinkedList" (4 : Nat)) ∈ lw_all := lw_g (lw_at lw_m5 158 rfl) rfl
theorem q1230 : (Jvm.Cond.code ({ cls := "java/util/LinkedList", name := "checkElementIndex", desc := "(I)V" } : Jvm.MethodName) prog_60_method_29_code (2 : Nat) (Option.none : Option Jvm.ClassFile.FieldType)) ∈ lw_all := lw_g (lw_at lw_m5 159 rfl) rfl
theorem q1231 : (Jvm.Cond.methodLink "java/util/LinkedList" (115 : Nat) ({ cls := "java/util/LinkedList", name := "isElementIndex", desc := "(I)Z" } : Jvm.MethodName)) ∈ lw_all := lw_g (lw_at lw_m5 160 rfl) rfl
theorem q1232 : (Jvm.Cond.privateMethod ({ cls := "java/util/LinkedList", name := "isElementIndex", desc := "(I)Z" } : Jvm.MethodName)) ∈ lw_tbl := lw_at lw_m5 161 rfl
theorem q1233 : (Jvm.Cond.instanceMethod ({ cls := "java/util/LinkedList", name := "isElementIndex", desc := "(I)Z" } : Jvm.MethodName)) ∈ lw_all := lw_g (lw_at lw_m5 162 rfl) rfl
theorem q1234 : (Jvm.Cond.code ({ cls := "java/util/LinkedList", name := "isElementIndex", desc := "(I)Z" } : Jvm.MethodName) prog_60_method_26_code (2 : Nat) (Option.some Jvm.ClassFile.FieldType.boolean)) ∈ lw_all := lw_g (lw_at lw_m5 163 rfl) rfl
theorem q1235 : (Jvm.Cond.classLink "java/util/LinkedList" (119 : Nat) "java/lang/IndexOutOfBoundsException") ∈ lw_all := lw_g (lw_at lw_m5 164 rfl) rfl
theorem q1244 : (Jvm.Cond.methodLink "java/util/LinkedList" (121 : Nat) ({ cls := "java/util/LinkedList", name := "outOfBoundsMsg", desc := "(I)Ljava/lang/String;" } : Jvm.MethodName)) ∈ lw_all := lw_g (lw_at lw_m5 173 rfl) rfl
theorem q1245 : (Jvm.Cond.privateMethod ({ cls := "java/util/LinkedList", name := "outOfBoundsMsg", desc := "(I)Ljava/lang/String;" } : Jvm.MethodName)) ∈ lw_tbl := lw_at lw_m5 174 rfl
theorem q1246 : (Jvm.Cond.instanceMethod ({ cls := "java/util/LinkedList", name := "outOfBoundsMsg", desc := "(I)Ljava/lang/String;" } : Jvm.MethodName)) ∈ lw_all := lw_g (lw_at lw_m5 175 rfl) rfl
theorem q1247 : (Jvm.Cond.code ({ cls := "java/util/LinkedList", name := "outOfBoundsMsg", desc := "(I)Ljava/lang/String;" } : Jvm.MethodName) prog_60_method_28_code (2 : Nat) (Option.some (Jvm.ClassFile.FieldType.object "java/lang/String"))) ∈ lw_all := lw_g (lw_at lw_m5 176 rfl) rfl
theorem q1248 : (Jvm.Cond.classLink "java/util/LinkedList" (97 : Nat) "java/lang/StringBuilder") ∈ lw_all := lw_g (lw_at lw_m5 177 rfl) rfl
theorem q1249 : (Jvm.Cond.methodLink "java/util/LinkedList" (99 : Nat) ({ cls := "java/lang/StringBuilder", name := "<init>", desc := "()V" } : Jvm.MethodName)) ∈ lw_all := lw_g (lw_at lw_m5 178 rfl) rfl
theorem q1250 : (Jvm.Cond.stringRef "java/util/LinkedList" (100 : Nat) "Index: ") ∈ lw_tbl := lw_at lw_m5 179 rfl
theorem q1251 : (Jvm.Cond.methodLink "java/util/LinkedList" (102 : Nat) ({ cls := "java/lang/StringBuilder", name := "append", desc := "(Ljava/lang/String;)Ljava/lang/StringBuilder;" } : Jvm.MethodName)) ∈ lw_all := lw_g (lw_at lw_m5 180 rfl) rfl
theorem q1252 : (Jvm.Cond.methodLink "java/util/LinkedList" (106 : Nat) ({ cls := "java/lang/StringBuilder", name := "append", desc := "(I)Ljava/lang/StringBuilder;" } : Jvm.MethodName)) ∈ lw_all := lw_g (lw_at lw_m5 181 rfl) rfl
theorem q1253 : (Jvm.Cond.stringRef "java/util/LinkedList" (109 : Nat) ", Size: ") ∈ lw_tbl := lw_at lw_m5 182 rfl
theorem q1254 : (Jvm.Cond.methodLink "java/util/LinkedList" (111 : Nat) ({ cls := "java/lang/StringBuilder", name := "toString", desc := "()Ljava/lang/String;" } : Jvm.MethodName)) ∈ lw_all := lw_g (lw_at lw_m5 183 rfl) rfl
theorem q1255 : (Jvm.Cond.methodLink "java/util/LinkedList" (125 : Nat) ({ cls := "java/lang/IndexOutOfBoundsException", name := "<init>", desc := "(Ljava/lang/String;)V" } : Jvm.MethodName)) ∈ lw_all := lw_g (lw_at lw_m5 184 rfl) rfl
theorem q1261 : (Jvm.Cond.methodLink "java/util/LinkedList" (86 : Nat) ({ cls := "java/util/LinkedList", name := "node", desc := "(I)Ljava/util/LinkedList$Node;" } : Jvm.MethodName)) ∈ lw_all := lw_g (lw_at lw_m5 190 rfl) rfl
theorem q1262 : (Jvm.Cond.instanceMethod ({ cls := "java/util/LinkedList", name := "node", desc := "(I)Ljava/util/LinkedList$Node;" } : Jvm.MethodName)) ∈ lw_all := lw_g (lw_at lw_m5 191 rfl) rfl
theorem q1263 : (Jvm.Cond.selects "java/util/LinkedList" ({ cls := "java/util/LinkedList", name := "node", desc := "(I)Ljava/util/LinkedList$Node;" } : Jvm.MethodName) ({ cls := "java/util/LinkedList", name := "node", desc := "(I)Ljava/util/LinkedList$Node;" } : Jvm.MethodName)) ∈ lw_all := lw_g (lw_at lw_m5 192 rfl) rfl
theorem q1264 : (Jvm.Cond.code ({ cls := "java/util/LinkedList", name := "node", desc := "(I)Ljava/util/LinkedList$Node;" } : Jvm.MethodName) prog_60_method_31_code (4 : Nat) (Option.some (Jvm.ClassFile.FieldType.object "java/util/LinkedList$Node"))) ∈ lw_all := lw_g (lw_at lw_m5 193 rfl) rfl
theorem q1461 : (Jvm.Cond.selects "java/util/LinkedList" ({ cls := "java/util/List", name := "iterator", desc := "()Ljava/util/Iterator;" } : Jvm.MethodName) ({ cls := "java/util/AbstractSequentialList", name := "iterator", desc := "()Ljava/util/Iterator;" } : Jvm.MethodName)) ∈ lw_all := lw_g (lw_at lw_m6 150 rfl) rfl
theorem q1462 : (Jvm.Cond.unhidden "java/util/LinkedList" "iterator" "()Ljava/util/Iterator;") ∈ lw_tbl := lw_at lw_m6 151 rfl
theorem q1469 : (Jvm.Cond.selects "java/util/LinkedList" ({ cls := "java/util/AbstractSequentialList", name := "listIterator", desc := "()Ljava/util/ListIterator;" } : Jvm.MethodName) ({ cls := "java/util/AbstractList", name := "listIterator", desc := "()Ljava/util/ListIterator;" } : Jvm.MethodName)) ∈ lw_all := lw_g (lw_at lw_m6 158 rfl) rfl
theorem q1504 : (Jvm.Cond.selects "java/util/LinkedList" ({ cls := "java/util/AbstractList", name := "listIterator", desc := "(I)Ljava/util/ListIterator;" } : Jvm.MethodName) ({ cls := "java/util/LinkedList", name := "listIterator", desc := "(I)Ljava/util/ListIterator;" } : Jvm.MethodName)) ∈ lw_all := lw_g (lw_at lw_m6 193 rfl) rfl
theorem q1505 : (Jvm.Cond.instanceMethod ({ cls := "java/util/LinkedList", name := "listIterator", desc := "(I)Ljava/util/ListIterator;" } : Jvm.MethodName)) ∈ lw_all := lw_g (lw_at lw_m6 194 rfl) rfl
theorem q1506 : (Jvm.Cond.code ({ cls := "java/util/LinkedList", name := "listIterator", desc := "(I)Ljava/util/ListIterator;" } : Jvm.MethodName) prog_60_method_49_code (2 : Nat) (Option.some (Jvm.ClassFile.FieldType.object "java/util/ListIterator"))) ∈ lw_all := lw_g (lw_at lw_m6 195 rfl) rfl
theorem q1507 : (Jvm.Cond.methodLink "java/util/LinkedList" (76 : Nat) ({ cls := "java/util/LinkedList", name := "checkPositionIndex", desc := "(I)V" } : Jvm.MethodName)) ∈ lw_all := lw_g (lw_at lw_m6 196 rfl) rfl
theorem q1508 : (Jvm.Cond.privateMethod ({ cls := "java/util/LinkedList", name := "checkPositionIndex", desc := "(I)V" } : Jvm.MethodName)) ∈ lw_tbl := lw_at lw_m6 197 rfl
theorem q1509 : (Jvm.Cond.instanceMethod ({ cls := "java/util/LinkedList", name := "checkPositionIndex", desc := "(I)V" } : Jvm.MethodName)) ∈ lw_all := lw_g (lw_at lw_m6 198 rfl) rfl
theorem q1510 : (Jvm.Cond.code ({ cls := "java/util/LinkedList", name := "checkPositionIndex", desc := "(I)V" } : Jvm.MethodName) prog_60_method_30_code (2 : Nat) (Option.none : Option Jvm.ClassFile.FieldType)) ∈ lw_all := lw_g (lw_at lw_m6 199 rfl) rfl
theorem q1511 : (Jvm.Cond.methodLink "java/util/LinkedList" (128 : Nat) ({ cls := "java/util/LinkedList", name := "isPositionIndex", desc := "(I)Z" } : Jvm.MethodName)) ∈ lw_all := lw_g (lw_at lw_m6 200 rfl) rfl
theorem q1512 : (Jvm.Cond.privateMethod ({ cls := "java/util/LinkedList", name := "isPositionIndex", desc := "(I)Z" } : Jvm.MethodName)) ∈ lw_tbl := lw_at lw_m6 201 rfl
theorem q1513 : (Jvm.Cond.instanceMethod ({ cls := "java/util/LinkedList", name := "isPositionIndex", desc := "(I)Z" } : Jvm.MethodName)) ∈ lw_all := lw_g (lw_at lw_m6 202 rfl) rfl
theorem q1514 : (Jvm.Cond.code ({ cls := "java/util/LinkedList", name := "isPositionIndex", desc := "(I)Z" } : Jvm.MethodName) prog_60_method_27_code (2 : Nat) (Option.some Jvm.ClassFile.FieldType.boolean)) ∈ lw_all := lw_g (lw_at lw_m6 203 rfl) rfl
theorem q1515 : (Jvm.Cond.classLink "java/util/LinkedList" (150 : Nat) "java/util/LinkedList$ListItr") ∈ lw_all := lw_g (lw_at lw_m6 204 rfl) rfl
theorem q1517 : (Jvm.Cond.methodLink "java/util/LinkedList" (152 : Nat) ({ cls := "java/util/LinkedList$ListItr", name := "<init>", desc := "(Ljava/util/LinkedList;I)V" } : Jvm.MethodName)) ∈ lw_all := lw_g (lw_at lw_m6 206 rfl) rfl
theorem q1561 : (Jvm.Cond.selects "java/util/LinkedList" ({ cls := "java/util/AbstractList", name := "size", desc := "()I" } : Jvm.MethodName) ({ cls := "java/util/LinkedList", name := "size", desc := "()I" } : Jvm.MethodName)) ∈ lw_all := lw_g (lw_at lw_m7 10 rfl) rfl
theorem q1622 : (Jvm.Cond.selects "java/util/LinkedList" ({ cls := "java/util/AbstractList", name := "get", desc := "(I)Ljava/lang/Object;" } : Jvm.MethodName) ({ cls := "java/util/LinkedList", name := "get", desc := "(I)Ljava/lang/Object;" } : Jvm.MethodName)) ∈ lw_all := lw_g (lw_at lw_m7 71 rfl) rfl
theorem q2051 : (Jvm.Cond.instanceMethod ({ cls := "java/util/LinkedList", name := "<init>", desc := "()V" } : Jvm.MethodName)) ∈ lw_all := lw_g (lw_at lw_m9 20 rfl) rfl
theorem q2052 : (Jvm.Cond.code ({ cls := "java/util/LinkedList", name := "<init>", desc := "()V" } : Jvm.MethodName) prog_60_method_1_code (1 : Nat) (Option.none : Option Jvm.ClassFile.FieldType)) ∈ lw_all := lw_g (lw_at lw_m9 21 rfl) rfl
theorem q2053 : (Jvm.Cond.methodLink "java/util/LinkedList" (1 : Nat) ({ cls := "java/util/AbstractSequentialList", name := "<init>", desc := "()V" } : Jvm.MethodName)) ∈ lw_all := lw_g (lw_at lw_m9 22 rfl) rfl
theorem q2057 : (Jvm.Cond.fieldLink "java/util/LinkedList" (7 : Nat) "java/util/LinkedList" "size" "I") ∈ lw_all := lw_g (lw_at lw_m9 26 rfl) rfl
theorem q2059 : (Jvm.Cond.fieldLink "java/util/LinkedList" (18 : Nat) "java/util/LinkedList" "first" "Ljava/util/LinkedList$Node;") ∈ lw_all := lw_g (lw_at lw_m9 28 rfl) rfl
theorem q2060 : (Jvm.Cond.fieldLink "java/util/LinkedList" (27 : Nat) "java/util/LinkedList" "last" "Ljava/util/LinkedList$Node;") ∈ lw_all := lw_g (lw_at lw_m9 29 rfl) rfl
theorem q2061 : (Jvm.Cond.lays "java/util/LinkedList" "java/util/LinkedList" "size" "I") ∈ lw_all := lw_g (lw_at lw_m9 30 rfl) rfl
theorem q2062 : (Jvm.Cond.soleField "java/util/LinkedList" "size") ∈ lw_all := lw_g (lw_at lw_m9 31 rfl) rfl
theorem q2063 : (Jvm.Cond.lays "java/util/LinkedList" "java/util/LinkedList" "first" "Ljava/util/LinkedList$Node;") ∈ lw_all := lw_g (lw_at lw_m9 32 rfl) rfl
theorem q2064 : (Jvm.Cond.soleField "java/util/LinkedList" "first") ∈ lw_all := lw_g (lw_at lw_m9 33 rfl) rfl
theorem q2065 : (Jvm.Cond.lays "java/util/LinkedList" "java/util/LinkedList" "last" "Ljava/util/LinkedList$Node;") ∈ lw_all := lw_g (lw_at lw_m9 34 rfl) rfl
theorem q2066 : (Jvm.Cond.soleField "java/util/LinkedList" "last") ∈ lw_all := lw_g (lw_at lw_m9 35 rfl) rfl
theorem q2067 : (Jvm.Cond.lays "java/util/LinkedList" "java/util/AbstractList" "modCount" "I") ∈ lw_all := lw_g (lw_at lw_m9 36 rfl) rfl
theorem q2068 : (Jvm.Cond.superclass "java/util/LinkedList" "java/util/AbstractSequentialList") ∈ lw_all := lw_g (lw_at lw_m9 37 rfl) rfl
theorem q2070 : (Jvm.Cond.instanceMethod ({ cls := "java/util/LinkedList", name := "addFirst", desc := "(Ljava/lang/Object;)V" } : Jvm.MethodName)) ∈ lw_all := lw_g (lw_at lw_m9 39 rfl) rfl
theorem q2071 : (Jvm.Cond.selects "java/util/LinkedList" ({ cls := "java/util/LinkedList", name := "addFirst", desc := "(Ljava/lang/Object;)V" } : Jvm.MethodName) ({ cls := "java/util/LinkedList", name := "addFirst", desc := "(Ljava/lang/Object;)V" } : Jvm.MethodName)) ∈ lw_all := lw_g (lw_at lw_m9 40 rfl) rfl
theorem q2072 : (Jvm.Cond.code ({ cls := "java/util/LinkedList", name := "addFirst", desc := "(Ljava/lang/Object;)V" } : Jvm.MethodName) prog_60_method_13_code (2 : Nat) (Option.none : Option Jvm.ClassFile.FieldType)) ∈ lw_all := lw_g (lw_at lw_m9 41 rfl) rfl
theorem q2073 : (Jvm.Cond.methodLink "java/util/LinkedList" (53 : Nat) ({ cls := "java/util/LinkedList", name := "linkFirst", desc := "(Ljava/lang/Object;)V" } : Jvm.MethodName)) ∈ lw_all := lw_g (lw_at lw_m9 42 rfl) rfl
theorem q2074 : (Jvm.Cond.privateMethod ({ cls := "java/util/LinkedList", name := "linkFirst", desc := "(Ljava/lang/Object;)V" } : Jvm.MethodName)) ∈ lw_tbl := lw_at lw_m9 43 rfl
theorem q2075 : (Jvm.Cond.instanceMethod ({ cls := "java/util/LinkedList", name := "linkFirst", desc := "(Ljava/lang/Object;)V" } : Jvm.MethodName)) ∈ lw_all := lw_g (lw_at lw_m9 44 rfl) rfl
theorem q2076 : (Jvm.Cond.code ({ cls := "java/util/LinkedList", name := "linkFirst", desc := "(Ljava/lang/Object;)V" } : Jvm.MethodName) prog_60_method_3_code (4 : Nat) (Option.none : Option Jvm.ClassFile.FieldType)) ∈ lw_all := lw_g (lw_at lw_m9 45 rfl) rfl
theorem q2315 : (Jvm.Cond.castable "java/util/LinkedList" "java/lang/Iterable") ∈ lw_tbl := lw_at lw_m10 44 rfl
theorem q2316 : (Jvm.Cond.selects "java/util/LinkedList" ({ cls := "java/lang/Iterable", name := "iterator", desc := "()Ljava/util/Iterator;" } : Jvm.MethodName) ({ cls := "java/util/AbstractSequentialList", name := "iterator", desc := "()Ljava/util/Iterator;" } : Jvm.MethodName)) ∈ lw_all := lw_g (lw_at lw_m10 45 rfl) rfl
theorem q2400 : (Jvm.Cond.instanceMethod ({ cls := "java/util/LinkedList", name := "getFirst", desc := "()Ljava/lang/Object;" } : Jvm.MethodName)) ∈ lw_all := lw_g (lw_at lw_m10 129 rfl) rfl
theorem q2401 : (Jvm.Cond.selects "java/util/LinkedList" ({ cls := "java/util/LinkedList", name := "getFirst", desc := "()Ljava/lang/Object;" } : Jvm.MethodName) ({ cls := "java/util/LinkedList", name := "getFirst", desc := "()Ljava/lang/Object;" } : Jvm.MethodName)) ∈ lw_all := lw_g (lw_at lw_m10 130 rfl) rfl
theorem q2402 : (Jvm.Cond.code ({ cls := "java/util/LinkedList", name := "getFirst", desc := "()Ljava/lang/Object;" } : Jvm.MethodName) prog_60_method_9_code (2 : Nat) (Option.some (Jvm.ClassFile.FieldType.object "java/lang/Object"))) ∈ lw_all := lw_g (lw_at lw_m10 131 rfl) rfl
theorem q2404 : (Jvm.Cond.sameMethod "java/util/LinkedList" "java/util/AbstractSequentialList" "iterator" "()Ljava/util/Iterator;") ∈ lw_all := lw_g (lw_at lw_m10 133 rfl) rfl
theorem q2406 : (Jvm.Cond.selects "java/util/LinkedList" ({ cls := "java/util/LinkedList", name := "iterator", desc := "()Ljava/util/Iterator;" } : Jvm.MethodName) ({ cls := "java/util/AbstractSequentialList", name := "iterator", desc := "()Ljava/util/Iterator;" } : Jvm.MethodName)) ∈ lw_all := lw_g (lw_at lw_m10 135 rfl) rfl
theorem q3048 : (Jvm.Cond.selects "java/util/LinkedList" ({ cls := "java/util/LinkedList", name := "size", desc := "()I" } : Jvm.MethodName) ({ cls := "java/util/LinkedList", name := "size", desc := "()I" } : Jvm.MethodName)) ∈ lw_all := lw_g (lw_at lw_m13 57 rfl) rfl
theorem q3049 : (Jvm.Cond.selects "java/util/LinkedList" ({ cls := "java/util/LinkedList", name := "get", desc := "(I)Ljava/lang/Object;" } : Jvm.MethodName) ({ cls := "java/util/LinkedList", name := "get", desc := "(I)Ljava/lang/Object;" } : Jvm.MethodName)) ∈ lw_all := lw_g (lw_at lw_m13 58 rfl) rfl
theorem q3077 : (Jvm.Cond.castable "java/util/LinkedList" "java/lang/Object") ∈ lw_tbl := lw_at lw_m13 86 rfl
theorem in_J31 : ∀ w ∈ wsJ310, w ∈ lw_all := lw_in wsJ310 [2067, 2061, 2063, 2065] (by decide +kernel) (by decide +kernel)
/-! java/util/ArrayDeque$DeqIterator -/
set_option maxRecDepth 100000
def RJ32 : String := "java/util/ArrayDeque$DeqIterator"
def TJ32 : u_T := fun k => match k with
  | 0 => ("java/util/ArrayDeque$DeqIterator", "cursor", "I", false)
  | 1 => ("java/util/ArrayDeque$DeqIterator", "remaining", "I", false)
  | 2 => ("java/util/ArrayDeque$DeqIterator", "lastRet", "I", false)
  | _ => ("java/util/ArrayDeque$DeqIterator", "this$0", "Ljava/util/ArrayDeque;", true)
def tyJ32 : Nat → FieldType := fun k => match k with
  | 0 => .int
  | 1 => .int
  | 2 => .int
  | _ => .object "java/util/ArrayDeque"
abbrev wsJ320 : List Cond := u_ws RJ32 TJ32 4
theorem nmJ32 : ∀ a, a < 4 → ∀ b, b < 4 → a ≠ b → (TJ32 a).2.1 ≠ (TJ32 b).2.1 := by decide +kernel
theorem tyJ32_ok : ∀ k, k < 4 → parseFieldDescriptor (TJ32 k).2.2.1 = some (tyJ32 k) := by decide +kernel
abbrev cJ32_hasNext : ByteArray := prog_51_method_2_code
def yJ32_hasNext : MethodName := ⟨RJ32, "hasNext", "()Z"⟩
def dkwJ32_hasNext_0 : List UInt8 := [42, 180, 0, 19, 158, 0, 7, 4, 167, 0, 4, 3, 172]
abbrev dktJ32_hasNext_0 : List UInt8 := dkwJ32_hasNext_0 ++ []
theorem dksJ32_hasNext_0 : cJ32_hasNext.data.toList.drop 0 = dktJ32_hasNext_0 := by decide +kernel
theorem dJ32_hasNext_0 : decode cJ32_hasNext 0 = .ok (.aload_n 0, 1) := dk_42 (dk_at dksJ32_hasNext_0 0 rfl rfl)
theorem dJ32_hasNext_1 : decode cJ32_hasNext 1 = .ok (.getfield 19, 3) := dk_180 0 19 (dk_at dksJ32_hasNext_0 1 rfl rfl)
theorem dJ32_hasNext_4 : decode cJ32_hasNext 4 = .ok (.ifCond .le 7, 3) := dk_158 0 7 (dk_at dksJ32_hasNext_0 4 rfl rfl)
theorem dJ32_hasNext_7 : decode cJ32_hasNext 7 = .ok (.iconst 1, 1) := dk_4 (dk_at dksJ32_hasNext_0 7 rfl rfl)
theorem dJ32_hasNext_8 : decode cJ32_hasNext 8 = .ok (.goto 4, 3) := dk_167 0 4 (dk_at dksJ32_hasNext_0 8 rfl rfl)
theorem dJ32_hasNext_11 : decode cJ32_hasNext 11 = .ok (.iconst 0, 1) := dk_3 (dk_at dksJ32_hasNext_0 11 rfl rfl)
theorem dJ32_hasNext_12 : decode cJ32_hasNext 12 = .ok (.ireturn, 1) := dk_172 (dk_at dksJ32_hasNext_0 12 rfl rfl)
abbrev cJ32_next : ByteArray := prog_51_method_3_code
def yJ32_next : MethodName := ⟨RJ32, "next", "()Ljava/lang/Object;"⟩
def dkwJ32_next_2 : List UInt8 := [181, 0, 29, 42, 89, 180, 0, 19, 4, 100, 181, 0, 19, 44, 176]
abbrev dktJ32_next_2 : List UInt8 := dkwJ32_next_2 ++ []
def dkwJ32_next_1 : List UInt8 := [42, 180, 0, 29, 184, 0, 39, 77, 42, 42, 42, 180, 0, 29, 90, 181, 0, 23, 43, 190, 184, 0, 43]
abbrev dktJ32_next_1 : List UInt8 := dkwJ32_next_1 ++ dktJ32_next_2
def dkwJ32_next_0 : List UInt8 := [42, 180, 0, 19, 157, 0, 11, 187, 0, 32, 89, 183, 0, 34, 191, 42, 180, 0, 1, 180, 0, 35, 76, 43]
abbrev dktJ32_next_0 : List UInt8 := dkwJ32_next_0 ++ dktJ32_next_1
theorem dksJ32_next_0 : cJ32_next.data.toList.drop 0 = dktJ32_next_0 := by decide +kernel
theorem dksJ32_next_1 : cJ32_next.data.toList.drop 24 = dktJ32_next_1 := dk_seg dksJ32_next_0 24 rfl rfl
theorem dksJ32_next_2 : cJ32_next.data.toList.drop 47 = dktJ32_next_2 := dk_seg dksJ32_next_1 23 rfl rfl
theorem dJ32_next_0 : decode cJ32_next 0 = .ok (.aload_n 0, 1) := dk_42 (dk_at dksJ32_next_0 0 rfl rfl)
theorem dJ32_next_1 : decode cJ32_next 1 = .ok (.getfield 19, 3) := dk_180 0 19 (dk_at dksJ32_next_0 1 rfl rfl)
theorem dJ32_next_4 : decode cJ32_next 4 = .ok (.ifCond .gt 11, 3) := dk_157 0 11 (dk_at dksJ32_next_0 4 rfl rfl)
theorem dJ32_next_7 : decode cJ32_next 7 = .ok (.new 32, 3) := dk_187 0 32 (dk_at dksJ32_next_0 7 rfl rfl)
theorem dJ32_next_10 : decode cJ32_next 10 = .ok (.dup, 1) := dk_89 (dk_at dksJ32_next_0 10 rfl rfl)
theorem dJ32_next_11 : decode cJ32_next 11 = .ok (.invokespecial 34, 3) := dk_183 0 34 (dk_at dksJ32_next_0 11 rfl rfl)
theorem dJ32_next_14 : decode cJ32_next 14 = .ok (.athrow, 1) := dk_191 (dk_at dksJ32_next_0 14 rfl rfl)
theorem dJ32_next_15 : decode cJ32_next 15 = .ok (.aload_n 0, 1) := dk_42 (dk_at dksJ32_next_0 15 rfl rfl)
theorem dJ32_next_16 : decode cJ32_next 16 = .ok (.getfield 1, 3) := dk_180 0 1 (dk_at dksJ32_next_0 16 rfl rfl)
theorem dJ32_next_19 : decode cJ32_next 19 = .ok (.getfield 35, 3) := dk_180 0 35 (dk_at dksJ32_next_0 19 rfl rfl)
theorem dJ32_next_22 : decode cJ32_next 22 = .ok (.astore_n 1, 1) := dk_76 (dk_at dksJ32_next_0 22 rfl rfl)
theorem dJ32_next_23 : decode cJ32_next 23 = .ok (.aload_n 1, 1) := dk_43 (dk_at dksJ32_next_0 23 rfl rfl)
theorem dJ32_next_24 : decode cJ32_next 24 = .ok (.aload_n 0, 1) := dk_42 (dk_at dksJ32_next_1 0 rfl rfl)
theorem dJ32_next_25 : decode cJ32_next 25 = .ok (.getfield 29, 3) := dk_180 0 29 (dk_at dksJ32_next_1 1 rfl rfl)
theorem dJ32_next_28 : decode cJ32_next 28 = .ok (.invokestatic 39, 3) := dk_184 0 39 (dk_at dksJ32_next_1 4 rfl rfl)
theorem dJ32_next_31 : decode cJ32_next 31 = .ok (.astore_n 2, 1) := dk_77 (dk_at dksJ32_next_1 7 rfl rfl)
theorem dJ32_next_32 : decode cJ32_next 32 = .ok (.aload_n 0, 1) := dk_42 (dk_at dksJ32_next_1 8 rfl rfl)
theorem dJ32_next_33 : decode cJ32_next 33 = .ok (.aload_n 0, 1) := dk_42 (dk_at dksJ32_next_1 9 rfl rfl)
theorem dJ32_next_34 : decode cJ32_next 34 = .ok (.aload_n 0, 1) := dk_42 (dk_at dksJ32_next_1 10 rfl rfl)
theorem dJ32_next_35 : decode cJ32_next 35 = .ok (.getfield 29, 3) := dk_180 0 29 (dk_at dksJ32_next_1 11 rfl rfl)
theorem dJ32_next_38 : decode cJ32_next 38 = .ok (.dup_x1, 1) := dk_90 (dk_at dksJ32_next_1 14 rfl rfl)
theorem dJ32_next_39 : decode cJ32_next 39 = .ok (.putfield 23, 3) := dk_181 0 23 (dk_at dksJ32_next_1 15 rfl rfl)
theorem dJ32_next_42 : decode cJ32_next 42 = .ok (.aload_n 1, 1) := dk_43 (dk_at dksJ32_next_1 18 rfl rfl)
theorem dJ32_next_43 : decode cJ32_next 43 = .ok (.arraylength, 1) := dk_190 (dk_at dksJ32_next_1 19 rfl rfl)
theorem dJ32_next_44 : decode cJ32_next 44 = .ok (.invokestatic 43, 3) := dk_184 0 43 (dk_at dksJ32_next_1 20 rfl rfl)
theorem dJ32_next_47 : decode cJ32_next 47 = .ok (.putfield 29, 3) := dk_181 0 29 (dk_at dksJ32_next_2 0 rfl rfl)
theorem dJ32_next_50 : decode cJ32_next 50 = .ok (.aload_n 0, 1) := dk_42 (dk_at dksJ32_next_2 3 rfl rfl)
theorem dJ32_next_51 : decode cJ32_next 51 = .ok (.dup, 1) := dk_89 (dk_at dksJ32_next_2 4 rfl rfl)
theorem dJ32_next_52 : decode cJ32_next 52 = .ok (.getfield 19, 3) := dk_180 0 19 (dk_at dksJ32_next_2 5 rfl rfl)
theorem dJ32_next_55 : decode cJ32_next 55 = .ok (.iconst 1, 1) := dk_4 (dk_at dksJ32_next_2 8 rfl rfl)
theorem dJ32_next_56 : decode cJ32_next 56 = .ok (.isub, 1) := dk_100 (dk_at dksJ32_next_2 9 rfl rfl)
theorem dJ32_next_57 : decode cJ32_next 57 = .ok (.putfield 19, 3) := dk_181 0 19 (dk_at dksJ32_next_2 10 rfl rfl)
theorem dJ32_next_60 : decode cJ32_next 60 = .ok (.aload_n 2, 1) := dk_44 (dk_at dksJ32_next_2 13 rfl rfl)
theorem dJ32_next_61 : decode cJ32_next 61 = .ok (.areturn, 1) := dk_176 (dk_at dksJ32_next_2 14 rfl rfl)
abbrev cJ32_init : ByteArray := prog_51_method_1_code
def yJ32_init : MethodName := ⟨RJ32, "<init>", "(Ljava/util/ArrayDeque;)V"⟩
def dkwJ32_init_1 : List UInt8 := [181, 0, 23, 42, 43, 180, 0, 26, 181, 0, 29, 177]
abbrev dktJ32_init_1 : List UInt8 := dkwJ32_init_1 ++ []
def dkwJ32_init_0 : List UInt8 := [42, 43, 181, 0, 1, 42, 183, 0, 7, 42, 42, 180, 0, 1, 182, 0, 13, 181, 0, 19, 42, 2]
abbrev dktJ32_init_0 : List UInt8 := dkwJ32_init_0 ++ dktJ32_init_1
theorem dksJ32_init_0 : cJ32_init.data.toList.drop 0 = dktJ32_init_0 := by decide +kernel
theorem dksJ32_init_1 : cJ32_init.data.toList.drop 22 = dktJ32_init_1 := dk_seg dksJ32_init_0 22 rfl rfl
theorem dJ32_init_0 : decode cJ32_init 0 = .ok (.aload_n 0, 1) := dk_42 (dk_at dksJ32_init_0 0 rfl rfl)
theorem dJ32_init_1 : decode cJ32_init 1 = .ok (.aload_n 1, 1) := dk_43 (dk_at dksJ32_init_0 1 rfl rfl)
theorem dJ32_init_2 : decode cJ32_init 2 = .ok (.putfield 1, 3) := dk_181 0 1 (dk_at dksJ32_init_0 2 rfl rfl)
theorem dJ32_init_5 : decode cJ32_init 5 = .ok (.aload_n 0, 1) := dk_42 (dk_at dksJ32_init_0 5 rfl rfl)
theorem dJ32_init_6 : decode cJ32_init 6 = .ok (.invokespecial 7, 3) := dk_183 0 7 (dk_at dksJ32_init_0 6 rfl rfl)
theorem dJ32_init_9 : decode cJ32_init 9 = .ok (.aload_n 0, 1) := dk_42 (dk_at dksJ32_init_0 9 rfl rfl)
theorem dJ32_init_10 : decode cJ32_init 10 = .ok (.aload_n 0, 1) := dk_42 (dk_at dksJ32_init_0 10 rfl rfl)
theorem dJ32_init_11 : decode cJ32_init 11 = .ok (.getfield 1, 3) := dk_180 0 1 (dk_at dksJ32_init_0 11 rfl rfl)
theorem dJ32_init_14 : decode cJ32_init 14 = .ok (.invokevirtual 13, 3) := dk_182 0 13 (dk_at dksJ32_init_0 14 rfl rfl)
theorem dJ32_init_17 : decode cJ32_init 17 = .ok (.putfield 19, 3) := dk_181 0 19 (dk_at dksJ32_init_0 17 rfl rfl)
theorem dJ32_init_20 : decode cJ32_init 20 = .ok (.aload_n 0, 1) := dk_42 (dk_at dksJ32_init_0 20 rfl rfl)
theorem dJ32_init_21 : decode cJ32_init 21 = .ok (.iconst (-1), 1) := dk_2 (dk_at dksJ32_init_0 21 rfl rfl)
theorem dJ32_init_22 : decode cJ32_init 22 = .ok (.putfield 23, 3) := dk_181 0 23 (dk_at dksJ32_init_1 0 rfl rfl)
theorem dJ32_init_25 : decode cJ32_init 25 = .ok (.aload_n 0, 1) := dk_42 (dk_at dksJ32_init_1 3 rfl rfl)
theorem dJ32_init_26 : decode cJ32_init 26 = .ok (.aload_n 1, 1) := dk_43 (dk_at dksJ32_init_1 4 rfl rfl)
theorem dJ32_init_27 : decode cJ32_init 27 = .ok (.getfield 26, 3) := dk_180 0 26 (dk_at dksJ32_init_1 5 rfl rfl)
theorem dJ32_init_30 : decode cJ32_init 30 = .ok (.putfield 29, 3) := dk_181 0 29 (dk_at dksJ32_init_1 8 rfl rfl)
theorem dJ32_init_33 : decode cJ32_init 33 = .ok (.return_, 1) := dk_177 (dk_at dksJ32_init_1 11 rfl rfl)
theorem q160 : (Jvm.Cond.initialized "java/util/ArrayDeque$DeqIterator") ∈ lw_all := lw_g (lw_at lw_m1 49 rfl) rfl
theorem q648 : (Jvm.Cond.fieldLink "java/util/ArrayDeque$DeqIterator" (35 : Nat) "java/util/ArrayDeque" "elements" "[Ljava/lang/Object;") ∈ lw_all := lw_g (lw_at lw_m3 57 rfl) rfl
theorem q649 : (Jvm.Cond.fieldLink "java/util/ArrayDeque$DeqIterator" (26 : Nat) "java/util/ArrayDeque" "head" "I") ∈ lw_all := lw_g (lw_at lw_m3 58 rfl) rfl
theorem q1002 : (Jvm.Cond.selects "java/util/ArrayDeque$DeqIterator" ({ cls := "java/lang/Object", name := "getClass", desc := "()Ljava/lang/Class;" } : Jvm.MethodName) ({ cls := "java/lang/Object", name := "getClass", desc := "()Ljava/lang/Class;" } : Jvm.MethodName)) ∈ lw_all := lw_g (lw_at lw_m4 171 rfl) rfl
theorem q1562 : (Jvm.Cond.castable "java/util/ArrayDeque$DeqIterator" "java/util/Iterator") ∈ lw_tbl := lw_at lw_m7 11 rfl
theorem q1563 : (Jvm.Cond.selects "java/util/ArrayDeque$DeqIterator" ({ cls := "java/util/Iterator", name := "hasNext", desc := "()Z" } : Jvm.MethodName) ({ cls := "java/util/ArrayDeque$DeqIterator", name := "hasNext", desc := "()Z" } : Jvm.MethodName)) ∈ lw_all := lw_g (lw_at lw_m7 12 rfl) rfl
theorem q1564 : (Jvm.Cond.unhidden "java/util/ArrayDeque$DeqIterator" "hasNext" "()Z") ∈ lw_tbl := lw_at lw_m7 13 rfl
theorem q1565 : (Jvm.Cond.instanceMethod ({ cls := "java/util/ArrayDeque$DeqIterator", name := "hasNext", desc := "()Z" } : Jvm.MethodName)) ∈ lw_all := lw_g (lw_at lw_m7 14 rfl) rfl
theorem q1566 : (Jvm.Cond.publicMethod ({ cls := "java/util/ArrayDeque$DeqIterator", name := "hasNext", desc := "()Z" } : Jvm.MethodName)) ∈ lw_tbl := lw_at lw_m7 15 rfl
theorem q1567 : (Jvm.Cond.code ({ cls := "java/util/ArrayDeque$DeqIterator", name := "hasNext", desc := "()Z" } : Jvm.MethodName) prog_51_method_2_code (1 : Nat) (Option.some Jvm.ClassFile.FieldType.boolean)) ∈ lw_all := lw_g (lw_at lw_m7 16 rfl) rfl
theorem q1672 : (Jvm.Cond.selects "java/util/ArrayDeque$DeqIterator" ({ cls := "java/util/Iterator", name := "next", desc := "()Ljava/lang/Object;" } : Jvm.MethodName) ({ cls := "java/util/ArrayDeque$DeqIterator", name := "next", desc := "()Ljava/lang/Object;" } : Jvm.MethodName)) ∈ lw_all := lw_g (lw_at lw_m7 121 rfl) rfl
theorem q1673 : (Jvm.Cond.unhidden "java/util/ArrayDeque$DeqIterator" "next" "()Ljava/lang/Object;") ∈ lw_tbl := lw_at lw_m7 122 rfl
theorem q1674 : (Jvm.Cond.instanceMethod ({ cls := "java/util/ArrayDeque$DeqIterator", name := "next", desc := "()Ljava/lang/Object;" } : Jvm.MethodName)) ∈ lw_all := lw_g (lw_at lw_m7 123 rfl) rfl
theorem q1675 : (Jvm.Cond.publicMethod ({ cls := "java/util/ArrayDeque$DeqIterator", name := "next", desc := "()Ljava/lang/Object;" } : Jvm.MethodName)) ∈ lw_tbl := lw_at lw_m7 124 rfl
theorem q1676 : (Jvm.Cond.code ({ cls := "java/util/ArrayDeque$DeqIterator", name := "next", desc := "()Ljava/lang/Object;" } : Jvm.MethodName) prog_51_method_3_code (3 : Nat) (Option.some (Jvm.ClassFile.FieldType.object "java/lang/Object"))) ∈ lw_all := lw_g (lw_at lw_m7 125 rfl) rfl
theorem q1677 : (Jvm.Cond.methodLink "java/util/ArrayDeque$DeqIterator" (39 : Nat) ({ cls := "java/util/ArrayDeque", name := "nonNullElementAt", desc := "([Ljava/lang/Object;I)Ljava/lang/Object;" } : Jvm.MethodName)) ∈ lw_all := lw_g (lw_at lw_m7 126 rfl) rfl
theorem q1680 : (Jvm.Cond.methodLink "java/util/ArrayDeque$DeqIterator" (43 : Nat) ({ cls := "java/util/ArrayDeque", name := "inc", desc := "(II)I" } : Jvm.MethodName)) ∈ lw_all := lw_g (lw_at lw_m7 129 rfl) rfl
theorem q2294 : (Jvm.Cond.instantiable "java/util/ArrayDeque$DeqIterator" (4 : Nat)) ∈ lw_all := lw_g (lw_at lw_m10 23 rfl) rfl
theorem q2296 : (Jvm.Cond.instanceMethod ({ cls := "java/util/ArrayDeque$DeqIterator", name := "<init>", desc := "(Ljava/util/ArrayDeque;)V" } : Jvm.MethodName)) ∈ lw_all := lw_g (lw_at lw_m10 25 rfl) rfl
theorem q2297 : (Jvm.Cond.code ({ cls := "java/util/ArrayDeque$DeqIterator", name := "<init>", desc := "(Ljava/util/ArrayDeque;)V" } : Jvm.MethodName) prog_51_method_1_code (2 : Nat) (Option.none : Option Jvm.ClassFile.FieldType)) ∈ lw_all := lw_g (lw_at lw_m10 26 rfl) rfl
theorem q2298 : (Jvm.Cond.methodLink "java/util/ArrayDeque$DeqIterator" (7 : Nat) ({ cls := "java/lang/Object", name := "<init>", desc := "()V" } : Jvm.MethodName)) ∈ lw_all := lw_g (lw_at lw_m10 27 rfl) rfl
theorem q2299 : (Jvm.Cond.methodLink "java/util/ArrayDeque$DeqIterator" (13 : Nat) ({ cls := "java/util/ArrayDeque", name := "size", desc := "()I" } : Jvm.MethodName)) ∈ lw_all := lw_g (lw_at lw_m10 28 rfl) rfl
theorem q2300 : (Jvm.Cond.fieldLink "java/util/ArrayDeque$DeqIterator" (29 : Nat) "java/util/ArrayDeque$DeqIterator" "cursor" "I") ∈ lw_all := lw_g (lw_at lw_m10 29 rfl) rfl
theorem q2301 : (Jvm.Cond.fieldLink "java/util/ArrayDeque$DeqIterator" (19 : Nat) "java/util/ArrayDeque$DeqIterator" "remaining" "I") ∈ lw_all := lw_g (lw_at lw_m10 30 rfl) rfl
theorem q2302 : (Jvm.Cond.fieldLink "java/util/ArrayDeque$DeqIterator" (23 : Nat) "java/util/ArrayDeque$DeqIterator" "lastRet" "I") ∈ lw_all := lw_g (lw_at lw_m10 31 rfl) rfl
theorem q2303 : (Jvm.Cond.fieldLink "java/util/ArrayDeque$DeqIterator" (1 : Nat) "java/util/ArrayDeque$DeqIterator" "this$0" "Ljava/util/ArrayDeque;") ∈ lw_all := lw_g (lw_at lw_m10 32 rfl) rfl
theorem q2304 : (Jvm.Cond.lays "java/util/ArrayDeque$DeqIterator" "java/util/ArrayDeque$DeqIterator" "cursor" "I") ∈ lw_all := lw_g (lw_at lw_m10 33 rfl) rfl
theorem q2305 : (Jvm.Cond.soleField "java/util/ArrayDeque$DeqIterator" "cursor") ∈ lw_all := lw_g (lw_at lw_m10 34 rfl) rfl
theorem q2306 : (Jvm.Cond.lays "java/util/ArrayDeque$DeqIterator" "java/util/ArrayDeque$DeqIterator" "remaining" "I") ∈ lw_all := lw_g (lw_at lw_m10 35 rfl) rfl
theorem q2307 : (Jvm.Cond.soleField "java/util/ArrayDeque$DeqIterator" "remaining") ∈ lw_all := lw_g (lw_at lw_m10 36 rfl) rfl
theorem q2308 : (Jvm.Cond.lays "java/util/ArrayDeque$DeqIterator" "java/util/ArrayDeque$DeqIterator" "lastRet" "I") ∈ lw_all := lw_g (lw_at lw_m10 37 rfl) rfl
theorem q2309 : (Jvm.Cond.soleField "java/util/ArrayDeque$DeqIterator" "lastRet") ∈ lw_all := lw_g (lw_at lw_m10 38 rfl) rfl
theorem q2310 : (Jvm.Cond.laysFinal "java/util/ArrayDeque$DeqIterator" "java/util/ArrayDeque$DeqIterator" "this$0" "Ljava/util/ArrayDeque;") ∈ lw_all := lw_g (lw_at lw_m10 39 rfl) rfl
theorem q2311 : (Jvm.Cond.soleField "java/util/ArrayDeque$DeqIterator" "this$0") ∈ lw_all := lw_g (lw_at lw_m10 40 rfl) rfl
theorem q2312 : (Jvm.Cond.superclass "java/util/ArrayDeque$DeqIterator" "java/lang/Object") ∈ lw_all := lw_g (lw_at lw_m10 41 rfl) rfl
theorem q3087 : (Jvm.Cond.castable "java/util/ArrayDeque$DeqIterator" "java/lang/Object") ∈ lw_tbl := lw_at lw_m13 96 rfl
theorem in_J32 : ∀ w ∈ wsJ320, w ∈ lw_all := lw_in wsJ320 [2304, 2306, 2308, 2310] (by decide +kernel) (by decide +kernel)
/-! java/lang/StringIndexOutOfBoundsException -/
set_option maxRecDepth 100000
def RJ33 : String := "java/lang/StringIndexOutOfBoundsException"
def TJ33 : u_T := fun k => match k with
  | 0 => ("java/lang/Throwable", "backtrace", "Ljava/lang/Object;", false)
  | 1 => ("java/lang/Throwable", "detailMessage", "Ljava/lang/String;", false)
  | 2 => ("java/lang/Throwable", "cause", "Ljava/lang/Throwable;", false)
  | 3 => ("java/lang/Throwable", "stackTrace", "[Ljava/lang/StackTraceElement;", false)
  | 4 => ("java/lang/Throwable", "depth", "I", false)
  | _ => ("java/lang/Throwable", "suppressedExceptions", "Ljava/util/List;", false)
def tyJ33 : Nat → FieldType := fun k => match k with
  | 0 => .object "java/lang/Object"
  | 1 => .object "java/lang/String"
  | 2 => .object "java/lang/Throwable"
  | 3 => .array (.object "java/lang/StackTraceElement")
  | 4 => .int
  | _ => .object "java/util/List"
abbrev wsJ330 : List Cond := u_ws RJ33 TJ33 6
theorem nmJ33 : ∀ a, a < 6 → ∀ b, b < 6 → a ≠ b → (TJ33 a).2.1 ≠ (TJ33 b).2.1 := by decide +kernel
theorem tyJ33_ok : ∀ k, k < 6 → parseFieldDescriptor (TJ33 k).2.2.1 = some (tyJ33 k) := by decide +kernel
abbrev cJ33_init : ByteArray := prog_37_method_3_code
def yJ33_init : MethodName := ⟨RJ33, "<init>", "(I)V"⟩
def dkwJ33_init_0 : List UInt8 := [42, 187, 0, 10, 89, 183, 0, 12, 18, 13, 182, 0, 15, 27, 182, 0, 19, 182, 0, 22, 183, 0, 7, 177]
abbrev dktJ33_init_0 : List UInt8 := dkwJ33_init_0 ++ []
theorem dksJ33_init_0 : cJ33_init.data.toList.drop 0 = dktJ33_init_0 := by decide +kernel
theorem dJ33_init_0 : decode cJ33_init 0 = .ok (.aload_n 0, 1) := dk_42 (dk_at dksJ33_init_0 0 rfl rfl)
theorem dJ33_init_1 : decode cJ33_init 1 = .ok (.new 10, 3) := dk_187 0 10 (dk_at dksJ33_init_0 1 rfl rfl)
theorem dJ33_init_4 : decode cJ33_init 4 = .ok (.dup, 1) := dk_89 (dk_at dksJ33_init_0 4 rfl rfl)
theorem dJ33_init_5 : decode cJ33_init 5 = .ok (.invokespecial 12, 3) := dk_183 0 12 (dk_at dksJ33_init_0 5 rfl rfl)
theorem dJ33_init_8 : decode cJ33_init 8 = .ok (.ldc 13, 2) := dk_18 13 (dk_at dksJ33_init_0 8 rfl rfl)
theorem dJ33_init_10 : decode cJ33_init 10 = .ok (.invokevirtual 15, 3) := dk_182 0 15 (dk_at dksJ33_init_0 10 rfl rfl)
theorem dJ33_init_13 : decode cJ33_init 13 = .ok (.iload_n 1, 1) := dk_27 (dk_at dksJ33_init_0 13 rfl rfl)
theorem dJ33_init_14 : decode cJ33_init 14 = .ok (.invokevirtual 19, 3) := dk_182 0 19 (dk_at dksJ33_init_0 14 rfl rfl)
theorem dJ33_init_17 : decode cJ33_init 17 = .ok (.invokevirtual 22, 3) := dk_182 0 22 (dk_at dksJ33_init_0 17 rfl rfl)
theorem dJ33_init_20 : decode cJ33_init 20 = .ok (.invokespecial 7, 3) := dk_183 0 7 (dk_at dksJ33_init_0 20 rfl rfl)
theorem dJ33_init_23 : decode cJ33_init 23 = .ok (.return_, 1) := dk_177 (dk_at dksJ33_init_0 23 rfl rfl)
theorem q161 : (Jvm.Cond.initialized "java/lang/StringIndexOutOfBoundsException") ∈ lw_all := lw_g (lw_at lw_m1 50 rfl) rfl
theorem q230 : (Jvm.Cond.selects "java/lang/StringIndexOutOfBoundsException" ({ cls := "java/lang/Throwable", name := "fillInStackTrace", desc := "()Ljava/lang/Throwable;" } : Jvm.MethodName) ({ cls := "java/lang/Throwable", name := "fillInStackTrace", desc := "()Ljava/lang/Throwable;" } : Jvm.MethodName)) ∈ lw_all := lw_g (lw_at lw_m1 119 rfl) rfl
theorem q998 : (Jvm.Cond.selects "java/lang/StringIndexOutOfBoundsException" ({ cls := "java/lang/Object", name := "getClass", desc := "()Ljava/lang/Class;" } : Jvm.MethodName) ({ cls := "java/lang/Object", name := "getClass", desc := "()Ljava/lang/Class;" } : Jvm.MethodName)) ∈ lw_all := lw_g (lw_at lw_m4 167 rfl) rfl
theorem q1643 : (Jvm.Cond.selects "java/lang/StringIndexOutOfBoundsException" ({ cls := "java/lang/Throwable", name := "toString", desc := "()Ljava/lang/String;" } : Jvm.MethodName) ({ cls := "java/lang/Throwable", name := "toString", desc := "()Ljava/lang/String;" } : Jvm.MethodName)) ∈ lw_all := lw_g (lw_at lw_m7 92 rfl) rfl
theorem q1654 : (Jvm.Cond.selects "java/lang/StringIndexOutOfBoundsException" ({ cls := "java/lang/Throwable", name := "getLocalizedMessage", desc := "()Ljava/lang/String;" } : Jvm.MethodName) ({ cls := "java/lang/Throwable", name := "getLocalizedMessage", desc := "()Ljava/lang/String;" } : Jvm.MethodName)) ∈ lw_all := lw_g (lw_at lw_m7 103 rfl) rfl
theorem q1664 : (Jvm.Cond.selects "java/lang/StringIndexOutOfBoundsException" ({ cls := "java/lang/Throwable", name := "getMessage", desc := "()Ljava/lang/String;" } : Jvm.MethodName) ({ cls := "java/lang/Throwable", name := "getMessage", desc := "()Ljava/lang/String;" } : Jvm.MethodName)) ∈ lw_all := lw_g (lw_at lw_m7 113 rfl) rfl
theorem q1835 : (Jvm.Cond.instantiable "java/lang/StringIndexOutOfBoundsException" (6 : Nat)) ∈ lw_all := lw_g (lw_at lw_m8 44 rfl) rfl
theorem q1837 : (Jvm.Cond.instanceMethod ({ cls := "java/lang/StringIndexOutOfBoundsException", name := "<init>", desc := "(I)V" } : Jvm.MethodName)) ∈ lw_all := lw_g (lw_at lw_m8 46 rfl) rfl
theorem q1838 : (Jvm.Cond.code ({ cls := "java/lang/StringIndexOutOfBoundsException", name := "<init>", desc := "(I)V" } : Jvm.MethodName) prog_37_method_3_code (2 : Nat) (Option.none : Option Jvm.ClassFile.FieldType)) ∈ lw_all := lw_g (lw_at lw_m8 47 rfl) rfl
theorem q1839 : (Jvm.Cond.classLink "java/lang/StringIndexOutOfBoundsException" (10 : Nat) "java/lang/StringBuilder") ∈ lw_all := lw_g (lw_at lw_m8 48 rfl) rfl
theorem q1840 : (Jvm.Cond.methodLink "java/lang/StringIndexOutOfBoundsException" (12 : Nat) ({ cls := "java/lang/StringBuilder", name := "<init>", desc := "()V" } : Jvm.MethodName)) ∈ lw_all := lw_g (lw_at lw_m8 49 rfl) rfl
theorem q1841 : (Jvm.Cond.stringRef "java/lang/StringIndexOutOfBoundsException" (13 : Nat) "String index out of range: ") ∈ lw_tbl := lw_at lw_m8 50 rfl
theorem q1842 : (Jvm.Cond.methodLink "java/lang/StringIndexOutOfBoundsException" (15 : Nat) ({ cls := "java/lang/StringBuilder", name := "append", desc := "(Ljava/lang/String;)Ljava/lang/StringBuilder;" } : Jvm.MethodName)) ∈ lw_all := lw_g (lw_at lw_m8 51 rfl) rfl
theorem q1843 : (Jvm.Cond.methodLink "java/lang/StringIndexOutOfBoundsException" (19 : Nat) ({ cls := "java/lang/StringBuilder", name := "append", desc := "(I)Ljava/lang/StringBuilder;" } : Jvm.MethodName)) ∈ lw_all := lw_g (lw_at lw_m8 52 rfl) rfl
theorem q1844 : (Jvm.Cond.methodLink "java/lang/StringIndexOutOfBoundsException" (22 : Nat) ({ cls := "java/lang/StringBuilder", name := "toString", desc := "()Ljava/lang/String;" } : Jvm.MethodName)) ∈ lw_all := lw_g (lw_at lw_m8 53 rfl) rfl
theorem q1845 : (Jvm.Cond.methodLink "java/lang/StringIndexOutOfBoundsException" (7 : Nat) ({ cls := "java/lang/IndexOutOfBoundsException", name := "<init>", desc := "(Ljava/lang/String;)V" } : Jvm.MethodName)) ∈ lw_all := lw_g (lw_at lw_m8 54 rfl) rfl
theorem q1846 : (Jvm.Cond.lays "java/lang/StringIndexOutOfBoundsException" "java/lang/Throwable" "backtrace" "Ljava/lang/Object;") ∈ lw_all := lw_g (lw_at lw_m8 55 rfl) rfl
theorem q1847 : (Jvm.Cond.lays "java/lang/StringIndexOutOfBoundsException" "java/lang/Throwable" "detailMessage" "Ljava/lang/String;") ∈ lw_all := lw_g (lw_at lw_m8 56 rfl) rfl
theorem q1848 : (Jvm.Cond.lays "java/lang/StringIndexOutOfBoundsException" "java/lang/Throwable" "cause" "Ljava/lang/Throwable;") ∈ lw_all := lw_g (lw_at lw_m8 57 rfl) rfl
theorem q1849 : (Jvm.Cond.lays "java/lang/StringIndexOutOfBoundsException" "java/lang/Throwable" "stackTrace" "[Ljava/lang/StackTraceElement;") ∈ lw_all := lw_g (lw_at lw_m8 58 rfl) rfl
theorem q1850 : (Jvm.Cond.lays "java/lang/StringIndexOutOfBoundsException" "java/lang/Throwable" "depth" "I") ∈ lw_all := lw_g (lw_at lw_m8 59 rfl) rfl
theorem q1851 : (Jvm.Cond.lays "java/lang/StringIndexOutOfBoundsException" "java/lang/Throwable" "suppressedExceptions" "Ljava/util/List;") ∈ lw_all := lw_g (lw_at lw_m8 60 rfl) rfl
theorem q1852 : (Jvm.Cond.superclass "java/lang/StringIndexOutOfBoundsException" "java/lang/IndexOutOfBoundsException") ∈ lw_all := lw_g (lw_at lw_m8 61 rfl) rfl
theorem q3055 : (Jvm.Cond.castable "java/lang/StringIndexOutOfBoundsException" "java/lang/IndexOutOfBoundsException") ∈ lw_tbl := lw_at lw_m13 64 rfl
theorem q3088 : (Jvm.Cond.castable "java/lang/StringIndexOutOfBoundsException" "java/lang/Object") ∈ lw_tbl := lw_at lw_m13 97 rfl
theorem in_J33 : ∀ w ∈ wsJ330, w ∈ lw_all := lw_in wsJ330 [1846, 1847, 1848, 1849, 1850, 1851] (by decide +kernel) (by decide +kernel)
/-! java/lang/Object -/
set_option maxRecDepth 100000
def RJ34 : String := "java/lang/Object"
abbrev cJ34_init : ByteArray := object_method_1_code
def yJ34_init : MethodName := ⟨RJ34, "<init>", "()V"⟩
theorem dJ34_init_0 : decode cJ34_init 0 = .ok (.return_, 1) := by decide +kernel
theorem q168 : (Jvm.Cond.instanceMethod ({ cls := "java/lang/Object", name := "<init>", desc := "()V" } : Jvm.MethodName)) ∈ lw_all := lw_g (lw_at lw_m1 57 rfl) rfl
theorem q169 : (Jvm.Cond.code ({ cls := "java/lang/Object", name := "<init>", desc := "()V" } : Jvm.MethodName) object_method_1_code (1 : Nat) (Option.none : Option Jvm.ClassFile.FieldType)) ∈ lw_all := lw_g (lw_at lw_m1 58 rfl) rfl
theorem q307 : (Jvm.Cond.native ({ cls := "java/lang/Object", name := "clone", desc := "()Ljava/lang/Object;" } : Jvm.MethodName)) ∈ lw_all := lw_g (lw_at lw_m1 196 rfl) rfl
theorem q308 : (Jvm.Cond.instanceMethod ({ cls := "java/lang/Object", name := "clone", desc := "()Ljava/lang/Object;" } : Jvm.MethodName)) ∈ lw_all := lw_g (lw_at lw_m1 197 rfl) rfl
theorem q976 : (Jvm.Cond.instanceMethod ({ cls := "java/lang/Object", name := "getClass", desc := "()Ljava/lang/Class;" } : Jvm.MethodName)) ∈ lw_all := lw_g (lw_at lw_m4 145 rfl) rfl
theorem q977 : (Jvm.Cond.sameMethod "java/lang/Object" "java/lang/Object" "getClass" "()Ljava/lang/Class;") ∈ lw_all := lw_g (lw_at lw_m4 146 rfl) rfl
theorem q1011 : (Jvm.Cond.native ({ cls := "java/lang/Object", name := "getClass", desc := "()Ljava/lang/Class;" } : Jvm.MethodName)) ∈ lw_all := lw_g (lw_at lw_m4 180 rfl) rfl
theorem q3050 : (Jvm.Cond.initialized "java/lang/Object") ∈ lw_all := lw_g (lw_at lw_m13 59 rfl) rfl
theorem q3092 : (Jvm.Cond.declares ({ cls := "java/lang/Object", name := "getClass", desc := "()Ljava/lang/Class;" } : Jvm.MethodName)) ∈ lw_tbl := lw_at lw_m13 101 rfl
/-! java/lang/System$2 -/
set_option maxRecDepth 100000
def RJ35 : String := "java/lang/System$2"
abbrev cJ35_getUTF16Char : ByteArray := prog_41_method_45_code
def yJ35_getUTF16Char : MethodName := ⟨RJ35, "getUTF16Char", "([BI)C"⟩
def dkwJ35_getUTF16Char_0 : List UInt8 := [43, 28, 184, 0, 185, 172]
abbrev dktJ35_getUTF16Char_0 : List UInt8 := dkwJ35_getUTF16Char_0 ++ []
theorem dksJ35_getUTF16Char_0 : cJ35_getUTF16Char.data.toList.drop 0 = dktJ35_getUTF16Char_0 := by decide +kernel
theorem dJ35_getUTF16Char_0 : decode cJ35_getUTF16Char 0 = .ok (.aload_n 1, 1) := dk_43 (dk_at dksJ35_getUTF16Char_0 0 rfl rfl)
theorem dJ35_getUTF16Char_1 : decode cJ35_getUTF16Char 1 = .ok (.iload_n 2, 1) := dk_28 (dk_at dksJ35_getUTF16Char_0 1 rfl rfl)
theorem dJ35_getUTF16Char_2 : decode cJ35_getUTF16Char 2 = .ok (.invokestatic 185, 3) := dk_184 0 185 (dk_at dksJ35_getUTF16Char_0 2 rfl rfl)
theorem dJ35_getUTF16Char_5 : decode cJ35_getUTF16Char 5 = .ok (.ireturn, 1) := dk_172 (dk_at dksJ35_getUTF16Char_0 5 rfl rfl)
theorem q858 : (Jvm.Cond.castable "java/lang/System$2" "jdk/internal/access/JavaLangAccess") ∈ lw_tbl := lw_at lw_m4 27 rfl
theorem q859 : (Jvm.Cond.selects "java/lang/System$2" ({ cls := "jdk/internal/access/JavaLangAccess", name := "getUTF16Char", desc := "([BI)C" } : Jvm.MethodName) ({ cls := "java/lang/System$2", name := "getUTF16Char", desc := "([BI)C" } : Jvm.MethodName)) ∈ lw_all := lw_g (lw_at lw_m4 28 rfl) rfl
theorem q860 : (Jvm.Cond.unhidden "java/lang/System$2" "getUTF16Char" "([BI)C") ∈ lw_tbl := lw_at lw_m4 29 rfl
theorem q861 : (Jvm.Cond.instanceMethod ({ cls := "java/lang/System$2", name := "getUTF16Char", desc := "([BI)C" } : Jvm.MethodName)) ∈ lw_all := lw_g (lw_at lw_m4 30 rfl) rfl
theorem q862 : (Jvm.Cond.publicMethod ({ cls := "java/lang/System$2", name := "getUTF16Char", desc := "([BI)C" } : Jvm.MethodName)) ∈ lw_tbl := lw_at lw_m4 31 rfl
theorem q863 : (Jvm.Cond.code ({ cls := "java/lang/System$2", name := "getUTF16Char", desc := "([BI)C" } : Jvm.MethodName) prog_41_method_45_code (3 : Nat) (Option.some Jvm.ClassFile.FieldType.char)) ∈ lw_all := lw_g (lw_at lw_m4 32 rfl) rfl
theorem q864 : (Jvm.Cond.methodLink "java/lang/System$2" (185 : Nat) ({ cls := "java/lang/StringUTF16", name := "getChar", desc := "([BI)C" } : Jvm.MethodName)) ∈ lw_all := lw_g (lw_at lw_m4 33 rfl) rfl
theorem q999 : (Jvm.Cond.selects "java/lang/System$2" ({ cls := "java/lang/Object", name := "getClass", desc := "()Ljava/lang/Class;" } : Jvm.MethodName) ({ cls := "java/lang/Object", name := "getClass", desc := "()Ljava/lang/Class;" } : Jvm.MethodName)) ∈ lw_all := lw_g (lw_at lw_m4 168 rfl) rfl
theorem q3069 : (Jvm.Cond.castable "java/lang/System$2" "java/lang/Object") ∈ lw_tbl := lw_at lw_m13 78 rfl

/-! TreeDiffer -/
set_option maxRecDepth 100000
def RX1 : String := "TreeDiffer"
def TX1 : u_T := fun k => match k with
  | 0 => ("TreeDiffer", "trees", "[LTreeDiffer$Tree;", true)
  | 1 => ("TreeDiffer", "text", "Ljava/lang/StringBuilder;", true)
  | 2 => ("TreeDiffer", "line", "Ljava/lang/StringBuilder;", true)
  | 3 => ("TreeDiffer", "errorPosition", "I", false)
  | 4 => ("TreeDiffer", "script", "LTreeDiffer$Script;", false)
  | _ => ("TreeDiffer", "conflict", "LTreeDiffer$Conflict;", false)
def tyX1 : Nat → FieldType := fun k => match k with
  | 0 => .array (.object "TreeDiffer$Tree")
  | 1 => .object "java/lang/StringBuilder"
  | 2 => .object "java/lang/StringBuilder"
  | 3 => .int
  | 4 => .object "TreeDiffer$Script"
  | _ => .object "TreeDiffer$Conflict"
abbrev wsX10 : List Cond := u_ws RX1 TX1 6
theorem nmX1 : ∀ a, a < 6 → ∀ b, b < 6 → a ≠ b → (TX1 a).2.1 ≠ (TX1 b).2.1 := by decide +kernel
theorem tyX1_ok : ∀ k, k < 6 → parseFieldDescriptor (TX1 k).2.2.1 = some (tyX1 k) := by decide +kernel
abbrev cX1_init : ByteArray := prog_1_method_1_code
def yX1_init : MethodName := ⟨RX1, "<init>", "()V"⟩
def dkwX1_init_3 : List UInt8 := [167, 255, 226, 177]
abbrev dktX1_init_3 : List UInt8 := dkwX1_init_3 ++ []
def dkwX1_init_2 : List UInt8 := [180, 0, 11, 27, 187, 0, 9, 89, 187, 0, 29, 89, 16, 97, 183, 0, 31, 183, 0, 34, 83, 132, 1, 1]
abbrev dktX1_init_2 : List UInt8 := dkwX1_init_2 ++ dktX1_init_3
def dkwX1_init_1 : List UInt8 := [187, 0, 15, 89, 183, 0, 17, 181, 0, 22, 42, 2, 181, 0, 25, 3, 60, 27, 6, 162, 0, 31, 42]
abbrev dktX1_init_1 : List UInt8 := dkwX1_init_1 ++ dktX1_init_2
def dkwX1_init_0 : List UInt8 := [42, 183, 0, 1, 42, 6, 189, 0, 9, 181, 0, 11, 42, 187, 0, 15, 89, 183, 0, 17, 181, 0, 18, 42]
abbrev dktX1_init_0 : List UInt8 := dkwX1_init_0 ++ dktX1_init_1
theorem dksX1_init_0 : cX1_init.data.toList.drop 0 = dktX1_init_0 := by decide +kernel
theorem dksX1_init_1 : cX1_init.data.toList.drop 24 = dktX1_init_1 := dk_seg dksX1_init_0 24 rfl rfl
theorem dksX1_init_2 : cX1_init.data.toList.drop 47 = dktX1_init_2 := dk_seg dksX1_init_1 23 rfl rfl
theorem dksX1_init_3 : cX1_init.data.toList.drop 71 = dktX1_init_3 := dk_seg dksX1_init_2 24 rfl rfl
theorem dX1_init_0 : decode cX1_init 0 = .ok (.aload_n 0, 1) := dk_42 (dk_at dksX1_init_0 0 rfl rfl)
theorem dX1_init_1 : decode cX1_init 1 = .ok (.invokespecial 1, 3) := dk_183 0 1 (dk_at dksX1_init_0 1 rfl rfl)
theorem dX1_init_4 : decode cX1_init 4 = .ok (.aload_n 0, 1) := dk_42 (dk_at dksX1_init_0 4 rfl rfl)
theorem dX1_init_5 : decode cX1_init 5 = .ok (.iconst 3, 1) := dk_6 (dk_at dksX1_init_0 5 rfl rfl)
theorem dX1_init_6 : decode cX1_init 6 = .ok (.anewarray 9, 3) := dk_189 0 9 (dk_at dksX1_init_0 6 rfl rfl)
theorem dX1_init_9 : decode cX1_init 9 = .ok (.putfield 11, 3) := dk_181 0 11 (dk_at dksX1_init_0 9 rfl rfl)
theorem dX1_init_12 : decode cX1_init 12 = .ok (.aload_n 0, 1) := dk_42 (dk_at dksX1_init_0 12 rfl rfl)
theorem dX1_init_13 : decode cX1_init 13 = .ok (.new 15, 3) := dk_187 0 15 (dk_at dksX1_init_0 13 rfl rfl)
theorem dX1_init_16 : decode cX1_init 16 = .ok (.dup, 1) := dk_89 (dk_at dksX1_init_0 16 rfl rfl)
theorem dX1_init_17 : decode cX1_init 17 = .ok (.invokespecial 17, 3) := dk_183 0 17 (dk_at dksX1_init_0 17 rfl rfl)
theorem dX1_init_20 : decode cX1_init 20 = .ok (.putfield 18, 3) := dk_181 0 18 (dk_at dksX1_init_0 20 rfl rfl)
theorem dX1_init_23 : decode cX1_init 23 = .ok (.aload_n 0, 1) := dk_42 (dk_at dksX1_init_0 23 rfl rfl)
theorem dX1_init_24 : decode cX1_init 24 = .ok (.new 15, 3) := dk_187 0 15 (dk_at dksX1_init_1 0 rfl rfl)
theorem dX1_init_27 : decode cX1_init 27 = .ok (.dup, 1) := dk_89 (dk_at dksX1_init_1 3 rfl rfl)
theorem dX1_init_28 : decode cX1_init 28 = .ok (.invokespecial 17, 3) := dk_183 0 17 (dk_at dksX1_init_1 4 rfl rfl)
theorem dX1_init_31 : decode cX1_init 31 = .ok (.putfield 22, 3) := dk_181 0 22 (dk_at dksX1_init_1 7 rfl rfl)
theorem dX1_init_34 : decode cX1_init 34 = .ok (.aload_n 0, 1) := dk_42 (dk_at dksX1_init_1 10 rfl rfl)
theorem dX1_init_35 : decode cX1_init 35 = .ok (.iconst (-1), 1) := dk_2 (dk_at dksX1_init_1 11 rfl rfl)
theorem dX1_init_36 : decode cX1_init 36 = .ok (.putfield 25, 3) := dk_181 0 25 (dk_at dksX1_init_1 12 rfl rfl)
theorem dX1_init_39 : decode cX1_init 39 = .ok (.iconst 0, 1) := dk_3 (dk_at dksX1_init_1 15 rfl rfl)
theorem dX1_init_40 : decode cX1_init 40 = .ok (.istore_n 1, 1) := dk_60 (dk_at dksX1_init_1 16 rfl rfl)
theorem dX1_init_41 : decode cX1_init 41 = .ok (.iload_n 1, 1) := dk_27 (dk_at dksX1_init_1 17 rfl rfl)
theorem dX1_init_42 : decode cX1_init 42 = .ok (.iconst 3, 1) := dk_6 (dk_at dksX1_init_1 18 rfl rfl)
theorem dX1_init_43 : decode cX1_init 43 = .ok (.if_icmp .ge 31, 3) := dk_162 0 31 (dk_at dksX1_init_1 19 rfl rfl)
theorem dX1_init_46 : decode cX1_init 46 = .ok (.aload_n 0, 1) := dk_42 (dk_at dksX1_init_1 22 rfl rfl)
theorem dX1_init_47 : decode cX1_init 47 = .ok (.getfield 11, 3) := dk_180 0 11 (dk_at dksX1_init_2 0 rfl rfl)
theorem dX1_init_50 : decode cX1_init 50 = .ok (.iload_n 1, 1) := dk_27 (dk_at dksX1_init_2 3 rfl rfl)
theorem dX1_init_51 : decode cX1_init 51 = .ok (.new 9, 3) := dk_187 0 9 (dk_at dksX1_init_2 4 rfl rfl)
theorem dX1_init_54 : decode cX1_init 54 = .ok (.dup, 1) := dk_89 (dk_at dksX1_init_2 7 rfl rfl)
theorem dX1_init_55 : decode cX1_init 55 = .ok (.new 29, 3) := dk_187 0 29 (dk_at dksX1_init_2 8 rfl rfl)
theorem dX1_init_58 : decode cX1_init 58 = .ok (.dup, 1) := dk_89 (dk_at dksX1_init_2 11 rfl rfl)
theorem dX1_init_59 : decode cX1_init 59 = .ok (.bipush 97, 2) := dk_16 97 (dk_at dksX1_init_2 12 rfl rfl)
theorem dX1_init_61 : decode cX1_init 61 = .ok (.invokespecial 31, 3) := dk_183 0 31 (dk_at dksX1_init_2 14 rfl rfl)
theorem dX1_init_64 : decode cX1_init 64 = .ok (.invokespecial 34, 3) := dk_183 0 34 (dk_at dksX1_init_2 17 rfl rfl)
theorem dX1_init_67 : decode cX1_init 67 = .ok (.aastore, 1) := dk_83 (dk_at dksX1_init_2 20 rfl rfl)
theorem dX1_init_68 : decode cX1_init 68 = .ok (.iinc 1 1, 3) := dk_132 1 1 (dk_at dksX1_init_2 21 rfl rfl)
theorem dX1_init_71 : decode cX1_init 71 = .ok (.goto (-30), 3) := dk_167 255 226 (dk_at dksX1_init_3 0 rfl rfl)
theorem dX1_init_74 : decode cX1_init 74 = .ok (.return_, 1) := dk_177 (dk_at dksX1_init_3 3 rfl rfl)
abbrev cX1_isConsistent : ByteArray := prog_1_method_56_code
def yX1_isConsistent : MethodName := ⟨RX1, "isConsistent", "()Z"⟩
def dkwX1_isConsistent_9 : List UInt8 := [184, 0, 239, 163, 0, 7, 4, 167, 0, 4, 3, 172]
abbrev dktX1_isConsistent_9 : List UInt8 := dkwX1_isConsistent_9 ++ []
def dkwX1_isConsistent_8 : List UInt8 := [182, 1, 39, 42, 180, 1, 15, 180, 1, 33, 180, 0, 97, 42, 180, 1, 15, 180, 1, 29, 180, 0, 97]
abbrev dktX1_isConsistent_8 : List UInt8 := dkwX1_isConsistent_8 ++ dktX1_isConsistent_9
def dkwX1_isConsistent_7 : List UInt8 := [167, 255, 96, 42, 180, 1, 15, 198, 0, 46, 42, 180, 1, 15, 182, 1, 41, 153, 0, 40, 42, 180, 1, 15]
abbrev dktX1_isConsistent_7 : List UInt8 := dkwX1_isConsistent_7 ++ dktX1_isConsistent_8
def dkwX1_isConsistent_6 : List UInt8 := [180, 0, 11, 28, 50, 184, 0, 242, 159, 0, 5, 3, 172, 132, 2, 1, 167, 255, 135, 132, 1, 1]
abbrev dktX1_isConsistent_6 : List UInt8 := dkwX1_isConsistent_6 ++ dktX1_isConsistent_7
def dkwX1_isConsistent_5 : List UInt8 := [25, 4, 3, 182, 0, 206, 160, 0, 28, 21, 6, 153, 0, 25, 21, 5, 42, 180, 0, 11, 27, 50, 42]
abbrev dktX1_isConsistent_5 : List UInt8 := dkwX1_isConsistent_5 ++ dktX1_isConsistent_6
def dkwX1_isConsistent_4 : List UInt8 := [54, 6, 21, 5, 25, 4, 45, 184, 0, 239, 160, 0, 48, 21, 5, 154, 0, 7, 4, 167, 0, 4, 3, 45]
abbrev dktX1_isConsistent_4 : List UInt8 := dkwX1_isConsistent_4 ++ dktX1_isConsistent_5
def dkwX1_isConsistent_3 : List UInt8 := [182, 0, 101, 16, 7, 163, 0, 17, 25, 4, 182, 0, 101, 16, 7, 163, 0, 7, 4, 167, 0, 4, 3]
abbrev dktX1_isConsistent_3 : List UInt8 := dkwX1_isConsistent_3 ++ dktX1_isConsistent_4
def dkwX1_isConsistent_2 : List UInt8 := [180, 0, 97, 78, 42, 180, 0, 11, 28, 50, 180, 0, 97, 58, 4, 45, 25, 4, 184, 0, 239, 54, 5, 45]
abbrev dktX1_isConsistent_2 : List UInt8 := dkwX1_isConsistent_2 ++ dktX1_isConsistent_3
def dkwX1_isConsistent_1 : List UInt8 := [180, 0, 97, 184, 0, 239, 153, 0, 5, 3, 172, 3, 61, 28, 27, 162, 0, 122, 42, 180, 0, 11, 27, 50]
abbrev dktX1_isConsistent_1 : List UInt8 := dkwX1_isConsistent_1 ++ dktX1_isConsistent_2
def dkwX1_isConsistent_0 : List UInt8 := [3, 60, 27, 6, 162, 0, 161, 42, 180, 0, 11, 27, 50, 180, 0, 97, 42, 180, 0, 11, 27, 50]
abbrev dktX1_isConsistent_0 : List UInt8 := dkwX1_isConsistent_0 ++ dktX1_isConsistent_1
theorem dksX1_isConsistent_0 : cX1_isConsistent.data.toList.drop 0 = dktX1_isConsistent_0 := by decide +kernel
theorem dksX1_isConsistent_1 : cX1_isConsistent.data.toList.drop 22 = dktX1_isConsistent_1 := dk_seg dksX1_isConsistent_0 22 rfl rfl
theorem dksX1_isConsistent_2 : cX1_isConsistent.data.toList.drop 46 = dktX1_isConsistent_2 := dk_seg dksX1_isConsistent_1 24 rfl rfl
theorem dksX1_isConsistent_3 : cX1_isConsistent.data.toList.drop 70 = dktX1_isConsistent_3 := dk_seg dksX1_isConsistent_2 24 rfl rfl
theorem dksX1_isConsistent_4 : cX1_isConsistent.data.toList.drop 93 = dktX1_isConsistent_4 := dk_seg dksX1_isConsistent_3 23 rfl rfl
theorem dksX1_isConsistent_5 : cX1_isConsistent.data.toList.drop 117 = dktX1_isConsistent_5 := dk_seg dksX1_isConsistent_4 24 rfl rfl
theorem dksX1_isConsistent_6 : cX1_isConsistent.data.toList.drop 140 = dktX1_isConsistent_6 := dk_seg dksX1_isConsistent_5 23 rfl rfl
theorem dksX1_isConsistent_7 : cX1_isConsistent.data.toList.drop 162 = dktX1_isConsistent_7 := dk_seg dksX1_isConsistent_6 22 rfl rfl
theorem dksX1_isConsistent_8 : cX1_isConsistent.data.toList.drop 186 = dktX1_isConsistent_8 := dk_seg dksX1_isConsistent_7 24 rfl rfl
theorem dksX1_isConsistent_9 : cX1_isConsistent.data.toList.drop 209 = dktX1_isConsistent_9 := dk_seg dksX1_isConsistent_8 23 rfl rfl
theorem dX1_isConsistent_0 : decode cX1_isConsistent 0 = .ok (.iconst 0, 1) := dk_3 (dk_at dksX1_isConsistent_0 0 rfl rfl)
theorem dX1_isConsistent_1 : decode cX1_isConsistent 1 = .ok (.istore_n 1, 1) := dk_60 (dk_at dksX1_isConsistent_0 1 rfl rfl)
theorem dX1_isConsistent_2 : decode cX1_isConsistent 2 = .ok (.iload_n 1, 1) := dk_27 (dk_at dksX1_isConsistent_0 2 rfl rfl)
theorem dX1_isConsistent_3 : decode cX1_isConsistent 3 = .ok (.iconst 3, 1) := dk_6 (dk_at dksX1_isConsistent_0 3 rfl rfl)
theorem dX1_isConsistent_4 : decode cX1_isConsistent 4 = .ok (.if_icmp .ge 161, 3) := dk_162 0 161 (dk_at dksX1_isConsistent_0 4 rfl rfl)
theorem dX1_isConsistent_7 : decode cX1_isConsistent 7 = .ok (.aload_n 0, 1) := dk_42 (dk_at dksX1_isConsistent_0 7 rfl rfl)
theorem dX1_isConsistent_8 : decode cX1_isConsistent 8 = .ok (.getfield 11, 3) := dk_180 0 11 (dk_at dksX1_isConsistent_0 8 rfl rfl)
theorem dX1_isConsistent_11 : decode cX1_isConsistent 11 = .ok (.iload_n 1, 1) := dk_27 (dk_at dksX1_isConsistent_0 11 rfl rfl)
theorem dX1_isConsistent_12 : decode cX1_isConsistent 12 = .ok (.aaload, 1) := dk_50 (dk_at dksX1_isConsistent_0 12 rfl rfl)
theorem dX1_isConsistent_13 : decode cX1_isConsistent 13 = .ok (.getfield 97, 3) := dk_180 0 97 (dk_at dksX1_isConsistent_0 13 rfl rfl)
theorem dX1_isConsistent_16 : decode cX1_isConsistent 16 = .ok (.aload_n 0, 1) := dk_42 (dk_at dksX1_isConsistent_0 16 rfl rfl)
theorem dX1_isConsistent_17 : decode cX1_isConsistent 17 = .ok (.getfield 11, 3) := dk_180 0 11 (dk_at dksX1_isConsistent_0 17 rfl rfl)
theorem dX1_isConsistent_20 : decode cX1_isConsistent 20 = .ok (.iload_n 1, 1) := dk_27 (dk_at dksX1_isConsistent_0 20 rfl rfl)
theorem dX1_isConsistent_21 : decode cX1_isConsistent 21 = .ok (.aaload, 1) := dk_50 (dk_at dksX1_isConsistent_0 21 rfl rfl)
theorem dX1_isConsistent_22 : decode cX1_isConsistent 22 = .ok (.getfield 97, 3) := dk_180 0 97 (dk_at dksX1_isConsistent_1 0 rfl rfl)
theorem dX1_isConsistent_25 : decode cX1_isConsistent 25 = .ok (.invokestatic 239, 3) := dk_184 0 239 (dk_at dksX1_isConsistent_1 3 rfl rfl)
theorem dX1_isConsistent_28 : decode cX1_isConsistent 28 = .ok (.ifCond .eq 5, 3) := dk_153 0 5 (dk_at dksX1_isConsistent_1 6 rfl rfl)
theorem dX1_isConsistent_31 : decode cX1_isConsistent 31 = .ok (.iconst 0, 1) := dk_3 (dk_at dksX1_isConsistent_1 9 rfl rfl)
theorem dX1_isConsistent_32 : decode cX1_isConsistent 32 = .ok (.ireturn, 1) := dk_172 (dk_at dksX1_isConsistent_1 10 rfl rfl)
theorem dX1_isConsistent_33 : decode cX1_isConsistent 33 = .ok (.iconst 0, 1) := dk_3 (dk_at dksX1_isConsistent_1 11 rfl rfl)
theorem dX1_isConsistent_34 : decode cX1_isConsistent 34 = .ok (.istore_n 2, 1) := dk_61 (dk_at dksX1_isConsistent_1 12 rfl rfl)
theorem dX1_isConsistent_35 : decode cX1_isConsistent 35 = .ok (.iload_n 2, 1) := dk_28 (dk_at dksX1_isConsistent_1 13 rfl rfl)
theorem dX1_isConsistent_36 : decode cX1_isConsistent 36 = .ok (.iload_n 1, 1) := dk_27 (dk_at dksX1_isConsistent_1 14 rfl rfl)
theorem dX1_isConsistent_37 : decode cX1_isConsistent 37 = .ok (.if_icmp .ge 122, 3) := dk_162 0 122 (dk_at dksX1_isConsistent_1 15 rfl rfl)
theorem dX1_isConsistent_40 : decode cX1_isConsistent 40 = .ok (.aload_n 0, 1) := dk_42 (dk_at dksX1_isConsistent_1 18 rfl rfl)
theorem dX1_isConsistent_41 : decode cX1_isConsistent 41 = .ok (.getfield 11, 3) := dk_180 0 11 (dk_at dksX1_isConsistent_1 19 rfl rfl)
theorem dX1_isConsistent_44 : decode cX1_isConsistent 44 = .ok (.iload_n 1, 1) := dk_27 (dk_at dksX1_isConsistent_1 22 rfl rfl)
theorem dX1_isConsistent_45 : decode cX1_isConsistent 45 = .ok (.aaload, 1) := dk_50 (dk_at dksX1_isConsistent_1 23 rfl rfl)
theorem dX1_isConsistent_46 : decode cX1_isConsistent 46 = .ok (.getfield 97, 3) := dk_180 0 97 (dk_at dksX1_isConsistent_2 0 rfl rfl)
theorem dX1_isConsistent_49 : decode cX1_isConsistent 49 = .ok (.astore_n 3, 1) := dk_78 (dk_at dksX1_isConsistent_2 3 rfl rfl)
theorem dX1_isConsistent_50 : decode cX1_isConsistent 50 = .ok (.aload_n 0, 1) := dk_42 (dk_at dksX1_isConsistent_2 4 rfl rfl)
theorem dX1_isConsistent_51 : decode cX1_isConsistent 51 = .ok (.getfield 11, 3) := dk_180 0 11 (dk_at dksX1_isConsistent_2 5 rfl rfl)
theorem dX1_isConsistent_54 : decode cX1_isConsistent 54 = .ok (.iload_n 2, 1) := dk_28 (dk_at dksX1_isConsistent_2 8 rfl rfl)
theorem dX1_isConsistent_55 : decode cX1_isConsistent 55 = .ok (.aaload, 1) := dk_50 (dk_at dksX1_isConsistent_2 9 rfl rfl)
theorem dX1_isConsistent_56 : decode cX1_isConsistent 56 = .ok (.getfield 97, 3) := dk_180 0 97 (dk_at dksX1_isConsistent_2 10 rfl rfl)
theorem dX1_isConsistent_59 : decode cX1_isConsistent 59 = .ok (.astore 4, 2) := dk_58 4 (dk_at dksX1_isConsistent_2 13 rfl rfl)
theorem dX1_isConsistent_61 : decode cX1_isConsistent 61 = .ok (.aload_n 3, 1) := dk_45 (dk_at dksX1_isConsistent_2 15 rfl rfl)
theorem dX1_isConsistent_62 : decode cX1_isConsistent 62 = .ok (.aload 4, 2) := dk_25 4 (dk_at dksX1_isConsistent_2 16 rfl rfl)
theorem dX1_isConsistent_64 : decode cX1_isConsistent 64 = .ok (.invokestatic 239, 3) := dk_184 0 239 (dk_at dksX1_isConsistent_2 18 rfl rfl)
theorem dX1_isConsistent_67 : decode cX1_isConsistent 67 = .ok (.istore 5, 2) := dk_54 5 (dk_at dksX1_isConsistent_2 21 rfl rfl)
theorem dX1_isConsistent_69 : decode cX1_isConsistent 69 = .ok (.aload_n 3, 1) := dk_45 (dk_at dksX1_isConsistent_2 23 rfl rfl)
theorem dX1_isConsistent_70 : decode cX1_isConsistent 70 = .ok (.invokevirtual 101, 3) := dk_182 0 101 (dk_at dksX1_isConsistent_3 0 rfl rfl)
theorem dX1_isConsistent_73 : decode cX1_isConsistent 73 = .ok (.bipush 7, 2) := dk_16 7 (dk_at dksX1_isConsistent_3 3 rfl rfl)
theorem dX1_isConsistent_75 : decode cX1_isConsistent 75 = .ok (.if_icmp .gt 17, 3) := dk_163 0 17 (dk_at dksX1_isConsistent_3 5 rfl rfl)
theorem dX1_isConsistent_78 : decode cX1_isConsistent 78 = .ok (.aload 4, 2) := dk_25 4 (dk_at dksX1_isConsistent_3 8 rfl rfl)
theorem dX1_isConsistent_80 : decode cX1_isConsistent 80 = .ok (.invokevirtual 101, 3) := dk_182 0 101 (dk_at dksX1_isConsistent_3 10 rfl rfl)
theorem dX1_isConsistent_83 : decode cX1_isConsistent 83 = .ok (.bipush 7, 2) := dk_16 7 (dk_at dksX1_isConsistent_3 13 rfl rfl)
theorem dX1_isConsistent_85 : decode cX1_isConsistent 85 = .ok (.if_icmp .gt 7, 3) := dk_163 0 7 (dk_at dksX1_isConsistent_3 15 rfl rfl)
theorem dX1_isConsistent_88 : decode cX1_isConsistent 88 = .ok (.iconst 1, 1) := dk_4 (dk_at dksX1_isConsistent_3 18 rfl rfl)
theorem dX1_isConsistent_89 : decode cX1_isConsistent 89 = .ok (.goto 4, 3) := dk_167 0 4 (dk_at dksX1_isConsistent_3 19 rfl rfl)
theorem dX1_isConsistent_92 : decode cX1_isConsistent 92 = .ok (.iconst 0, 1) := dk_3 (dk_at dksX1_isConsistent_3 22 rfl rfl)
theorem dX1_isConsistent_93 : decode cX1_isConsistent 93 = .ok (.istore 6, 2) := dk_54 6 (dk_at dksX1_isConsistent_4 0 rfl rfl)
theorem dX1_isConsistent_95 : decode cX1_isConsistent 95 = .ok (.iload 5, 2) := dk_21 5 (dk_at dksX1_isConsistent_4 2 rfl rfl)
theorem dX1_isConsistent_97 : decode cX1_isConsistent 97 = .ok (.aload 4, 2) := dk_25 4 (dk_at dksX1_isConsistent_4 4 rfl rfl)
theorem dX1_isConsistent_99 : decode cX1_isConsistent 99 = .ok (.aload_n 3, 1) := dk_45 (dk_at dksX1_isConsistent_4 6 rfl rfl)
theorem dX1_isConsistent_100 : decode cX1_isConsistent 100 = .ok (.invokestatic 239, 3) := dk_184 0 239 (dk_at dksX1_isConsistent_4 7 rfl rfl)
theorem dX1_isConsistent_103 : decode cX1_isConsistent 103 = .ok (.if_icmp .ne 48, 3) := dk_160 0 48 (dk_at dksX1_isConsistent_4 10 rfl rfl)
theorem dX1_isConsistent_106 : decode cX1_isConsistent 106 = .ok (.iload 5, 2) := dk_21 5 (dk_at dksX1_isConsistent_4 13 rfl rfl)
theorem dX1_isConsistent_108 : decode cX1_isConsistent 108 = .ok (.ifCond .ne 7, 3) := dk_154 0 7 (dk_at dksX1_isConsistent_4 15 rfl rfl)
theorem dX1_isConsistent_111 : decode cX1_isConsistent 111 = .ok (.iconst 1, 1) := dk_4 (dk_at dksX1_isConsistent_4 18 rfl rfl)
theorem dX1_isConsistent_112 : decode cX1_isConsistent 112 = .ok (.goto 4, 3) := dk_167 0 4 (dk_at dksX1_isConsistent_4 19 rfl rfl)
theorem dX1_isConsistent_115 : decode cX1_isConsistent 115 = .ok (.iconst 0, 1) := dk_3 (dk_at dksX1_isConsistent_4 22 rfl rfl)
theorem dX1_isConsistent_116 : decode cX1_isConsistent 116 = .ok (.aload_n 3, 1) := dk_45 (dk_at dksX1_isConsistent_4 23 rfl rfl)
theorem dX1_isConsistent_117 : decode cX1_isConsistent 117 = .ok (.aload 4, 2) := dk_25 4 (dk_at dksX1_isConsistent_5 0 rfl rfl)
theorem dX1_isConsistent_119 : decode cX1_isConsistent 119 = .ok (.iconst 0, 1) := dk_3 (dk_at dksX1_isConsistent_5 2 rfl rfl)
theorem dX1_isConsistent_120 : decode cX1_isConsistent 120 = .ok (.invokevirtual 206, 3) := dk_182 0 206 (dk_at dksX1_isConsistent_5 3 rfl rfl)
theorem dX1_isConsistent_123 : decode cX1_isConsistent 123 = .ok (.if_icmp .ne 28, 3) := dk_160 0 28 (dk_at dksX1_isConsistent_5 6 rfl rfl)
theorem dX1_isConsistent_126 : decode cX1_isConsistent 126 = .ok (.iload 6, 2) := dk_21 6 (dk_at dksX1_isConsistent_5 9 rfl rfl)
theorem dX1_isConsistent_128 : decode cX1_isConsistent 128 = .ok (.ifCond .eq 25, 3) := dk_153 0 25 (dk_at dksX1_isConsistent_5 11 rfl rfl)
theorem dX1_isConsistent_131 : decode cX1_isConsistent 131 = .ok (.iload 5, 2) := dk_21 5 (dk_at dksX1_isConsistent_5 14 rfl rfl)
theorem dX1_isConsistent_133 : decode cX1_isConsistent 133 = .ok (.aload_n 0, 1) := dk_42 (dk_at dksX1_isConsistent_5 16 rfl rfl)
theorem dX1_isConsistent_134 : decode cX1_isConsistent 134 = .ok (.getfield 11, 3) := dk_180 0 11 (dk_at dksX1_isConsistent_5 17 rfl rfl)
theorem dX1_isConsistent_137 : decode cX1_isConsistent 137 = .ok (.iload_n 1, 1) := dk_27 (dk_at dksX1_isConsistent_5 20 rfl rfl)
theorem dX1_isConsistent_138 : decode cX1_isConsistent 138 = .ok (.aaload, 1) := dk_50 (dk_at dksX1_isConsistent_5 21 rfl rfl)
theorem dX1_isConsistent_139 : decode cX1_isConsistent 139 = .ok (.aload_n 0, 1) := dk_42 (dk_at dksX1_isConsistent_5 22 rfl rfl)
theorem dX1_isConsistent_140 : decode cX1_isConsistent 140 = .ok (.getfield 11, 3) := dk_180 0 11 (dk_at dksX1_isConsistent_6 0 rfl rfl)
theorem dX1_isConsistent_143 : decode cX1_isConsistent 143 = .ok (.iload_n 2, 1) := dk_28 (dk_at dksX1_isConsistent_6 3 rfl rfl)
theorem dX1_isConsistent_144 : decode cX1_isConsistent 144 = .ok (.aaload, 1) := dk_50 (dk_at dksX1_isConsistent_6 4 rfl rfl)
theorem dX1_isConsistent_145 : decode cX1_isConsistent 145 = .ok (.invokestatic 242, 3) := dk_184 0 242 (dk_at dksX1_isConsistent_6 5 rfl rfl)
theorem dX1_isConsistent_148 : decode cX1_isConsistent 148 = .ok (.if_icmp .eq 5, 3) := dk_159 0 5 (dk_at dksX1_isConsistent_6 8 rfl rfl)
theorem dX1_isConsistent_151 : decode cX1_isConsistent 151 = .ok (.iconst 0, 1) := dk_3 (dk_at dksX1_isConsistent_6 11 rfl rfl)
theorem dX1_isConsistent_152 : decode cX1_isConsistent 152 = .ok (.ireturn, 1) := dk_172 (dk_at dksX1_isConsistent_6 12 rfl rfl)
theorem dX1_isConsistent_153 : decode cX1_isConsistent 153 = .ok (.iinc 2 1, 3) := dk_132 2 1 (dk_at dksX1_isConsistent_6 13 rfl rfl)
theorem dX1_isConsistent_156 : decode cX1_isConsistent 156 = .ok (.goto (-121), 3) := dk_167 255 135 (dk_at dksX1_isConsistent_6 16 rfl rfl)
theorem dX1_isConsistent_159 : decode cX1_isConsistent 159 = .ok (.iinc 1 1, 3) := dk_132 1 1 (dk_at dksX1_isConsistent_6 19 rfl rfl)
theorem dX1_isConsistent_162 : decode cX1_isConsistent 162 = .ok (.goto (-160), 3) := dk_167 255 96 (dk_at dksX1_isConsistent_7 0 rfl rfl)
theorem dX1_isConsistent_165 : decode cX1_isConsistent 165 = .ok (.aload_n 0, 1) := dk_42 (dk_at dksX1_isConsistent_7 3 rfl rfl)
theorem dX1_isConsistent_166 : decode cX1_isConsistent 166 = .ok (.getfield 271, 3) := dk_180 1 15 (dk_at dksX1_isConsistent_7 4 rfl rfl)
theorem dX1_isConsistent_169 : decode cX1_isConsistent 169 = .ok (.ifnull 46, 3) := dk_198 0 46 (dk_at dksX1_isConsistent_7 7 rfl rfl)
theorem dX1_isConsistent_172 : decode cX1_isConsistent 172 = .ok (.aload_n 0, 1) := dk_42 (dk_at dksX1_isConsistent_7 10 rfl rfl)
theorem dX1_isConsistent_173 : decode cX1_isConsistent 173 = .ok (.getfield 271, 3) := dk_180 1 15 (dk_at dksX1_isConsistent_7 11 rfl rfl)
theorem dX1_isConsistent_176 : decode cX1_isConsistent 176 = .ok (.invokevirtual 297, 3) := dk_182 1 41 (dk_at dksX1_isConsistent_7 14 rfl rfl)
theorem dX1_isConsistent_179 : decode cX1_isConsistent 179 = .ok (.ifCond .eq 40, 3) := dk_153 0 40 (dk_at dksX1_isConsistent_7 17 rfl rfl)
theorem dX1_isConsistent_182 : decode cX1_isConsistent 182 = .ok (.aload_n 0, 1) := dk_42 (dk_at dksX1_isConsistent_7 20 rfl rfl)
theorem dX1_isConsistent_183 : decode cX1_isConsistent 183 = .ok (.getfield 271, 3) := dk_180 1 15 (dk_at dksX1_isConsistent_7 21 rfl rfl)
theorem dX1_isConsistent_186 : decode cX1_isConsistent 186 = .ok (.invokevirtual 295, 3) := dk_182 1 39 (dk_at dksX1_isConsistent_8 0 rfl rfl)
theorem dX1_isConsistent_189 : decode cX1_isConsistent 189 = .ok (.aload_n 0, 1) := dk_42 (dk_at dksX1_isConsistent_8 3 rfl rfl)
theorem dX1_isConsistent_190 : decode cX1_isConsistent 190 = .ok (.getfield 271, 3) := dk_180 1 15 (dk_at dksX1_isConsistent_8 4 rfl rfl)
theorem dX1_isConsistent_193 : decode cX1_isConsistent 193 = .ok (.getfield 289, 3) := dk_180 1 33 (dk_at dksX1_isConsistent_8 7 rfl rfl)
theorem dX1_isConsistent_196 : decode cX1_isConsistent 196 = .ok (.getfield 97, 3) := dk_180 0 97 (dk_at dksX1_isConsistent_8 10 rfl rfl)
theorem dX1_isConsistent_199 : decode cX1_isConsistent 199 = .ok (.aload_n 0, 1) := dk_42 (dk_at dksX1_isConsistent_8 13 rfl rfl)
theorem dX1_isConsistent_200 : decode cX1_isConsistent 200 = .ok (.getfield 271, 3) := dk_180 1 15 (dk_at dksX1_isConsistent_8 14 rfl rfl)
theorem dX1_isConsistent_203 : decode cX1_isConsistent 203 = .ok (.getfield 285, 3) := dk_180 1 29 (dk_at dksX1_isConsistent_8 17 rfl rfl)
theorem dX1_isConsistent_206 : decode cX1_isConsistent 206 = .ok (.getfield 97, 3) := dk_180 0 97 (dk_at dksX1_isConsistent_8 20 rfl rfl)
theorem dX1_isConsistent_209 : decode cX1_isConsistent 209 = .ok (.invokestatic 239, 3) := dk_184 0 239 (dk_at dksX1_isConsistent_9 0 rfl rfl)
theorem dX1_isConsistent_212 : decode cX1_isConsistent 212 = .ok (.if_icmp .gt 7, 3) := dk_163 0 7 (dk_at dksX1_isConsistent_9 3 rfl rfl)
theorem dX1_isConsistent_215 : decode cX1_isConsistent 215 = .ok (.iconst 1, 1) := dk_4 (dk_at dksX1_isConsistent_9 6 rfl rfl)
theorem dX1_isConsistent_216 : decode cX1_isConsistent 216 = .ok (.goto 4, 3) := dk_167 0 4 (dk_at dksX1_isConsistent_9 7 rfl rfl)
theorem dX1_isConsistent_219 : decode cX1_isConsistent 219 = .ok (.iconst 0, 1) := dk_3 (dk_at dksX1_isConsistent_9 10 rfl rfl)
theorem dX1_isConsistent_220 : decode cX1_isConsistent 220 = .ok (.ireturn, 1) := dk_172 (dk_at dksX1_isConsistent_9 11 rfl rfl)
abbrev cX1_cost : ByteArray := prog_1_method_35_code
def yX1_cost : MethodName := ⟨RX1, "cost", "(LTreeDiffer$Node;LTreeDiffer$Node;)I"⟩
def dkwX1_cost_2 : List UInt8 := [28, 187, 0, 217, 89, 42, 43, 183, 0, 219, 3, 3, 182, 0, 222, 96, 172]
abbrev dktX1_cost_2 : List UInt8 := dkwX1_cost_2 ++ []
def dkwX1_cost_1 : List UInt8 := [185, 0, 214, 1, 0, 153, 0, 19, 28, 5, 42, 182, 0, 101, 43, 182, 0, 101, 96, 5, 100, 104, 96, 172]
abbrev dktX1_cost_1 : List UInt8 := dkwX1_cost_1 ++ dktX1_cost_2
def dkwX1_cost_0 : List UInt8 := [42, 43, 184, 0, 210, 61, 42, 180, 0, 154, 185, 0, 214, 1, 0, 154, 0, 15, 43, 180, 0, 154]
abbrev dktX1_cost_0 : List UInt8 := dkwX1_cost_0 ++ dktX1_cost_1
theorem dksX1_cost_0 : cX1_cost.data.toList.drop 0 = dktX1_cost_0 := by decide +kernel
theorem dksX1_cost_1 : cX1_cost.data.toList.drop 22 = dktX1_cost_1 := dk_seg dksX1_cost_0 22 rfl rfl
theorem dksX1_cost_2 : cX1_cost.data.toList.drop 46 = dktX1_cost_2 := dk_seg dksX1_cost_1 24 rfl rfl
theorem dX1_cost_0 : decode cX1_cost 0 = .ok (.aload_n 0, 1) := dk_42 (dk_at dksX1_cost_0 0 rfl rfl)
theorem dX1_cost_1 : decode cX1_cost 1 = .ok (.aload_n 1, 1) := dk_43 (dk_at dksX1_cost_0 1 rfl rfl)
theorem dX1_cost_2 : decode cX1_cost 2 = .ok (.invokestatic 210, 3) := dk_184 0 210 (dk_at dksX1_cost_0 2 rfl rfl)
theorem dX1_cost_5 : decode cX1_cost 5 = .ok (.istore_n 2, 1) := dk_61 (dk_at dksX1_cost_0 5 rfl rfl)
theorem dX1_cost_6 : decode cX1_cost 6 = .ok (.aload_n 0, 1) := dk_42 (dk_at dksX1_cost_0 6 rfl rfl)
theorem dX1_cost_7 : decode cX1_cost 7 = .ok (.getfield 154, 3) := dk_180 0 154 (dk_at dksX1_cost_0 7 rfl rfl)
theorem dX1_cost_10 : decode cX1_cost 10 = .ok (.invokeinterface 214 1, 5) := by decide +kernel
theorem dX1_cost_15 : decode cX1_cost 15 = .ok (.ifCond .ne 15, 3) := dk_154 0 15 (dk_at dksX1_cost_0 15 rfl rfl)
theorem dX1_cost_18 : decode cX1_cost 18 = .ok (.aload_n 1, 1) := dk_43 (dk_at dksX1_cost_0 18 rfl rfl)
theorem dX1_cost_19 : decode cX1_cost 19 = .ok (.getfield 154, 3) := dk_180 0 154 (dk_at dksX1_cost_0 19 rfl rfl)
theorem dX1_cost_22 : decode cX1_cost 22 = .ok (.invokeinterface 214 1, 5) := by decide +kernel
theorem dX1_cost_27 : decode cX1_cost 27 = .ok (.ifCond .eq 19, 3) := dk_153 0 19 (dk_at dksX1_cost_1 5 rfl rfl)
theorem dX1_cost_30 : decode cX1_cost 30 = .ok (.iload_n 2, 1) := dk_28 (dk_at dksX1_cost_1 8 rfl rfl)
theorem dX1_cost_31 : decode cX1_cost 31 = .ok (.iconst 2, 1) := dk_5 (dk_at dksX1_cost_1 9 rfl rfl)
theorem dX1_cost_32 : decode cX1_cost 32 = .ok (.aload_n 0, 1) := dk_42 (dk_at dksX1_cost_1 10 rfl rfl)
theorem dX1_cost_33 : decode cX1_cost 33 = .ok (.invokevirtual 101, 3) := dk_182 0 101 (dk_at dksX1_cost_1 11 rfl rfl)
theorem dX1_cost_36 : decode cX1_cost 36 = .ok (.aload_n 1, 1) := dk_43 (dk_at dksX1_cost_1 14 rfl rfl)
theorem dX1_cost_37 : decode cX1_cost 37 = .ok (.invokevirtual 101, 3) := dk_182 0 101 (dk_at dksX1_cost_1 15 rfl rfl)
theorem dX1_cost_40 : decode cX1_cost 40 = .ok (.iadd, 1) := dk_96 (dk_at dksX1_cost_1 18 rfl rfl)
theorem dX1_cost_41 : decode cX1_cost 41 = .ok (.iconst 2, 1) := dk_5 (dk_at dksX1_cost_1 19 rfl rfl)
theorem dX1_cost_42 : decode cX1_cost 42 = .ok (.isub, 1) := dk_100 (dk_at dksX1_cost_1 20 rfl rfl)
theorem dX1_cost_43 : decode cX1_cost 43 = .ok (.imul, 1) := dk_104 (dk_at dksX1_cost_1 21 rfl rfl)
theorem dX1_cost_44 : decode cX1_cost 44 = .ok (.iadd, 1) := dk_96 (dk_at dksX1_cost_1 22 rfl rfl)
theorem dX1_cost_45 : decode cX1_cost 45 = .ok (.ireturn, 1) := dk_172 (dk_at dksX1_cost_1 23 rfl rfl)
theorem dX1_cost_46 : decode cX1_cost 46 = .ok (.iload_n 2, 1) := dk_28 (dk_at dksX1_cost_2 0 rfl rfl)
theorem dX1_cost_47 : decode cX1_cost 47 = .ok (.new 217, 3) := dk_187 0 217 (dk_at dksX1_cost_2 1 rfl rfl)
theorem dX1_cost_50 : decode cX1_cost 50 = .ok (.dup, 1) := dk_89 (dk_at dksX1_cost_2 4 rfl rfl)
theorem dX1_cost_51 : decode cX1_cost 51 = .ok (.aload_n 0, 1) := dk_42 (dk_at dksX1_cost_2 5 rfl rfl)
theorem dX1_cost_52 : decode cX1_cost 52 = .ok (.aload_n 1, 1) := dk_43 (dk_at dksX1_cost_2 6 rfl rfl)
theorem dX1_cost_53 : decode cX1_cost 53 = .ok (.invokespecial 219, 3) := dk_183 0 219 (dk_at dksX1_cost_2 7 rfl rfl)
theorem dX1_cost_56 : decode cX1_cost 56 = .ok (.iconst 0, 1) := dk_3 (dk_at dksX1_cost_2 10 rfl rfl)
theorem dX1_cost_57 : decode cX1_cost 57 = .ok (.iconst 0, 1) := dk_3 (dk_at dksX1_cost_2 11 rfl rfl)
theorem dX1_cost_58 : decode cX1_cost 58 = .ok (.invokevirtual 222, 3) := dk_182 0 222 (dk_at dksX1_cost_2 12 rfl rfl)
theorem dX1_cost_61 : decode cX1_cost 61 = .ok (.iadd, 1) := dk_96 (dk_at dksX1_cost_2 15 rfl rfl)
theorem dX1_cost_62 : decode cX1_cost 62 = .ok (.ireturn, 1) := dk_172 (dk_at dksX1_cost_2 16 rfl rfl)
abbrev cX1_pairCost : ByteArray := prog_1_method_34_code
def yX1_pairCost : MethodName := ⟨RX1, "pairCost", "(LTreeDiffer$Node;LTreeDiffer$Node;)I"⟩
def dkwX1_pairCost_1 : List UInt8 := [160, 0, 7, 3, 167, 0, 4, 4, 96, 172]
abbrev dktX1_pairCost_1 : List UInt8 := dkwX1_pairCost_1 ++ []
def dkwX1_pairCost_0 : List UInt8 := [42, 180, 0, 179, 43, 180, 0, 179, 160, 0, 7, 3, 167, 0, 4, 6, 42, 180, 0, 197, 43, 180, 0, 197]
abbrev dktX1_pairCost_0 : List UInt8 := dkwX1_pairCost_0 ++ dktX1_pairCost_1
theorem dksX1_pairCost_0 : cX1_pairCost.data.toList.drop 0 = dktX1_pairCost_0 := by decide +kernel
theorem dksX1_pairCost_1 : cX1_pairCost.data.toList.drop 24 = dktX1_pairCost_1 := dk_seg dksX1_pairCost_0 24 rfl rfl
theorem dX1_pairCost_0 : decode cX1_pairCost 0 = .ok (.aload_n 0, 1) := dk_42 (dk_at dksX1_pairCost_0 0 rfl rfl)
theorem dX1_pairCost_1 : decode cX1_pairCost 1 = .ok (.getfield 179, 3) := dk_180 0 179 (dk_at dksX1_pairCost_0 1 rfl rfl)
theorem dX1_pairCost_4 : decode cX1_pairCost 4 = .ok (.aload_n 1, 1) := dk_43 (dk_at dksX1_pairCost_0 4 rfl rfl)
theorem dX1_pairCost_5 : decode cX1_pairCost 5 = .ok (.getfield 179, 3) := dk_180 0 179 (dk_at dksX1_pairCost_0 5 rfl rfl)
theorem dX1_pairCost_8 : decode cX1_pairCost 8 = .ok (.if_icmp .ne 7, 3) := dk_160 0 7 (dk_at dksX1_pairCost_0 8 rfl rfl)
theorem dX1_pairCost_11 : decode cX1_pairCost 11 = .ok (.iconst 0, 1) := dk_3 (dk_at dksX1_pairCost_0 11 rfl rfl)
theorem dX1_pairCost_12 : decode cX1_pairCost 12 = .ok (.goto 4, 3) := dk_167 0 4 (dk_at dksX1_pairCost_0 12 rfl rfl)
theorem dX1_pairCost_15 : decode cX1_pairCost 15 = .ok (.iconst 3, 1) := dk_6 (dk_at dksX1_pairCost_0 15 rfl rfl)
theorem dX1_pairCost_16 : decode cX1_pairCost 16 = .ok (.aload_n 0, 1) := dk_42 (dk_at dksX1_pairCost_0 16 rfl rfl)
theorem dX1_pairCost_17 : decode cX1_pairCost 17 = .ok (.getfield 197, 3) := dk_180 0 197 (dk_at dksX1_pairCost_0 17 rfl rfl)
theorem dX1_pairCost_20 : decode cX1_pairCost 20 = .ok (.aload_n 1, 1) := dk_43 (dk_at dksX1_pairCost_0 20 rfl rfl)
theorem dX1_pairCost_21 : decode cX1_pairCost 21 = .ok (.getfield 197, 3) := dk_180 0 197 (dk_at dksX1_pairCost_0 21 rfl rfl)
theorem dX1_pairCost_24 : decode cX1_pairCost 24 = .ok (.if_icmp .ne 7, 3) := dk_160 0 7 (dk_at dksX1_pairCost_1 0 rfl rfl)
theorem dX1_pairCost_27 : decode cX1_pairCost 27 = .ok (.iconst 0, 1) := dk_3 (dk_at dksX1_pairCost_1 3 rfl rfl)
theorem dX1_pairCost_28 : decode cX1_pairCost 28 = .ok (.goto 4, 3) := dk_167 0 4 (dk_at dksX1_pairCost_1 4 rfl rfl)
theorem dX1_pairCost_31 : decode cX1_pairCost 31 = .ok (.iconst 1, 1) := dk_4 (dk_at dksX1_pairCost_1 7 rfl rfl)
theorem dX1_pairCost_32 : decode cX1_pairCost 32 = .ok (.iadd, 1) := dk_96 (dk_at dksX1_pairCost_1 8 rfl rfl)
theorem dX1_pairCost_33 : decode cX1_pairCost 33 = .ok (.ireturn, 1) := dk_172 (dk_at dksX1_pairCost_1 9 rfl rfl)
abbrev cX1_triedDistance : ByteArray := prog_1_method_38_code
def yX1_triedDistance : MethodName := ⟨RX1, "triedDistance", "(LTreeDiffer$Tree;LTreeDiffer$Tree;)I"⟩
def dkwX1_triedDistance_1 : List UInt8 := [96, 172]
abbrev dktX1_triedDistance_1 : List UInt8 := dkwX1_triedDistance_1 ++ []
def dkwX1_triedDistance_0 : List UInt8 := [42, 180, 0, 97, 43, 180, 0, 97, 184, 0, 210, 42, 180, 0, 97, 43, 180, 0, 97, 3, 3, 184, 0, 230]
abbrev dktX1_triedDistance_0 : List UInt8 := dkwX1_triedDistance_0 ++ dktX1_triedDistance_1
theorem dksX1_triedDistance_0 : cX1_triedDistance.data.toList.drop 0 = dktX1_triedDistance_0 := by decide +kernel
theorem dksX1_triedDistance_1 : cX1_triedDistance.data.toList.drop 24 = dktX1_triedDistance_1 := dk_seg dksX1_triedDistance_0 24 rfl rfl
theorem dX1_triedDistance_0 : decode cX1_triedDistance 0 = .ok (.aload_n 0, 1) := dk_42 (dk_at dksX1_triedDistance_0 0 rfl rfl)
theorem dX1_triedDistance_1 : decode cX1_triedDistance 1 = .ok (.getfield 97, 3) := dk_180 0 97 (dk_at dksX1_triedDistance_0 1 rfl rfl)
theorem dX1_triedDistance_4 : decode cX1_triedDistance 4 = .ok (.aload_n 1, 1) := dk_43 (dk_at dksX1_triedDistance_0 4 rfl rfl)
theorem dX1_triedDistance_5 : decode cX1_triedDistance 5 = .ok (.getfield 97, 3) := dk_180 0 97 (dk_at dksX1_triedDistance_0 5 rfl rfl)
theorem dX1_triedDistance_8 : decode cX1_triedDistance 8 = .ok (.invokestatic 210, 3) := dk_184 0 210 (dk_at dksX1_triedDistance_0 8 rfl rfl)
theorem dX1_triedDistance_11 : decode cX1_triedDistance 11 = .ok (.aload_n 0, 1) := dk_42 (dk_at dksX1_triedDistance_0 11 rfl rfl)
theorem dX1_triedDistance_12 : decode cX1_triedDistance 12 = .ok (.getfield 97, 3) := dk_180 0 97 (dk_at dksX1_triedDistance_0 12 rfl rfl)
theorem dX1_triedDistance_15 : decode cX1_triedDistance 15 = .ok (.aload_n 1, 1) := dk_43 (dk_at dksX1_triedDistance_0 15 rfl rfl)
theorem dX1_triedDistance_16 : decode cX1_triedDistance 16 = .ok (.getfield 97, 3) := dk_180 0 97 (dk_at dksX1_triedDistance_0 16 rfl rfl)
theorem dX1_triedDistance_19 : decode cX1_triedDistance 19 = .ok (.iconst 0, 1) := dk_3 (dk_at dksX1_triedDistance_0 19 rfl rfl)
theorem dX1_triedDistance_20 : decode cX1_triedDistance 20 = .ok (.iconst 0, 1) := dk_3 (dk_at dksX1_triedDistance_0 20 rfl rfl)
theorem dX1_triedDistance_21 : decode cX1_triedDistance 21 = .ok (.invokestatic 230, 3) := dk_184 0 230 (dk_at dksX1_triedDistance_0 21 rfl rfl)
theorem dX1_triedDistance_24 : decode cX1_triedDistance 24 = .ok (.iadd, 1) := dk_96 (dk_at dksX1_triedDistance_1 0 rfl rfl)
theorem dX1_triedDistance_25 : decode cX1_triedDistance 25 = .ok (.ireturn, 1) := dk_172 (dk_at dksX1_triedDistance_1 1 rfl rfl)
abbrev cX1_tried : ByteArray := prog_1_method_36_code
def yX1_tried : MethodName := ⟨RX1, "tried", "(LTreeDiffer$Node;LTreeDiffer$Node;II)I"⟩
def dkwX1_tried_9 : List UInt8 := [21, 5, 172]
abbrev dktX1_tried_9 : List UInt8 := dkwX1_tried_9 ++ []
def dkwX1_tried_8 : List UInt8 := [184, 0, 234, 54, 5, 21, 6, 5, 25, 8, 182, 0, 101, 104, 96, 54, 6, 132, 7, 1, 167, 255, 158]
abbrev dktX1_tried_8 : List UInt8 := dkwX1_tried_8 ++ dktX1_tried_9
def dkwX1_tried_7 : List UInt8 := [96, 25, 4, 25, 8, 3, 3, 184, 0, 230, 96, 42, 43, 28, 4, 96, 21, 7, 4, 96, 184, 0, 230, 96]
abbrev dktX1_tried_7 : List UInt8 := dkwX1_tried_7 ++ dktX1_tried_8
def dkwX1_tried_6 : List UInt8 := [25, 4, 180, 0, 190, 25, 8, 180, 0, 190, 160, 0, 43, 21, 5, 21, 6, 25, 4, 25, 8, 184, 0, 210]
abbrev dktX1_tried_6 : List UInt8 := dkwX1_tried_6 ++ dktX1_tried_7
def dkwX1_tried_5 : List UInt8 := [185, 0, 157, 1, 0, 162, 0, 90, 43, 180, 0, 154, 21, 7, 185, 0, 226, 2, 0, 192, 0, 29, 58, 8]
abbrev dktX1_tried_5 : List UInt8 := dkwX1_tried_5 ++ dktX1_tried_6
def dkwX1_tried_4 : List UInt8 := [28, 4, 96, 29, 184, 0, 230, 96, 54, 5, 3, 54, 6, 29, 54, 7, 21, 7, 43, 180, 0, 154]
abbrev dktX1_tried_4 : List UInt8 := dkwX1_tried_4 ++ dktX1_tried_5
def dkwX1_tried_3 : List UInt8 := [42, 180, 0, 154, 28, 185, 0, 226, 2, 0, 192, 0, 29, 58, 4, 5, 25, 4, 182, 0, 101, 104, 42, 43]
abbrev dktX1_tried_3 : List UInt8 := dkwX1_tried_3 ++ dktX1_tried_4
def dkwX1_tried_2 : List UInt8 := [185, 0, 226, 2, 0, 192, 0, 29, 182, 0, 101, 104, 96, 54, 4, 132, 5, 1, 167, 255, 215, 21, 4, 172]
abbrev dktX1_tried_2 : List UInt8 := dkwX1_tried_2 ++ dktX1_tried_3
def dkwX1_tried_1 : List UInt8 := [180, 0, 154, 185, 0, 157, 1, 0, 162, 0, 33, 21, 4, 5, 43, 180, 0, 154, 21, 5]
abbrev dktX1_tried_1 : List UInt8 := dkwX1_tried_1 ++ dktX1_tried_2
def dkwX1_tried_0 : List UInt8 := [28, 42, 180, 0, 154, 185, 0, 157, 1, 0, 160, 0, 56, 3, 54, 4, 29, 54, 5, 21, 5, 43]
abbrev dktX1_tried_0 : List UInt8 := dkwX1_tried_0 ++ dktX1_tried_1
theorem dksX1_tried_0 : cX1_tried.data.toList.drop 0 = dktX1_tried_0 := by decide +kernel
theorem dksX1_tried_1 : cX1_tried.data.toList.drop 22 = dktX1_tried_1 := dk_seg dksX1_tried_0 22 rfl rfl
theorem dksX1_tried_2 : cX1_tried.data.toList.drop 42 = dktX1_tried_2 := dk_seg dksX1_tried_1 20 rfl rfl
theorem dksX1_tried_3 : cX1_tried.data.toList.drop 66 = dktX1_tried_3 := dk_seg dksX1_tried_2 24 rfl rfl
theorem dksX1_tried_4 : cX1_tried.data.toList.drop 90 = dktX1_tried_4 := dk_seg dksX1_tried_3 24 rfl rfl
theorem dksX1_tried_5 : cX1_tried.data.toList.drop 112 = dktX1_tried_5 := dk_seg dksX1_tried_4 22 rfl rfl
theorem dksX1_tried_6 : cX1_tried.data.toList.drop 136 = dktX1_tried_6 := dk_seg dksX1_tried_5 24 rfl rfl
theorem dksX1_tried_7 : cX1_tried.data.toList.drop 160 = dktX1_tried_7 := dk_seg dksX1_tried_6 24 rfl rfl
theorem dksX1_tried_8 : cX1_tried.data.toList.drop 184 = dktX1_tried_8 := dk_seg dksX1_tried_7 24 rfl rfl
theorem dksX1_tried_9 : cX1_tried.data.toList.drop 207 = dktX1_tried_9 := dk_seg dksX1_tried_8 23 rfl rfl
theorem dX1_tried_0 : decode cX1_tried 0 = .ok (.iload_n 2, 1) := dk_28 (dk_at dksX1_tried_0 0 rfl rfl)
theorem dX1_tried_1 : decode cX1_tried 1 = .ok (.aload_n 0, 1) := dk_42 (dk_at dksX1_tried_0 1 rfl rfl)
theorem dX1_tried_2 : decode cX1_tried 2 = .ok (.getfield 154, 3) := dk_180 0 154 (dk_at dksX1_tried_0 2 rfl rfl)
theorem dX1_tried_5 : decode cX1_tried 5 = .ok (.invokeinterface 157 1, 5) := by decide +kernel
theorem dX1_tried_10 : decode cX1_tried 10 = .ok (.if_icmp .ne 56, 3) := dk_160 0 56 (dk_at dksX1_tried_0 10 rfl rfl)
theorem dX1_tried_13 : decode cX1_tried 13 = .ok (.iconst 0, 1) := dk_3 (dk_at dksX1_tried_0 13 rfl rfl)
theorem dX1_tried_14 : decode cX1_tried 14 = .ok (.istore 4, 2) := dk_54 4 (dk_at dksX1_tried_0 14 rfl rfl)
theorem dX1_tried_16 : decode cX1_tried 16 = .ok (.iload_n 3, 1) := dk_29 (dk_at dksX1_tried_0 16 rfl rfl)
theorem dX1_tried_17 : decode cX1_tried 17 = .ok (.istore 5, 2) := dk_54 5 (dk_at dksX1_tried_0 17 rfl rfl)
theorem dX1_tried_19 : decode cX1_tried 19 = .ok (.iload 5, 2) := dk_21 5 (dk_at dksX1_tried_0 19 rfl rfl)
theorem dX1_tried_21 : decode cX1_tried 21 = .ok (.aload_n 1, 1) := dk_43 (dk_at dksX1_tried_0 21 rfl rfl)
theorem dX1_tried_22 : decode cX1_tried 22 = .ok (.getfield 154, 3) := dk_180 0 154 (dk_at dksX1_tried_1 0 rfl rfl)
theorem dX1_tried_25 : decode cX1_tried 25 = .ok (.invokeinterface 157 1, 5) := by decide +kernel
theorem dX1_tried_30 : decode cX1_tried 30 = .ok (.if_icmp .ge 33, 3) := dk_162 0 33 (dk_at dksX1_tried_1 8 rfl rfl)
theorem dX1_tried_33 : decode cX1_tried 33 = .ok (.iload 4, 2) := dk_21 4 (dk_at dksX1_tried_1 11 rfl rfl)
theorem dX1_tried_35 : decode cX1_tried 35 = .ok (.iconst 2, 1) := dk_5 (dk_at dksX1_tried_1 13 rfl rfl)
theorem dX1_tried_36 : decode cX1_tried 36 = .ok (.aload_n 1, 1) := dk_43 (dk_at dksX1_tried_1 14 rfl rfl)
theorem dX1_tried_37 : decode cX1_tried 37 = .ok (.getfield 154, 3) := dk_180 0 154 (dk_at dksX1_tried_1 15 rfl rfl)
theorem dX1_tried_40 : decode cX1_tried 40 = .ok (.iload 5, 2) := dk_21 5 (dk_at dksX1_tried_1 18 rfl rfl)
theorem dX1_tried_42 : decode cX1_tried 42 = .ok (.invokeinterface 226 2, 5) := by decide +kernel
theorem dX1_tried_47 : decode cX1_tried 47 = .ok (.checkcast 29, 3) := dk_192 0 29 (dk_at dksX1_tried_2 5 rfl rfl)
theorem dX1_tried_50 : decode cX1_tried 50 = .ok (.invokevirtual 101, 3) := dk_182 0 101 (dk_at dksX1_tried_2 8 rfl rfl)
theorem dX1_tried_53 : decode cX1_tried 53 = .ok (.imul, 1) := dk_104 (dk_at dksX1_tried_2 11 rfl rfl)
theorem dX1_tried_54 : decode cX1_tried 54 = .ok (.iadd, 1) := dk_96 (dk_at dksX1_tried_2 12 rfl rfl)
theorem dX1_tried_55 : decode cX1_tried 55 = .ok (.istore 4, 2) := dk_54 4 (dk_at dksX1_tried_2 13 rfl rfl)
theorem dX1_tried_57 : decode cX1_tried 57 = .ok (.iinc 5 1, 3) := dk_132 5 1 (dk_at dksX1_tried_2 15 rfl rfl)
theorem dX1_tried_60 : decode cX1_tried 60 = .ok (.goto (-41), 3) := dk_167 255 215 (dk_at dksX1_tried_2 18 rfl rfl)
theorem dX1_tried_63 : decode cX1_tried 63 = .ok (.iload 4, 2) := dk_21 4 (dk_at dksX1_tried_2 21 rfl rfl)
theorem dX1_tried_65 : decode cX1_tried 65 = .ok (.ireturn, 1) := dk_172 (dk_at dksX1_tried_2 23 rfl rfl)
theorem dX1_tried_66 : decode cX1_tried 66 = .ok (.aload_n 0, 1) := dk_42 (dk_at dksX1_tried_3 0 rfl rfl)
theorem dX1_tried_67 : decode cX1_tried 67 = .ok (.getfield 154, 3) := dk_180 0 154 (dk_at dksX1_tried_3 1 rfl rfl)
theorem dX1_tried_70 : decode cX1_tried 70 = .ok (.iload_n 2, 1) := dk_28 (dk_at dksX1_tried_3 4 rfl rfl)
theorem dX1_tried_71 : decode cX1_tried 71 = .ok (.invokeinterface 226 2, 5) := by decide +kernel
theorem dX1_tried_76 : decode cX1_tried 76 = .ok (.checkcast 29, 3) := dk_192 0 29 (dk_at dksX1_tried_3 10 rfl rfl)
theorem dX1_tried_79 : decode cX1_tried 79 = .ok (.astore 4, 2) := dk_58 4 (dk_at dksX1_tried_3 13 rfl rfl)
theorem dX1_tried_81 : decode cX1_tried 81 = .ok (.iconst 2, 1) := dk_5 (dk_at dksX1_tried_3 15 rfl rfl)
theorem dX1_tried_82 : decode cX1_tried 82 = .ok (.aload 4, 2) := dk_25 4 (dk_at dksX1_tried_3 16 rfl rfl)
theorem dX1_tried_84 : decode cX1_tried 84 = .ok (.invokevirtual 101, 3) := dk_182 0 101 (dk_at dksX1_tried_3 18 rfl rfl)
theorem dX1_tried_87 : decode cX1_tried 87 = .ok (.imul, 1) := dk_104 (dk_at dksX1_tried_3 21 rfl rfl)
theorem dX1_tried_88 : decode cX1_tried 88 = .ok (.aload_n 0, 1) := dk_42 (dk_at dksX1_tried_3 22 rfl rfl)
theorem dX1_tried_89 : decode cX1_tried 89 = .ok (.aload_n 1, 1) := dk_43 (dk_at dksX1_tried_3 23 rfl rfl)
theorem dX1_tried_90 : decode cX1_tried 90 = .ok (.iload_n 2, 1) := dk_28 (dk_at dksX1_tried_4 0 rfl rfl)
theorem dX1_tried_91 : decode cX1_tried 91 = .ok (.iconst 1, 1) := dk_4 (dk_at dksX1_tried_4 1 rfl rfl)
theorem dX1_tried_92 : decode cX1_tried 92 = .ok (.iadd, 1) := dk_96 (dk_at dksX1_tried_4 2 rfl rfl)
theorem dX1_tried_93 : decode cX1_tried 93 = .ok (.iload_n 3, 1) := dk_29 (dk_at dksX1_tried_4 3 rfl rfl)
theorem dX1_tried_94 : decode cX1_tried 94 = .ok (.invokestatic 230, 3) := dk_184 0 230 (dk_at dksX1_tried_4 4 rfl rfl)
theorem dX1_tried_97 : decode cX1_tried 97 = .ok (.iadd, 1) := dk_96 (dk_at dksX1_tried_4 7 rfl rfl)
theorem dX1_tried_98 : decode cX1_tried 98 = .ok (.istore 5, 2) := dk_54 5 (dk_at dksX1_tried_4 8 rfl rfl)
theorem dX1_tried_100 : decode cX1_tried 100 = .ok (.iconst 0, 1) := dk_3 (dk_at dksX1_tried_4 10 rfl rfl)
theorem dX1_tried_101 : decode cX1_tried 101 = .ok (.istore 6, 2) := dk_54 6 (dk_at dksX1_tried_4 11 rfl rfl)
theorem dX1_tried_103 : decode cX1_tried 103 = .ok (.iload_n 3, 1) := dk_29 (dk_at dksX1_tried_4 13 rfl rfl)
theorem dX1_tried_104 : decode cX1_tried 104 = .ok (.istore 7, 2) := dk_54 7 (dk_at dksX1_tried_4 14 rfl rfl)
theorem dX1_tried_106 : decode cX1_tried 106 = .ok (.iload 7, 2) := dk_21 7 (dk_at dksX1_tried_4 16 rfl rfl)
theorem dX1_tried_108 : decode cX1_tried 108 = .ok (.aload_n 1, 1) := dk_43 (dk_at dksX1_tried_4 18 rfl rfl)
theorem dX1_tried_109 : decode cX1_tried 109 = .ok (.getfield 154, 3) := dk_180 0 154 (dk_at dksX1_tried_4 19 rfl rfl)
theorem dX1_tried_112 : decode cX1_tried 112 = .ok (.invokeinterface 157 1, 5) := by decide +kernel
theorem dX1_tried_117 : decode cX1_tried 117 = .ok (.if_icmp .ge 90, 3) := dk_162 0 90 (dk_at dksX1_tried_5 5 rfl rfl)
theorem dX1_tried_120 : decode cX1_tried 120 = .ok (.aload_n 1, 1) := dk_43 (dk_at dksX1_tried_5 8 rfl rfl)
theorem dX1_tried_121 : decode cX1_tried 121 = .ok (.getfield 154, 3) := dk_180 0 154 (dk_at dksX1_tried_5 9 rfl rfl)
theorem dX1_tried_124 : decode cX1_tried 124 = .ok (.iload 7, 2) := dk_21 7 (dk_at dksX1_tried_5 12 rfl rfl)
theorem dX1_tried_126 : decode cX1_tried 126 = .ok (.invokeinterface 226 2, 5) := by decide +kernel
theorem dX1_tried_131 : decode cX1_tried 131 = .ok (.checkcast 29, 3) := dk_192 0 29 (dk_at dksX1_tried_5 19 rfl rfl)
theorem dX1_tried_134 : decode cX1_tried 134 = .ok (.astore 8, 2) := dk_58 8 (dk_at dksX1_tried_5 22 rfl rfl)
theorem dX1_tried_136 : decode cX1_tried 136 = .ok (.aload 4, 2) := dk_25 4 (dk_at dksX1_tried_6 0 rfl rfl)
theorem dX1_tried_138 : decode cX1_tried 138 = .ok (.getfield 190, 3) := dk_180 0 190 (dk_at dksX1_tried_6 2 rfl rfl)
theorem dX1_tried_141 : decode cX1_tried 141 = .ok (.aload 8, 2) := dk_25 8 (dk_at dksX1_tried_6 5 rfl rfl)
theorem dX1_tried_143 : decode cX1_tried 143 = .ok (.getfield 190, 3) := dk_180 0 190 (dk_at dksX1_tried_6 7 rfl rfl)
theorem dX1_tried_146 : decode cX1_tried 146 = .ok (.if_icmp .ne 43, 3) := dk_160 0 43 (dk_at dksX1_tried_6 10 rfl rfl)
theorem dX1_tried_149 : decode cX1_tried 149 = .ok (.iload 5, 2) := dk_21 5 (dk_at dksX1_tried_6 13 rfl rfl)
theorem dX1_tried_151 : decode cX1_tried 151 = .ok (.iload 6, 2) := dk_21 6 (dk_at dksX1_tried_6 15 rfl rfl)
theorem dX1_tried_153 : decode cX1_tried 153 = .ok (.aload 4, 2) := dk_25 4 (dk_at dksX1_tried_6 17 rfl rfl)
theorem dX1_tried_155 : decode cX1_tried 155 = .ok (.aload 8, 2) := dk_25 8 (dk_at dksX1_tried_6 19 rfl rfl)
theorem dX1_tried_157 : decode cX1_tried 157 = .ok (.invokestatic 210, 3) := dk_184 0 210 (dk_at dksX1_tried_6 21 rfl rfl)
theorem dX1_tried_160 : decode cX1_tried 160 = .ok (.iadd, 1) := dk_96 (dk_at dksX1_tried_7 0 rfl rfl)
theorem dX1_tried_161 : decode cX1_tried 161 = .ok (.aload 4, 2) := dk_25 4 (dk_at dksX1_tried_7 1 rfl rfl)
theorem dX1_tried_163 : decode cX1_tried 163 = .ok (.aload 8, 2) := dk_25 8 (dk_at dksX1_tried_7 3 rfl rfl)
theorem dX1_tried_165 : decode cX1_tried 165 = .ok (.iconst 0, 1) := dk_3 (dk_at dksX1_tried_7 5 rfl rfl)
theorem dX1_tried_166 : decode cX1_tried 166 = .ok (.iconst 0, 1) := dk_3 (dk_at dksX1_tried_7 6 rfl rfl)
theorem dX1_tried_167 : decode cX1_tried 167 = .ok (.invokestatic 230, 3) := dk_184 0 230 (dk_at dksX1_tried_7 7 rfl rfl)
theorem dX1_tried_170 : decode cX1_tried 170 = .ok (.iadd, 1) := dk_96 (dk_at dksX1_tried_7 10 rfl rfl)
theorem dX1_tried_171 : decode cX1_tried 171 = .ok (.aload_n 0, 1) := dk_42 (dk_at dksX1_tried_7 11 rfl rfl)
theorem dX1_tried_172 : decode cX1_tried 172 = .ok (.aload_n 1, 1) := dk_43 (dk_at dksX1_tried_7 12 rfl rfl)
theorem dX1_tried_173 : decode cX1_tried 173 = .ok (.iload_n 2, 1) := dk_28 (dk_at dksX1_tried_7 13 rfl rfl)
theorem dX1_tried_174 : decode cX1_tried 174 = .ok (.iconst 1, 1) := dk_4 (dk_at dksX1_tried_7 14 rfl rfl)
theorem dX1_tried_175 : decode cX1_tried 175 = .ok (.iadd, 1) := dk_96 (dk_at dksX1_tried_7 15 rfl rfl)
theorem dX1_tried_176 : decode cX1_tried 176 = .ok (.iload 7, 2) := dk_21 7 (dk_at dksX1_tried_7 16 rfl rfl)
theorem dX1_tried_178 : decode cX1_tried 178 = .ok (.iconst 1, 1) := dk_4 (dk_at dksX1_tried_7 18 rfl rfl)
theorem dX1_tried_179 : decode cX1_tried 179 = .ok (.iadd, 1) := dk_96 (dk_at dksX1_tried_7 19 rfl rfl)
theorem dX1_tried_180 : decode cX1_tried 180 = .ok (.invokestatic 230, 3) := dk_184 0 230 (dk_at dksX1_tried_7 20 rfl rfl)
theorem dX1_tried_183 : decode cX1_tried 183 = .ok (.iadd, 1) := dk_96 (dk_at dksX1_tried_7 23 rfl rfl)
theorem dX1_tried_184 : decode cX1_tried 184 = .ok (.invokestatic 234, 3) := dk_184 0 234 (dk_at dksX1_tried_8 0 rfl rfl)
theorem dX1_tried_187 : decode cX1_tried 187 = .ok (.istore 5, 2) := dk_54 5 (dk_at dksX1_tried_8 3 rfl rfl)
theorem dX1_tried_189 : decode cX1_tried 189 = .ok (.iload 6, 2) := dk_21 6 (dk_at dksX1_tried_8 5 rfl rfl)
theorem dX1_tried_191 : decode cX1_tried 191 = .ok (.iconst 2, 1) := dk_5 (dk_at dksX1_tried_8 7 rfl rfl)
theorem dX1_tried_192 : decode cX1_tried 192 = .ok (.aload 8, 2) := dk_25 8 (dk_at dksX1_tried_8 8 rfl rfl)
theorem dX1_tried_194 : decode cX1_tried 194 = .ok (.invokevirtual 101, 3) := dk_182 0 101 (dk_at dksX1_tried_8 10 rfl rfl)
theorem dX1_tried_197 : decode cX1_tried 197 = .ok (.imul, 1) := dk_104 (dk_at dksX1_tried_8 13 rfl rfl)
theorem dX1_tried_198 : decode cX1_tried 198 = .ok (.iadd, 1) := dk_96 (dk_at dksX1_tried_8 14 rfl rfl)
theorem dX1_tried_199 : decode cX1_tried 199 = .ok (.istore 6, 2) := dk_54 6 (dk_at dksX1_tried_8 15 rfl rfl)
theorem dX1_tried_201 : decode cX1_tried 201 = .ok (.iinc 7 1, 3) := dk_132 7 1 (dk_at dksX1_tried_8 17 rfl rfl)
theorem dX1_tried_204 : decode cX1_tried 204 = .ok (.goto (-98), 3) := dk_167 255 158 (dk_at dksX1_tried_8 20 rfl rfl)
theorem dX1_tried_207 : decode cX1_tried 207 = .ok (.iload 5, 2) := dk_21 5 (dk_at dksX1_tried_9 0 rfl rfl)
theorem dX1_tried_209 : decode cX1_tried 209 = .ok (.ireturn, 1) := dk_172 (dk_at dksX1_tried_9 2 rfl rfl)
abbrev cX1_visit : ByteArray := prog_1_method_41_code
def yX1_visit : MethodName := ⟨RX1, "visit", "(LTreeDiffer$Node;LTreeDiffer$Node;LTreeDiffer$Visitor;)V"⟩
def dkwX1_visit_9 : List UInt8 := [167, 255, 75, 177]
abbrev dktX1_visit_9 : List UInt8 := dkwX1_visit_9 ++ []
def dkwX1_visit_8 : List UInt8 := [44, 43, 180, 0, 154, 21, 5, 185, 0, 226, 2, 0, 192, 0, 29, 185, 1, 12, 2, 0, 132, 5, 1]
abbrev dktX1_visit_8 : List UInt8 := dkwX1_visit_8 ++ dktX1_visit_9
def dkwX1_visit_7 : List UInt8 := [180, 0, 154, 21, 4, 185, 0, 226, 2, 0, 192, 0, 29, 185, 1, 9, 2, 0, 132, 4, 1, 167, 255, 101]
abbrev dktX1_visit_7 : List UInt8 := dkwX1_visit_7 ++ dktX1_visit_8
def dkwX1_visit_6 : List UInt8 := [162, 0, 48, 45, 21, 4, 21, 5, 182, 1, 6, 45, 21, 4, 21, 5, 182, 0, 222, 160, 0, 29, 44, 42]
abbrev dktX1_visit_6 : List UInt8 := dkwX1_visit_6 ++ dktX1_visit_7
def dkwX1_visit_5 : List UInt8 := [184, 1, 2, 132, 4, 1, 132, 5, 1, 167, 255, 160, 21, 4, 42, 180, 0, 154, 185, 0, 157, 1, 0]
abbrev dktX1_visit_5 : List UInt8 := dkwX1_visit_5 ++ dktX1_visit_6
def dkwX1_visit_4 : List UInt8 := [185, 0, 226, 2, 0, 192, 0, 29, 43, 180, 0, 154, 21, 5, 185, 0, 226, 2, 0, 192, 0, 29, 44]
abbrev dktX1_visit_4 : List UInt8 := dkwX1_visit_4 ++ dktX1_visit_5
def dkwX1_visit_3 : List UInt8 := [182, 0, 255, 45, 21, 4, 21, 5, 182, 0, 222, 160, 0, 44, 42, 180, 0, 154, 21, 4]
abbrev dktX1_visit_3 : List UInt8 := dkwX1_visit_3 ++ dktX1_visit_4
def dkwX1_visit_2 : List UInt8 := [185, 0, 157, 1, 0, 162, 0, 159, 45, 21, 4, 21, 5, 182, 0, 251, 153, 0, 63, 45, 21, 4, 21, 5]
abbrev dktX1_visit_2 : List UInt8 := dkwX1_visit_2 ++ dktX1_visit_3
def dkwX1_visit_1 : List UInt8 := [21, 4, 42, 180, 0, 154, 185, 0, 157, 1, 0, 161, 0, 17, 21, 5, 43, 180, 0, 154]
abbrev dktX1_visit_1 : List UInt8 := dkwX1_visit_1 ++ dktX1_visit_2
def dkwX1_visit_0 : List UInt8 := [44, 42, 43, 185, 0, 246, 3, 0, 187, 0, 217, 89, 42, 43, 183, 0, 219, 78, 3, 54, 4, 3, 54, 5]
abbrev dktX1_visit_0 : List UInt8 := dkwX1_visit_0 ++ dktX1_visit_1
theorem dksX1_visit_0 : cX1_visit.data.toList.drop 0 = dktX1_visit_0 := by decide +kernel
theorem dksX1_visit_1 : cX1_visit.data.toList.drop 24 = dktX1_visit_1 := dk_seg dksX1_visit_0 24 rfl rfl
theorem dksX1_visit_2 : cX1_visit.data.toList.drop 44 = dktX1_visit_2 := dk_seg dksX1_visit_1 20 rfl rfl
theorem dksX1_visit_3 : cX1_visit.data.toList.drop 68 = dktX1_visit_3 := dk_seg dksX1_visit_2 24 rfl rfl
theorem dksX1_visit_4 : cX1_visit.data.toList.drop 88 = dktX1_visit_4 := dk_seg dksX1_visit_3 20 rfl rfl
theorem dksX1_visit_5 : cX1_visit.data.toList.drop 111 = dktX1_visit_5 := dk_seg dksX1_visit_4 23 rfl rfl
theorem dksX1_visit_6 : cX1_visit.data.toList.drop 134 = dktX1_visit_6 := dk_seg dksX1_visit_5 23 rfl rfl
theorem dksX1_visit_7 : cX1_visit.data.toList.drop 158 = dktX1_visit_7 := dk_seg dksX1_visit_6 24 rfl rfl
theorem dksX1_visit_8 : cX1_visit.data.toList.drop 182 = dktX1_visit_8 := dk_seg dksX1_visit_7 24 rfl rfl
theorem dksX1_visit_9 : cX1_visit.data.toList.drop 205 = dktX1_visit_9 := dk_seg dksX1_visit_8 23 rfl rfl
theorem dX1_visit_0 : decode cX1_visit 0 = .ok (.aload_n 2, 1) := dk_44 (dk_at dksX1_visit_0 0 rfl rfl)
theorem dX1_visit_1 : decode cX1_visit 1 = .ok (.aload_n 0, 1) := dk_42 (dk_at dksX1_visit_0 1 rfl rfl)
theorem dX1_visit_2 : decode cX1_visit 2 = .ok (.aload_n 1, 1) := dk_43 (dk_at dksX1_visit_0 2 rfl rfl)
theorem dX1_visit_3 : decode cX1_visit 3 = .ok (.invokeinterface 246 3, 5) := by decide +kernel
theorem dX1_visit_8 : decode cX1_visit 8 = .ok (.new 217, 3) := dk_187 0 217 (dk_at dksX1_visit_0 8 rfl rfl)
theorem dX1_visit_11 : decode cX1_visit 11 = .ok (.dup, 1) := dk_89 (dk_at dksX1_visit_0 11 rfl rfl)
theorem dX1_visit_12 : decode cX1_visit 12 = .ok (.aload_n 0, 1) := dk_42 (dk_at dksX1_visit_0 12 rfl rfl)
theorem dX1_visit_13 : decode cX1_visit 13 = .ok (.aload_n 1, 1) := dk_43 (dk_at dksX1_visit_0 13 rfl rfl)
theorem dX1_visit_14 : decode cX1_visit 14 = .ok (.invokespecial 219, 3) := dk_183 0 219 (dk_at dksX1_visit_0 14 rfl rfl)
theorem dX1_visit_17 : decode cX1_visit 17 = .ok (.astore_n 3, 1) := dk_78 (dk_at dksX1_visit_0 17 rfl rfl)
theorem dX1_visit_18 : decode cX1_visit 18 = .ok (.iconst 0, 1) := dk_3 (dk_at dksX1_visit_0 18 rfl rfl)
theorem dX1_visit_19 : decode cX1_visit 19 = .ok (.istore 4, 2) := dk_54 4 (dk_at dksX1_visit_0 19 rfl rfl)
theorem dX1_visit_21 : decode cX1_visit 21 = .ok (.iconst 0, 1) := dk_3 (dk_at dksX1_visit_0 21 rfl rfl)
theorem dX1_visit_22 : decode cX1_visit 22 = .ok (.istore 5, 2) := dk_54 5 (dk_at dksX1_visit_0 22 rfl rfl)
theorem dX1_visit_24 : decode cX1_visit 24 = .ok (.iload 4, 2) := dk_21 4 (dk_at dksX1_visit_1 0 rfl rfl)
theorem dX1_visit_26 : decode cX1_visit 26 = .ok (.aload_n 0, 1) := dk_42 (dk_at dksX1_visit_1 2 rfl rfl)
theorem dX1_visit_27 : decode cX1_visit 27 = .ok (.getfield 154, 3) := dk_180 0 154 (dk_at dksX1_visit_1 3 rfl rfl)
theorem dX1_visit_30 : decode cX1_visit 30 = .ok (.invokeinterface 157 1, 5) := by decide +kernel
theorem dX1_visit_35 : decode cX1_visit 35 = .ok (.if_icmp .lt 17, 3) := dk_161 0 17 (dk_at dksX1_visit_1 11 rfl rfl)
theorem dX1_visit_38 : decode cX1_visit 38 = .ok (.iload 5, 2) := dk_21 5 (dk_at dksX1_visit_1 14 rfl rfl)
theorem dX1_visit_40 : decode cX1_visit 40 = .ok (.aload_n 1, 1) := dk_43 (dk_at dksX1_visit_1 16 rfl rfl)
theorem dX1_visit_41 : decode cX1_visit 41 = .ok (.getfield 154, 3) := dk_180 0 154 (dk_at dksX1_visit_1 17 rfl rfl)
theorem dX1_visit_44 : decode cX1_visit 44 = .ok (.invokeinterface 157 1, 5) := by decide +kernel
theorem dX1_visit_49 : decode cX1_visit 49 = .ok (.if_icmp .ge 159, 3) := dk_162 0 159 (dk_at dksX1_visit_2 5 rfl rfl)
theorem dX1_visit_52 : decode cX1_visit 52 = .ok (.aload_n 3, 1) := dk_45 (dk_at dksX1_visit_2 8 rfl rfl)
theorem dX1_visit_53 : decode cX1_visit 53 = .ok (.iload 4, 2) := dk_21 4 (dk_at dksX1_visit_2 9 rfl rfl)
theorem dX1_visit_55 : decode cX1_visit 55 = .ok (.iload 5, 2) := dk_21 5 (dk_at dksX1_visit_2 11 rfl rfl)
theorem dX1_visit_57 : decode cX1_visit 57 = .ok (.invokevirtual 251, 3) := dk_182 0 251 (dk_at dksX1_visit_2 13 rfl rfl)
theorem dX1_visit_60 : decode cX1_visit 60 = .ok (.ifCond .eq 63, 3) := dk_153 0 63 (dk_at dksX1_visit_2 16 rfl rfl)
theorem dX1_visit_63 : decode cX1_visit 63 = .ok (.aload_n 3, 1) := dk_45 (dk_at dksX1_visit_2 19 rfl rfl)
theorem dX1_visit_64 : decode cX1_visit 64 = .ok (.iload 4, 2) := dk_21 4 (dk_at dksX1_visit_2 20 rfl rfl)
theorem dX1_visit_66 : decode cX1_visit 66 = .ok (.iload 5, 2) := dk_21 5 (dk_at dksX1_visit_2 22 rfl rfl)
theorem dX1_visit_68 : decode cX1_visit 68 = .ok (.invokevirtual 255, 3) := dk_182 0 255 (dk_at dksX1_visit_3 0 rfl rfl)
theorem dX1_visit_71 : decode cX1_visit 71 = .ok (.aload_n 3, 1) := dk_45 (dk_at dksX1_visit_3 3 rfl rfl)
theorem dX1_visit_72 : decode cX1_visit 72 = .ok (.iload 4, 2) := dk_21 4 (dk_at dksX1_visit_3 4 rfl rfl)
theorem dX1_visit_74 : decode cX1_visit 74 = .ok (.iload 5, 2) := dk_21 5 (dk_at dksX1_visit_3 6 rfl rfl)
theorem dX1_visit_76 : decode cX1_visit 76 = .ok (.invokevirtual 222, 3) := dk_182 0 222 (dk_at dksX1_visit_3 8 rfl rfl)
theorem dX1_visit_79 : decode cX1_visit 79 = .ok (.if_icmp .ne 44, 3) := dk_160 0 44 (dk_at dksX1_visit_3 11 rfl rfl)
theorem dX1_visit_82 : decode cX1_visit 82 = .ok (.aload_n 0, 1) := dk_42 (dk_at dksX1_visit_3 14 rfl rfl)
theorem dX1_visit_83 : decode cX1_visit 83 = .ok (.getfield 154, 3) := dk_180 0 154 (dk_at dksX1_visit_3 15 rfl rfl)
theorem dX1_visit_86 : decode cX1_visit 86 = .ok (.iload 4, 2) := dk_21 4 (dk_at dksX1_visit_3 18 rfl rfl)
theorem dX1_visit_88 : decode cX1_visit 88 = .ok (.invokeinterface 226 2, 5) := by decide +kernel
theorem dX1_visit_93 : decode cX1_visit 93 = .ok (.checkcast 29, 3) := dk_192 0 29 (dk_at dksX1_visit_4 5 rfl rfl)
theorem dX1_visit_96 : decode cX1_visit 96 = .ok (.aload_n 1, 1) := dk_43 (dk_at dksX1_visit_4 8 rfl rfl)
theorem dX1_visit_97 : decode cX1_visit 97 = .ok (.getfield 154, 3) := dk_180 0 154 (dk_at dksX1_visit_4 9 rfl rfl)
theorem dX1_visit_100 : decode cX1_visit 100 = .ok (.iload 5, 2) := dk_21 5 (dk_at dksX1_visit_4 12 rfl rfl)
theorem dX1_visit_102 : decode cX1_visit 102 = .ok (.invokeinterface 226 2, 5) := by decide +kernel
theorem dX1_visit_107 : decode cX1_visit 107 = .ok (.checkcast 29, 3) := dk_192 0 29 (dk_at dksX1_visit_4 19 rfl rfl)
theorem dX1_visit_110 : decode cX1_visit 110 = .ok (.aload_n 2, 1) := dk_44 (dk_at dksX1_visit_4 22 rfl rfl)
theorem dX1_visit_111 : decode cX1_visit 111 = .ok (.invokestatic 258, 3) := dk_184 1 2 (dk_at dksX1_visit_5 0 rfl rfl)
theorem dX1_visit_114 : decode cX1_visit 114 = .ok (.iinc 4 1, 3) := dk_132 4 1 (dk_at dksX1_visit_5 3 rfl rfl)
theorem dX1_visit_117 : decode cX1_visit 117 = .ok (.iinc 5 1, 3) := dk_132 5 1 (dk_at dksX1_visit_5 6 rfl rfl)
theorem dX1_visit_120 : decode cX1_visit 120 = .ok (.goto (-96), 3) := dk_167 255 160 (dk_at dksX1_visit_5 9 rfl rfl)
theorem dX1_visit_123 : decode cX1_visit 123 = .ok (.iload 4, 2) := dk_21 4 (dk_at dksX1_visit_5 12 rfl rfl)
theorem dX1_visit_125 : decode cX1_visit 125 = .ok (.aload_n 0, 1) := dk_42 (dk_at dksX1_visit_5 14 rfl rfl)
theorem dX1_visit_126 : decode cX1_visit 126 = .ok (.getfield 154, 3) := dk_180 0 154 (dk_at dksX1_visit_5 15 rfl rfl)
theorem dX1_visit_129 : decode cX1_visit 129 = .ok (.invokeinterface 157 1, 5) := by decide +kernel
theorem dX1_visit_134 : decode cX1_visit 134 = .ok (.if_icmp .ge 48, 3) := dk_162 0 48 (dk_at dksX1_visit_6 0 rfl rfl)
theorem dX1_visit_137 : decode cX1_visit 137 = .ok (.aload_n 3, 1) := dk_45 (dk_at dksX1_visit_6 3 rfl rfl)
theorem dX1_visit_138 : decode cX1_visit 138 = .ok (.iload 4, 2) := dk_21 4 (dk_at dksX1_visit_6 4 rfl rfl)
theorem dX1_visit_140 : decode cX1_visit 140 = .ok (.iload 5, 2) := dk_21 5 (dk_at dksX1_visit_6 6 rfl rfl)
theorem dX1_visit_142 : decode cX1_visit 142 = .ok (.invokevirtual 262, 3) := dk_182 1 6 (dk_at dksX1_visit_6 8 rfl rfl)
theorem dX1_visit_145 : decode cX1_visit 145 = .ok (.aload_n 3, 1) := dk_45 (dk_at dksX1_visit_6 11 rfl rfl)
theorem dX1_visit_146 : decode cX1_visit 146 = .ok (.iload 4, 2) := dk_21 4 (dk_at dksX1_visit_6 12 rfl rfl)
theorem dX1_visit_148 : decode cX1_visit 148 = .ok (.iload 5, 2) := dk_21 5 (dk_at dksX1_visit_6 14 rfl rfl)
theorem dX1_visit_150 : decode cX1_visit 150 = .ok (.invokevirtual 222, 3) := dk_182 0 222 (dk_at dksX1_visit_6 16 rfl rfl)
theorem dX1_visit_153 : decode cX1_visit 153 = .ok (.if_icmp .ne 29, 3) := dk_160 0 29 (dk_at dksX1_visit_6 19 rfl rfl)
theorem dX1_visit_156 : decode cX1_visit 156 = .ok (.aload_n 2, 1) := dk_44 (dk_at dksX1_visit_6 22 rfl rfl)
theorem dX1_visit_157 : decode cX1_visit 157 = .ok (.aload_n 0, 1) := dk_42 (dk_at dksX1_visit_6 23 rfl rfl)
theorem dX1_visit_158 : decode cX1_visit 158 = .ok (.getfield 154, 3) := dk_180 0 154 (dk_at dksX1_visit_7 0 rfl rfl)
theorem dX1_visit_161 : decode cX1_visit 161 = .ok (.iload 4, 2) := dk_21 4 (dk_at dksX1_visit_7 3 rfl rfl)
theorem dX1_visit_163 : decode cX1_visit 163 = .ok (.invokeinterface 226 2, 5) := by decide +kernel
theorem dX1_visit_168 : decode cX1_visit 168 = .ok (.checkcast 29, 3) := dk_192 0 29 (dk_at dksX1_visit_7 10 rfl rfl)
theorem dX1_visit_171 : decode cX1_visit 171 = .ok (.invokeinterface 265 2, 5) := by decide +kernel
theorem dX1_visit_176 : decode cX1_visit 176 = .ok (.iinc 4 1, 3) := dk_132 4 1 (dk_at dksX1_visit_7 18 rfl rfl)
theorem dX1_visit_179 : decode cX1_visit 179 = .ok (.goto (-155), 3) := dk_167 255 101 (dk_at dksX1_visit_7 21 rfl rfl)
theorem dX1_visit_182 : decode cX1_visit 182 = .ok (.aload_n 2, 1) := dk_44 (dk_at dksX1_visit_8 0 rfl rfl)
theorem dX1_visit_183 : decode cX1_visit 183 = .ok (.aload_n 1, 1) := dk_43 (dk_at dksX1_visit_8 1 rfl rfl)
theorem dX1_visit_184 : decode cX1_visit 184 = .ok (.getfield 154, 3) := dk_180 0 154 (dk_at dksX1_visit_8 2 rfl rfl)
theorem dX1_visit_187 : decode cX1_visit 187 = .ok (.iload 5, 2) := dk_21 5 (dk_at dksX1_visit_8 5 rfl rfl)
theorem dX1_visit_189 : decode cX1_visit 189 = .ok (.invokeinterface 226 2, 5) := by decide +kernel
theorem dX1_visit_194 : decode cX1_visit 194 = .ok (.checkcast 29, 3) := dk_192 0 29 (dk_at dksX1_visit_8 12 rfl rfl)
theorem dX1_visit_197 : decode cX1_visit 197 = .ok (.invokeinterface 268 2, 5) := by decide +kernel
theorem dX1_visit_202 : decode cX1_visit 202 = .ok (.iinc 5 1, 3) := dk_132 5 1 (dk_at dksX1_visit_8 20 rfl rfl)
theorem dX1_visit_205 : decode cX1_visit 205 = .ok (.goto (-181), 3) := dk_167 255 75 (dk_at dksX1_visit_9 0 rfl rfl)
theorem dX1_visit_208 : decode cX1_visit 208 = .ok (.return_, 1) := dk_177 (dk_at dksX1_visit_9 3 rfl rfl)
abbrev cX1_type : ByteArray := prog_1_method_11_code
def yX1_type : MethodName := ⟨RX1, "type", "(C)I"⟩
def dkwX1_type_1 : List UInt8 := [27, 182, 0, 75, 87, 42, 180, 0, 18, 182, 0, 68, 172]
abbrev dktX1_type_1 : List UInt8 := dkwX1_type_1 ++ []
def dkwX1_type_0 : List UInt8 := [42, 180, 0, 18, 182, 0, 68, 16, 80, 162, 0, 7, 4, 167, 0, 4, 3, 184, 0, 72, 42, 180, 0, 18]
abbrev dktX1_type_0 : List UInt8 := dkwX1_type_0 ++ dktX1_type_1
theorem dksX1_type_0 : cX1_type.data.toList.drop 0 = dktX1_type_0 := by decide +kernel
theorem dksX1_type_1 : cX1_type.data.toList.drop 24 = dktX1_type_1 := dk_seg dksX1_type_0 24 rfl rfl
theorem dX1_type_0 : decode cX1_type 0 = .ok (.aload_n 0, 1) := dk_42 (dk_at dksX1_type_0 0 rfl rfl)
theorem dX1_type_1 : decode cX1_type 1 = .ok (.getfield 18, 3) := dk_180 0 18 (dk_at dksX1_type_0 1 rfl rfl)
theorem dX1_type_4 : decode cX1_type 4 = .ok (.invokevirtual 68, 3) := dk_182 0 68 (dk_at dksX1_type_0 4 rfl rfl)
theorem dX1_type_7 : decode cX1_type 7 = .ok (.bipush 80, 2) := dk_16 80 (dk_at dksX1_type_0 7 rfl rfl)
theorem dX1_type_9 : decode cX1_type 9 = .ok (.if_icmp .ge 7, 3) := dk_162 0 7 (dk_at dksX1_type_0 9 rfl rfl)
theorem dX1_type_12 : decode cX1_type 12 = .ok (.iconst 1, 1) := dk_4 (dk_at dksX1_type_0 12 rfl rfl)
theorem dX1_type_13 : decode cX1_type 13 = .ok (.goto 4, 3) := dk_167 0 4 (dk_at dksX1_type_0 13 rfl rfl)
theorem dX1_type_16 : decode cX1_type 16 = .ok (.iconst 0, 1) := dk_3 (dk_at dksX1_type_0 16 rfl rfl)
theorem dX1_type_17 : decode cX1_type 17 = .ok (.invokestatic 72, 3) := dk_184 0 72 (dk_at dksX1_type_0 17 rfl rfl)
theorem dX1_type_20 : decode cX1_type 20 = .ok (.aload_n 0, 1) := dk_42 (dk_at dksX1_type_0 20 rfl rfl)
theorem dX1_type_21 : decode cX1_type 21 = .ok (.getfield 18, 3) := dk_180 0 18 (dk_at dksX1_type_0 21 rfl rfl)
theorem dX1_type_24 : decode cX1_type 24 = .ok (.iload_n 1, 1) := dk_27 (dk_at dksX1_type_1 0 rfl rfl)
theorem dX1_type_25 : decode cX1_type 25 = .ok (.invokevirtual 75, 3) := dk_182 0 75 (dk_at dksX1_type_1 1 rfl rfl)
theorem dX1_type_28 : decode cX1_type 28 = .ok (.pop, 1) := dk_87 (dk_at dksX1_type_1 4 rfl rfl)
theorem dX1_type_29 : decode cX1_type 29 = .ok (.aload_n 0, 1) := dk_42 (dk_at dksX1_type_1 5 rfl rfl)
theorem dX1_type_30 : decode cX1_type 30 = .ok (.getfield 18, 3) := dk_180 0 18 (dk_at dksX1_type_1 6 rfl rfl)
theorem dX1_type_33 : decode cX1_type 33 = .ok (.invokevirtual 68, 3) := dk_182 0 68 (dk_at dksX1_type_1 9 rfl rfl)
theorem dX1_type_36 : decode cX1_type 36 = .ok (.ireturn, 1) := dk_172 (dk_at dksX1_type_1 12 rfl rfl)
abbrev cX1_requireState : ByteArray := prog_1_method_5_code
def yX1_requireState : MethodName := ⟨RX1, "requireState", "(Z)V"⟩
def dkwX1_requireState_0 : List UInt8 := [26, 154, 0, 11, 187, 0, 43, 89, 183, 0, 45, 191, 177]
abbrev dktX1_requireState_0 : List UInt8 := dkwX1_requireState_0 ++ []
theorem dksX1_requireState_0 : cX1_requireState.data.toList.drop 0 = dktX1_requireState_0 := by decide +kernel
theorem dX1_requireState_0 : decode cX1_requireState 0 = .ok (.iload_n 0, 1) := dk_26 (dk_at dksX1_requireState_0 0 rfl rfl)
theorem dX1_requireState_1 : decode cX1_requireState 1 = .ok (.ifCond .ne 11, 3) := dk_154 0 11 (dk_at dksX1_requireState_0 1 rfl rfl)
theorem dX1_requireState_4 : decode cX1_requireState 4 = .ok (.new 43, 3) := dk_187 0 43 (dk_at dksX1_requireState_0 4 rfl rfl)
theorem dX1_requireState_7 : decode cX1_requireState 7 = .ok (.dup, 1) := dk_89 (dk_at dksX1_requireState_0 7 rfl rfl)
theorem dX1_requireState_8 : decode cX1_requireState 8 = .ok (.invokespecial 45, 3) := dk_183 0 45 (dk_at dksX1_requireState_0 8 rfl rfl)
theorem dX1_requireState_11 : decode cX1_requireState 11 = .ok (.athrow, 1) := dk_191 (dk_at dksX1_requireState_0 11 rfl rfl)
theorem dX1_requireState_12 : decode cX1_requireState 12 = .ok (.return_, 1) := dk_177 (dk_at dksX1_requireState_0 12 rfl rfl)
abbrev cX1_read : ByteArray := prog_1_method_12_code
def yX1_read : MethodName := ⟨RX1, "read", "(I)I"⟩
def dkwX1_read_3 : List UInt8 := [50, 180, 0, 97, 182, 0, 101, 172]
abbrev dktX1_read_3 : List UInt8 := dkwX1_read_3 ++ []
def dkwX1_read_2 : List UInt8 := [187, 0, 40, 89, 183, 0, 42, 191, 78, 42, 180, 0, 18, 3, 182, 0, 88, 45, 191, 42, 180, 0, 11, 27]
abbrev dktX1_read_2 : List UInt8 := dkwX1_read_2 ++ dktX1_read_3
def dkwX1_read_1 : List UInt8 := [182, 0, 84, 83, 42, 180, 0, 18, 3, 182, 0, 88, 167, 0, 31, 77, 42, 44, 180, 0, 94, 181, 0, 25]
abbrev dktX1_read_1 : List UInt8 := dkwX1_read_1 ++ dktX1_read_2
def dkwX1_read_0 : List UInt8 := [27, 3, 5, 184, 0, 52, 184, 0, 56, 42, 180, 0, 11, 27, 187, 0, 79, 89, 42, 183, 0, 81]
abbrev dktX1_read_0 : List UInt8 := dkwX1_read_0 ++ dktX1_read_1
theorem dksX1_read_0 : cX1_read.data.toList.drop 0 = dktX1_read_0 := by decide +kernel
theorem dksX1_read_1 : cX1_read.data.toList.drop 22 = dktX1_read_1 := dk_seg dksX1_read_0 22 rfl rfl
theorem dksX1_read_2 : cX1_read.data.toList.drop 46 = dktX1_read_2 := dk_seg dksX1_read_1 24 rfl rfl
theorem dksX1_read_3 : cX1_read.data.toList.drop 70 = dktX1_read_3 := dk_seg dksX1_read_2 24 rfl rfl
theorem dX1_read_0 : decode cX1_read 0 = .ok (.iload_n 1, 1) := dk_27 (dk_at dksX1_read_0 0 rfl rfl)
theorem dX1_read_1 : decode cX1_read 1 = .ok (.iconst 0, 1) := dk_3 (dk_at dksX1_read_0 1 rfl rfl)
theorem dX1_read_2 : decode cX1_read 2 = .ok (.iconst 2, 1) := dk_5 (dk_at dksX1_read_0 2 rfl rfl)
theorem dX1_read_3 : decode cX1_read 3 = .ok (.invokestatic 52, 3) := dk_184 0 52 (dk_at dksX1_read_0 3 rfl rfl)
theorem dX1_read_6 : decode cX1_read 6 = .ok (.invokestatic 56, 3) := dk_184 0 56 (dk_at dksX1_read_0 6 rfl rfl)
theorem dX1_read_9 : decode cX1_read 9 = .ok (.aload_n 0, 1) := dk_42 (dk_at dksX1_read_0 9 rfl rfl)
theorem dX1_read_10 : decode cX1_read 10 = .ok (.getfield 11, 3) := dk_180 0 11 (dk_at dksX1_read_0 10 rfl rfl)
theorem dX1_read_13 : decode cX1_read 13 = .ok (.iload_n 1, 1) := dk_27 (dk_at dksX1_read_0 13 rfl rfl)
theorem dX1_read_14 : decode cX1_read 14 = .ok (.new 79, 3) := dk_187 0 79 (dk_at dksX1_read_0 14 rfl rfl)
theorem dX1_read_17 : decode cX1_read 17 = .ok (.dup, 1) := dk_89 (dk_at dksX1_read_0 17 rfl rfl)
theorem dX1_read_18 : decode cX1_read 18 = .ok (.aload_n 0, 1) := dk_42 (dk_at dksX1_read_0 18 rfl rfl)
theorem dX1_read_19 : decode cX1_read 19 = .ok (.invokespecial 81, 3) := dk_183 0 81 (dk_at dksX1_read_0 19 rfl rfl)
theorem dX1_read_22 : decode cX1_read 22 = .ok (.invokevirtual 84, 3) := dk_182 0 84 (dk_at dksX1_read_1 0 rfl rfl)
theorem dX1_read_25 : decode cX1_read 25 = .ok (.aastore, 1) := dk_83 (dk_at dksX1_read_1 3 rfl rfl)
theorem dX1_read_26 : decode cX1_read 26 = .ok (.aload_n 0, 1) := dk_42 (dk_at dksX1_read_1 4 rfl rfl)
theorem dX1_read_27 : decode cX1_read 27 = .ok (.getfield 18, 3) := dk_180 0 18 (dk_at dksX1_read_1 5 rfl rfl)
theorem dX1_read_30 : decode cX1_read 30 = .ok (.iconst 0, 1) := dk_3 (dk_at dksX1_read_1 8 rfl rfl)
theorem dX1_read_31 : decode cX1_read 31 = .ok (.invokevirtual 88, 3) := dk_182 0 88 (dk_at dksX1_read_1 9 rfl rfl)
theorem dX1_read_34 : decode cX1_read 34 = .ok (.goto 31, 3) := dk_167 0 31 (dk_at dksX1_read_1 12 rfl rfl)
theorem dX1_read_37 : decode cX1_read 37 = .ok (.astore_n 2, 1) := dk_77 (dk_at dksX1_read_1 15 rfl rfl)
theorem dX1_read_38 : decode cX1_read 38 = .ok (.aload_n 0, 1) := dk_42 (dk_at dksX1_read_1 16 rfl rfl)
theorem dX1_read_39 : decode cX1_read 39 = .ok (.aload_n 2, 1) := dk_44 (dk_at dksX1_read_1 17 rfl rfl)
theorem dX1_read_40 : decode cX1_read 40 = .ok (.getfield 94, 3) := dk_180 0 94 (dk_at dksX1_read_1 18 rfl rfl)
theorem dX1_read_43 : decode cX1_read 43 = .ok (.putfield 25, 3) := dk_181 0 25 (dk_at dksX1_read_1 21 rfl rfl)
theorem dX1_read_46 : decode cX1_read 46 = .ok (.new 40, 3) := dk_187 0 40 (dk_at dksX1_read_2 0 rfl rfl)
theorem dX1_read_49 : decode cX1_read 49 = .ok (.dup, 1) := dk_89 (dk_at dksX1_read_2 3 rfl rfl)
theorem dX1_read_50 : decode cX1_read 50 = .ok (.invokespecial 42, 3) := dk_183 0 42 (dk_at dksX1_read_2 4 rfl rfl)
theorem dX1_read_53 : decode cX1_read 53 = .ok (.athrow, 1) := dk_191 (dk_at dksX1_read_2 7 rfl rfl)
theorem dX1_read_54 : decode cX1_read 54 = .ok (.astore_n 3, 1) := dk_78 (dk_at dksX1_read_2 8 rfl rfl)
theorem dX1_read_55 : decode cX1_read 55 = .ok (.aload_n 0, 1) := dk_42 (dk_at dksX1_read_2 9 rfl rfl)
theorem dX1_read_56 : decode cX1_read 56 = .ok (.getfield 18, 3) := dk_180 0 18 (dk_at dksX1_read_2 10 rfl rfl)
theorem dX1_read_59 : decode cX1_read 59 = .ok (.iconst 0, 1) := dk_3 (dk_at dksX1_read_2 13 rfl rfl)
theorem dX1_read_60 : decode cX1_read 60 = .ok (.invokevirtual 88, 3) := dk_182 0 88 (dk_at dksX1_read_2 14 rfl rfl)
theorem dX1_read_63 : decode cX1_read 63 = .ok (.aload_n 3, 1) := dk_45 (dk_at dksX1_read_2 17 rfl rfl)
theorem dX1_read_64 : decode cX1_read 64 = .ok (.athrow, 1) := dk_191 (dk_at dksX1_read_2 18 rfl rfl)
theorem dX1_read_65 : decode cX1_read 65 = .ok (.aload_n 0, 1) := dk_42 (dk_at dksX1_read_2 19 rfl rfl)
theorem dX1_read_66 : decode cX1_read 66 = .ok (.getfield 11, 3) := dk_180 0 11 (dk_at dksX1_read_2 20 rfl rfl)
theorem dX1_read_69 : decode cX1_read 69 = .ok (.iload_n 1, 1) := dk_27 (dk_at dksX1_read_2 23 rfl rfl)
theorem dX1_read_70 : decode cX1_read 70 = .ok (.aaload, 1) := dk_50 (dk_at dksX1_read_3 0 rfl rfl)
theorem dX1_read_71 : decode cX1_read 71 = .ok (.getfield 97, 3) := dk_180 0 97 (dk_at dksX1_read_3 1 rfl rfl)
theorem dX1_read_74 : decode cX1_read 74 = .ok (.invokevirtual 101, 3) := dk_182 0 101 (dk_at dksX1_read_3 4 rfl rfl)
theorem dX1_read_77 : decode cX1_read 77 = .ok (.ireturn, 1) := dk_172 (dk_at dksX1_read_3 7 rfl rfl)
abbrev cX1_isBetween : ByteArray := prog_1_method_2_code
def yX1_isBetween : MethodName := ⟨RX1, "isBetween", "(III)Z"⟩
def dkwX1_isBetween_0 : List UInt8 := [26, 27, 161, 0, 12, 26, 28, 163, 0, 7, 4, 167, 0, 4, 3, 172]
abbrev dktX1_isBetween_0 : List UInt8 := dkwX1_isBetween_0 ++ []
theorem dksX1_isBetween_0 : cX1_isBetween.data.toList.drop 0 = dktX1_isBetween_0 := by decide +kernel
theorem dX1_isBetween_0 : decode cX1_isBetween 0 = .ok (.iload_n 0, 1) := dk_26 (dk_at dksX1_isBetween_0 0 rfl rfl)
theorem dX1_isBetween_1 : decode cX1_isBetween 1 = .ok (.iload_n 1, 1) := dk_27 (dk_at dksX1_isBetween_0 1 rfl rfl)
theorem dX1_isBetween_2 : decode cX1_isBetween 2 = .ok (.if_icmp .lt 12, 3) := dk_161 0 12 (dk_at dksX1_isBetween_0 2 rfl rfl)
theorem dX1_isBetween_5 : decode cX1_isBetween 5 = .ok (.iload_n 0, 1) := dk_26 (dk_at dksX1_isBetween_0 5 rfl rfl)
theorem dX1_isBetween_6 : decode cX1_isBetween 6 = .ok (.iload_n 2, 1) := dk_28 (dk_at dksX1_isBetween_0 6 rfl rfl)
theorem dX1_isBetween_7 : decode cX1_isBetween 7 = .ok (.if_icmp .gt 7, 3) := dk_163 0 7 (dk_at dksX1_isBetween_0 7 rfl rfl)
theorem dX1_isBetween_10 : decode cX1_isBetween 10 = .ok (.iconst 1, 1) := dk_4 (dk_at dksX1_isBetween_0 10 rfl rfl)
theorem dX1_isBetween_11 : decode cX1_isBetween 11 = .ok (.goto 4, 3) := dk_167 0 4 (dk_at dksX1_isBetween_0 11 rfl rfl)
theorem dX1_isBetween_14 : decode cX1_isBetween 14 = .ok (.iconst 0, 1) := dk_3 (dk_at dksX1_isBetween_0 14 rfl rfl)
theorem dX1_isBetween_15 : decode cX1_isBetween 15 = .ok (.ireturn, 1) := dk_172 (dk_at dksX1_isBetween_0 15 rfl rfl)
abbrev cX1_requireIndex : ByteArray := prog_1_method_3_code
def yX1_requireIndex : MethodName := ⟨RX1, "requireIndex", "(Z)V"⟩
def dkwX1_requireIndex_0 : List UInt8 := [26, 154, 0, 11, 187, 0, 37, 89, 183, 0, 39, 191, 177]
abbrev dktX1_requireIndex_0 : List UInt8 := dkwX1_requireIndex_0 ++ []
theorem dksX1_requireIndex_0 : cX1_requireIndex.data.toList.drop 0 = dktX1_requireIndex_0 := by decide +kernel
theorem dX1_requireIndex_0 : decode cX1_requireIndex 0 = .ok (.iload_n 0, 1) := dk_26 (dk_at dksX1_requireIndex_0 0 rfl rfl)
theorem dX1_requireIndex_1 : decode cX1_requireIndex 1 = .ok (.ifCond .ne 11, 3) := dk_154 0 11 (dk_at dksX1_requireIndex_0 1 rfl rfl)
theorem dX1_requireIndex_4 : decode cX1_requireIndex 4 = .ok (.new 37, 3) := dk_187 0 37 (dk_at dksX1_requireIndex_0 4 rfl rfl)
theorem dX1_requireIndex_7 : decode cX1_requireIndex 7 = .ok (.dup, 1) := dk_89 (dk_at dksX1_requireIndex_0 7 rfl rfl)
theorem dX1_requireIndex_8 : decode cX1_requireIndex 8 = .ok (.invokespecial 39, 3) := dk_183 0 39 (dk_at dksX1_requireIndex_0 8 rfl rfl)
theorem dX1_requireIndex_11 : decode cX1_requireIndex 11 = .ok (.athrow, 1) := dk_191 (dk_at dksX1_requireIndex_0 11 rfl rfl)
theorem dX1_requireIndex_12 : decode cX1_requireIndex 12 = .ok (.return_, 1) := dk_177 (dk_at dksX1_requireIndex_0 12 rfl rfl)
abbrev cX1_isLetter : ByteArray := prog_1_method_10_code
def yX1_isLetter : MethodName := ⟨RX1, "isLetter", "(C)Z"⟩
def dkwX1_isLetter_0 : List UInt8 := [26, 16, 97, 161, 0, 13, 26, 16, 122, 163, 0, 7, 4, 167, 0, 4, 3, 172]
abbrev dktX1_isLetter_0 : List UInt8 := dkwX1_isLetter_0 ++ []
theorem dksX1_isLetter_0 : cX1_isLetter.data.toList.drop 0 = dktX1_isLetter_0 := by decide +kernel
theorem dX1_isLetter_0 : decode cX1_isLetter 0 = .ok (.iload_n 0, 1) := dk_26 (dk_at dksX1_isLetter_0 0 rfl rfl)
theorem dX1_isLetter_1 : decode cX1_isLetter 1 = .ok (.bipush 97, 2) := dk_16 97 (dk_at dksX1_isLetter_0 1 rfl rfl)
theorem dX1_isLetter_3 : decode cX1_isLetter 3 = .ok (.if_icmp .lt 13, 3) := dk_161 0 13 (dk_at dksX1_isLetter_0 3 rfl rfl)
theorem dX1_isLetter_6 : decode cX1_isLetter 6 = .ok (.iload_n 0, 1) := dk_26 (dk_at dksX1_isLetter_0 6 rfl rfl)
theorem dX1_isLetter_7 : decode cX1_isLetter 7 = .ok (.bipush 122, 2) := dk_16 122 (dk_at dksX1_isLetter_0 7 rfl rfl)
theorem dX1_isLetter_9 : decode cX1_isLetter 9 = .ok (.if_icmp .gt 7, 3) := dk_163 0 7 (dk_at dksX1_isLetter_0 9 rfl rfl)
theorem dX1_isLetter_12 : decode cX1_isLetter 12 = .ok (.iconst 1, 1) := dk_4 (dk_at dksX1_isLetter_0 12 rfl rfl)
theorem dX1_isLetter_13 : decode cX1_isLetter 13 = .ok (.goto 4, 3) := dk_167 0 4 (dk_at dksX1_isLetter_0 13 rfl rfl)
theorem dX1_isLetter_16 : decode cX1_isLetter 16 = .ok (.iconst 0, 1) := dk_3 (dk_at dksX1_isLetter_0 16 rfl rfl)
theorem dX1_isLetter_17 : decode cX1_isLetter 17 = .ok (.ireturn, 1) := dk_172 (dk_at dksX1_isLetter_0 17 rfl rfl)
abbrev cX1_errorPosition : ByteArray := prog_1_method_13_code
def yX1_errorPosition : MethodName := ⟨RX1, "errorPosition", "()I"⟩
def dkwX1_errorPosition_0 : List UInt8 := [42, 180, 0, 25, 2, 159, 0, 7, 4, 167, 0, 4, 3, 184, 0, 104, 42, 180, 0, 25, 172]
abbrev dktX1_errorPosition_0 : List UInt8 := dkwX1_errorPosition_0 ++ []
theorem dksX1_errorPosition_0 : cX1_errorPosition.data.toList.drop 0 = dktX1_errorPosition_0 := by decide +kernel
theorem dX1_errorPosition_0 : decode cX1_errorPosition 0 = .ok (.aload_n 0, 1) := dk_42 (dk_at dksX1_errorPosition_0 0 rfl rfl)
theorem dX1_errorPosition_1 : decode cX1_errorPosition 1 = .ok (.getfield 25, 3) := dk_180 0 25 (dk_at dksX1_errorPosition_0 1 rfl rfl)
theorem dX1_errorPosition_4 : decode cX1_errorPosition 4 = .ok (.iconst (-1), 1) := dk_2 (dk_at dksX1_errorPosition_0 4 rfl rfl)
theorem dX1_errorPosition_5 : decode cX1_errorPosition 5 = .ok (.if_icmp .eq 7, 3) := dk_159 0 7 (dk_at dksX1_errorPosition_0 5 rfl rfl)
theorem dX1_errorPosition_8 : decode cX1_errorPosition 8 = .ok (.iconst 1, 1) := dk_4 (dk_at dksX1_errorPosition_0 8 rfl rfl)
theorem dX1_errorPosition_9 : decode cX1_errorPosition 9 = .ok (.goto 4, 3) := dk_167 0 4 (dk_at dksX1_errorPosition_0 9 rfl rfl)
theorem dX1_errorPosition_12 : decode cX1_errorPosition 12 = .ok (.iconst 0, 1) := dk_3 (dk_at dksX1_errorPosition_0 12 rfl rfl)
theorem dX1_errorPosition_13 : decode cX1_errorPosition 13 = .ok (.invokestatic 104, 3) := dk_184 0 104 (dk_at dksX1_errorPosition_0 13 rfl rfl)
theorem dX1_errorPosition_16 : decode cX1_errorPosition 16 = .ok (.aload_n 0, 1) := dk_42 (dk_at dksX1_errorPosition_0 16 rfl rfl)
theorem dX1_errorPosition_17 : decode cX1_errorPosition 17 = .ok (.getfield 25, 3) := dk_180 0 25 (dk_at dksX1_errorPosition_0 17 rfl rfl)
theorem dX1_errorPosition_20 : decode cX1_errorPosition 20 = .ok (.ireturn, 1) := dk_172 (dk_at dksX1_errorPosition_0 20 rfl rfl)
abbrev cX1_requireElement : ByteArray := prog_1_method_6_code
def yX1_requireElement : MethodName := ⟨RX1, "requireElement", "(Z)V"⟩
def dkwX1_requireElement_0 : List UInt8 := [26, 154, 0, 11, 187, 0, 46, 89, 183, 0, 48, 191, 177]
abbrev dktX1_requireElement_0 : List UInt8 := dkwX1_requireElement_0 ++ []
theorem dksX1_requireElement_0 : cX1_requireElement.data.toList.drop 0 = dktX1_requireElement_0 := by decide +kernel
theorem dX1_requireElement_0 : decode cX1_requireElement 0 = .ok (.iload_n 0, 1) := dk_26 (dk_at dksX1_requireElement_0 0 rfl rfl)
theorem dX1_requireElement_1 : decode cX1_requireElement 1 = .ok (.ifCond .ne 11, 3) := dk_154 0 11 (dk_at dksX1_requireElement_0 1 rfl rfl)
theorem dX1_requireElement_4 : decode cX1_requireElement 4 = .ok (.new 46, 3) := dk_187 0 46 (dk_at dksX1_requireElement_0 4 rfl rfl)
theorem dX1_requireElement_7 : decode cX1_requireElement 7 = .ok (.dup, 1) := dk_89 (dk_at dksX1_requireElement_0 7 rfl rfl)
theorem dX1_requireElement_8 : decode cX1_requireElement 8 = .ok (.invokespecial 48, 3) := dk_183 0 48 (dk_at dksX1_requireElement_0 8 rfl rfl)
theorem dX1_requireElement_11 : decode cX1_requireElement 11 = .ok (.athrow, 1) := dk_191 (dk_at dksX1_requireElement_0 11 rfl rfl)
theorem dX1_requireElement_12 : decode cX1_requireElement 12 = .ok (.return_, 1) := dk_177 (dk_at dksX1_requireElement_0 12 rfl rfl)
abbrev cX1_writeTree : ByteArray := prog_1_method_14_code
def yX1_writeTree : MethodName := ⟨RX1, "writeTree", "(I)I"⟩
def dkwX1_writeTree_1 : List UInt8 := [182, 0, 107, 42, 180, 0, 22, 182, 0, 68, 172]
abbrev dktX1_writeTree_1 : List UInt8 := dkwX1_writeTree_1 ++ []
def dkwX1_writeTree_0 : List UInt8 := [42, 27, 182, 0, 60, 77, 42, 180, 0, 22, 3, 182, 0, 88, 44, 180, 0, 97, 42, 180, 0, 22]
abbrev dktX1_writeTree_0 : List UInt8 := dkwX1_writeTree_0 ++ dktX1_writeTree_1
theorem dksX1_writeTree_0 : cX1_writeTree.data.toList.drop 0 = dktX1_writeTree_0 := by decide +kernel
theorem dksX1_writeTree_1 : cX1_writeTree.data.toList.drop 22 = dktX1_writeTree_1 := dk_seg dksX1_writeTree_0 22 rfl rfl
theorem dX1_writeTree_0 : decode cX1_writeTree 0 = .ok (.aload_n 0, 1) := dk_42 (dk_at dksX1_writeTree_0 0 rfl rfl)
theorem dX1_writeTree_1 : decode cX1_writeTree 1 = .ok (.iload_n 1, 1) := dk_27 (dk_at dksX1_writeTree_0 1 rfl rfl)
theorem dX1_writeTree_2 : decode cX1_writeTree 2 = .ok (.invokevirtual 60, 3) := dk_182 0 60 (dk_at dksX1_writeTree_0 2 rfl rfl)
theorem dX1_writeTree_5 : decode cX1_writeTree 5 = .ok (.astore_n 2, 1) := dk_77 (dk_at dksX1_writeTree_0 5 rfl rfl)
theorem dX1_writeTree_6 : decode cX1_writeTree 6 = .ok (.aload_n 0, 1) := dk_42 (dk_at dksX1_writeTree_0 6 rfl rfl)
theorem dX1_writeTree_7 : decode cX1_writeTree 7 = .ok (.getfield 22, 3) := dk_180 0 22 (dk_at dksX1_writeTree_0 7 rfl rfl)
theorem dX1_writeTree_10 : decode cX1_writeTree 10 = .ok (.iconst 0, 1) := dk_3 (dk_at dksX1_writeTree_0 10 rfl rfl)
theorem dX1_writeTree_11 : decode cX1_writeTree 11 = .ok (.invokevirtual 88, 3) := dk_182 0 88 (dk_at dksX1_writeTree_0 11 rfl rfl)
theorem dX1_writeTree_14 : decode cX1_writeTree 14 = .ok (.aload_n 2, 1) := dk_44 (dk_at dksX1_writeTree_0 14 rfl rfl)
theorem dX1_writeTree_15 : decode cX1_writeTree 15 = .ok (.getfield 97, 3) := dk_180 0 97 (dk_at dksX1_writeTree_0 15 rfl rfl)
theorem dX1_writeTree_18 : decode cX1_writeTree 18 = .ok (.aload_n 0, 1) := dk_42 (dk_at dksX1_writeTree_0 18 rfl rfl)
theorem dX1_writeTree_19 : decode cX1_writeTree 19 = .ok (.getfield 22, 3) := dk_180 0 22 (dk_at dksX1_writeTree_0 19 rfl rfl)
theorem dX1_writeTree_22 : decode cX1_writeTree 22 = .ok (.invokevirtual 107, 3) := dk_182 0 107 (dk_at dksX1_writeTree_1 0 rfl rfl)
theorem dX1_writeTree_25 : decode cX1_writeTree 25 = .ok (.aload_n 0, 1) := dk_42 (dk_at dksX1_writeTree_1 3 rfl rfl)
theorem dX1_writeTree_26 : decode cX1_writeTree 26 = .ok (.getfield 22, 3) := dk_180 0 22 (dk_at dksX1_writeTree_1 4 rfl rfl)
theorem dX1_writeTree_29 : decode cX1_writeTree 29 = .ok (.invokevirtual 68, 3) := dk_182 0 68 (dk_at dksX1_writeTree_1 7 rfl rfl)
theorem dX1_writeTree_32 : decode cX1_writeTree 32 = .ok (.ireturn, 1) := dk_172 (dk_at dksX1_writeTree_1 10 rfl rfl)
abbrev cX1_treeOf : ByteArray := prog_1_method_8_code
def yX1_treeOf : MethodName := ⟨RX1, "treeOf", "(I)LTreeDiffer$Tree;"⟩
def dkwX1_treeOf_0 : List UInt8 := [27, 3, 5, 184, 0, 52, 184, 0, 56, 42, 180, 0, 11, 27, 50, 176]
abbrev dktX1_treeOf_0 : List UInt8 := dkwX1_treeOf_0 ++ []
theorem dksX1_treeOf_0 : cX1_treeOf.data.toList.drop 0 = dktX1_treeOf_0 := by decide +kernel
theorem dX1_treeOf_0 : decode cX1_treeOf 0 = .ok (.iload_n 1, 1) := dk_27 (dk_at dksX1_treeOf_0 0 rfl rfl)
theorem dX1_treeOf_1 : decode cX1_treeOf 1 = .ok (.iconst 0, 1) := dk_3 (dk_at dksX1_treeOf_0 1 rfl rfl)
theorem dX1_treeOf_2 : decode cX1_treeOf 2 = .ok (.iconst 2, 1) := dk_5 (dk_at dksX1_treeOf_0 2 rfl rfl)
theorem dX1_treeOf_3 : decode cX1_treeOf 3 = .ok (.invokestatic 52, 3) := dk_184 0 52 (dk_at dksX1_treeOf_0 3 rfl rfl)
theorem dX1_treeOf_6 : decode cX1_treeOf 6 = .ok (.invokestatic 56, 3) := dk_184 0 56 (dk_at dksX1_treeOf_0 6 rfl rfl)
theorem dX1_treeOf_9 : decode cX1_treeOf 9 = .ok (.aload_n 0, 1) := dk_42 (dk_at dksX1_treeOf_0 9 rfl rfl)
theorem dX1_treeOf_10 : decode cX1_treeOf 10 = .ok (.getfield 11, 3) := dk_180 0 11 (dk_at dksX1_treeOf_0 10 rfl rfl)
theorem dX1_treeOf_13 : decode cX1_treeOf 13 = .ok (.iload_n 1, 1) := dk_27 (dk_at dksX1_treeOf_0 13 rfl rfl)
theorem dX1_treeOf_14 : decode cX1_treeOf 14 = .ok (.aaload, 1) := dk_50 (dk_at dksX1_treeOf_0 14 rfl rfl)
theorem dX1_treeOf_15 : decode cX1_treeOf 15 = .ok (.areturn, 1) := dk_176 (dk_at dksX1_treeOf_0 15 rfl rfl)
abbrev cX1_writeScript : ByteArray := prog_1_method_15_code
def yX1_writeScript : MethodName := ⟨RX1, "writeScript", "()I"⟩
def dkwX1_writeScript_3 : List UInt8 := [182, 0, 68, 172]
abbrev dktX1_writeScript_3 : List UInt8 := dkwX1_writeScript_3 ++ []
def dkwX1_writeScript_2 : List UInt8 := [180, 0, 139, 182, 0, 75, 43, 45, 182, 0, 143, 182, 0, 147, 87, 167, 255, 217, 42, 180, 0, 22]
abbrev dktX1_writeScript_2 : List UInt8 := dkwX1_writeScript_2 ++ dktX1_writeScript_3
def dkwX1_writeScript_1 : List UInt8 := [185, 0, 127, 1, 0, 153, 0, 36, 44, 185, 0, 133, 1, 0, 192, 0, 137, 78, 42, 180, 0, 22, 45]
abbrev dktX1_writeScript_1 : List UInt8 := dkwX1_writeScript_1 ++ dktX1_writeScript_2
def dkwX1_writeScript_0 : List UInt8 := [42, 182, 0, 111, 76, 42, 180, 0, 22, 3, 182, 0, 88, 43, 180, 0, 115, 185, 0, 121, 1, 0, 77, 44]
abbrev dktX1_writeScript_0 : List UInt8 := dkwX1_writeScript_0 ++ dktX1_writeScript_1
theorem dksX1_writeScript_0 : cX1_writeScript.data.toList.drop 0 = dktX1_writeScript_0 := by decide +kernel
theorem dksX1_writeScript_1 : cX1_writeScript.data.toList.drop 24 = dktX1_writeScript_1 := dk_seg dksX1_writeScript_0 24 rfl rfl
theorem dksX1_writeScript_2 : cX1_writeScript.data.toList.drop 47 = dktX1_writeScript_2 := dk_seg dksX1_writeScript_1 23 rfl rfl
theorem dksX1_writeScript_3 : cX1_writeScript.data.toList.drop 69 = dktX1_writeScript_3 := dk_seg dksX1_writeScript_2 22 rfl rfl
theorem dX1_writeScript_0 : decode cX1_writeScript 0 = .ok (.aload_n 0, 1) := dk_42 (dk_at dksX1_writeScript_0 0 rfl rfl)
theorem dX1_writeScript_1 : decode cX1_writeScript 1 = .ok (.invokevirtual 111, 3) := dk_182 0 111 (dk_at dksX1_writeScript_0 1 rfl rfl)
theorem dX1_writeScript_4 : decode cX1_writeScript 4 = .ok (.astore_n 1, 1) := dk_76 (dk_at dksX1_writeScript_0 4 rfl rfl)
theorem dX1_writeScript_5 : decode cX1_writeScript 5 = .ok (.aload_n 0, 1) := dk_42 (dk_at dksX1_writeScript_0 5 rfl rfl)
theorem dX1_writeScript_6 : decode cX1_writeScript 6 = .ok (.getfield 22, 3) := dk_180 0 22 (dk_at dksX1_writeScript_0 6 rfl rfl)
theorem dX1_writeScript_9 : decode cX1_writeScript 9 = .ok (.iconst 0, 1) := dk_3 (dk_at dksX1_writeScript_0 9 rfl rfl)
theorem dX1_writeScript_10 : decode cX1_writeScript 10 = .ok (.invokevirtual 88, 3) := dk_182 0 88 (dk_at dksX1_writeScript_0 10 rfl rfl)
theorem dX1_writeScript_13 : decode cX1_writeScript 13 = .ok (.aload_n 1, 1) := dk_43 (dk_at dksX1_writeScript_0 13 rfl rfl)
theorem dX1_writeScript_14 : decode cX1_writeScript 14 = .ok (.getfield 115, 3) := dk_180 0 115 (dk_at dksX1_writeScript_0 14 rfl rfl)
theorem dX1_writeScript_17 : decode cX1_writeScript 17 = .ok (.invokeinterface 121 1, 5) := by decide +kernel
theorem dX1_writeScript_22 : decode cX1_writeScript 22 = .ok (.astore_n 2, 1) := dk_77 (dk_at dksX1_writeScript_0 22 rfl rfl)
theorem dX1_writeScript_23 : decode cX1_writeScript 23 = .ok (.aload_n 2, 1) := dk_44 (dk_at dksX1_writeScript_0 23 rfl rfl)
theorem dX1_writeScript_24 : decode cX1_writeScript 24 = .ok (.invokeinterface 127 1, 5) := by decide +kernel
theorem dX1_writeScript_29 : decode cX1_writeScript 29 = .ok (.ifCond .eq 36, 3) := dk_153 0 36 (dk_at dksX1_writeScript_1 5 rfl rfl)
theorem dX1_writeScript_32 : decode cX1_writeScript 32 = .ok (.aload_n 2, 1) := dk_44 (dk_at dksX1_writeScript_1 8 rfl rfl)
theorem dX1_writeScript_33 : decode cX1_writeScript 33 = .ok (.invokeinterface 133 1, 5) := by decide +kernel
theorem dX1_writeScript_38 : decode cX1_writeScript 38 = .ok (.checkcast 137, 3) := dk_192 0 137 (dk_at dksX1_writeScript_1 14 rfl rfl)
theorem dX1_writeScript_41 : decode cX1_writeScript 41 = .ok (.astore_n 3, 1) := dk_78 (dk_at dksX1_writeScript_1 17 rfl rfl)
theorem dX1_writeScript_42 : decode cX1_writeScript 42 = .ok (.aload_n 0, 1) := dk_42 (dk_at dksX1_writeScript_1 18 rfl rfl)
theorem dX1_writeScript_43 : decode cX1_writeScript 43 = .ok (.getfield 22, 3) := dk_180 0 22 (dk_at dksX1_writeScript_1 19 rfl rfl)
theorem dX1_writeScript_46 : decode cX1_writeScript 46 = .ok (.aload_n 3, 1) := dk_45 (dk_at dksX1_writeScript_1 22 rfl rfl)
theorem dX1_writeScript_47 : decode cX1_writeScript 47 = .ok (.getfield 139, 3) := dk_180 0 139 (dk_at dksX1_writeScript_2 0 rfl rfl)
theorem dX1_writeScript_50 : decode cX1_writeScript 50 = .ok (.invokevirtual 75, 3) := dk_182 0 75 (dk_at dksX1_writeScript_2 3 rfl rfl)
theorem dX1_writeScript_53 : decode cX1_writeScript 53 = .ok (.aload_n 1, 1) := dk_43 (dk_at dksX1_writeScript_2 6 rfl rfl)
theorem dX1_writeScript_54 : decode cX1_writeScript 54 = .ok (.aload_n 3, 1) := dk_45 (dk_at dksX1_writeScript_2 7 rfl rfl)
theorem dX1_writeScript_55 : decode cX1_writeScript 55 = .ok (.invokevirtual 143, 3) := dk_182 0 143 (dk_at dksX1_writeScript_2 8 rfl rfl)
theorem dX1_writeScript_58 : decode cX1_writeScript 58 = .ok (.invokevirtual 147, 3) := dk_182 0 147 (dk_at dksX1_writeScript_2 11 rfl rfl)
theorem dX1_writeScript_61 : decode cX1_writeScript 61 = .ok (.pop, 1) := dk_87 (dk_at dksX1_writeScript_2 14 rfl rfl)
theorem dX1_writeScript_62 : decode cX1_writeScript 62 = .ok (.goto (-39), 3) := dk_167 255 217 (dk_at dksX1_writeScript_2 15 rfl rfl)
theorem dX1_writeScript_65 : decode cX1_writeScript 65 = .ok (.aload_n 0, 1) := dk_42 (dk_at dksX1_writeScript_2 18 rfl rfl)
theorem dX1_writeScript_66 : decode cX1_writeScript 66 = .ok (.getfield 22, 3) := dk_180 0 22 (dk_at dksX1_writeScript_2 19 rfl rfl)
theorem dX1_writeScript_69 : decode cX1_writeScript 69 = .ok (.invokevirtual 68, 3) := dk_182 0 68 (dk_at dksX1_writeScript_3 0 rfl rfl)
theorem dX1_writeScript_72 : decode cX1_writeScript 72 = .ok (.ireturn, 1) := dk_172 (dk_at dksX1_writeScript_3 3 rfl rfl)
abbrev cX1_latest : ByteArray := prog_1_method_42_code
def yX1_latest : MethodName := ⟨RX1, "latest", "()LTreeDiffer$Script;"⟩
def dkwX1_latest_0 : List UInt8 := [42, 180, 1, 15, 198, 0, 7, 4, 167, 0, 4, 3, 184, 0, 72, 42, 180, 1, 15, 176]
abbrev dktX1_latest_0 : List UInt8 := dkwX1_latest_0 ++ []
theorem dksX1_latest_0 : cX1_latest.data.toList.drop 0 = dktX1_latest_0 := by decide +kernel
theorem dX1_latest_0 : decode cX1_latest 0 = .ok (.aload_n 0, 1) := dk_42 (dk_at dksX1_latest_0 0 rfl rfl)
theorem dX1_latest_1 : decode cX1_latest 1 = .ok (.getfield 271, 3) := dk_180 1 15 (dk_at dksX1_latest_0 1 rfl rfl)
theorem dX1_latest_4 : decode cX1_latest 4 = .ok (.ifnull 7, 3) := dk_198 0 7 (dk_at dksX1_latest_0 4 rfl rfl)
theorem dX1_latest_7 : decode cX1_latest 7 = .ok (.iconst 1, 1) := dk_4 (dk_at dksX1_latest_0 7 rfl rfl)
theorem dX1_latest_8 : decode cX1_latest 8 = .ok (.goto 4, 3) := dk_167 0 4 (dk_at dksX1_latest_0 8 rfl rfl)
theorem dX1_latest_11 : decode cX1_latest 11 = .ok (.iconst 0, 1) := dk_3 (dk_at dksX1_latest_0 11 rfl rfl)
theorem dX1_latest_12 : decode cX1_latest 12 = .ok (.invokestatic 72, 3) := dk_184 0 72 (dk_at dksX1_latest_0 12 rfl rfl)
theorem dX1_latest_15 : decode cX1_latest 15 = .ok (.aload_n 0, 1) := dk_42 (dk_at dksX1_latest_0 15 rfl rfl)
theorem dX1_latest_16 : decode cX1_latest 16 = .ok (.getfield 271, 3) := dk_180 1 15 (dk_at dksX1_latest_0 16 rfl rfl)
theorem dX1_latest_19 : decode cX1_latest 19 = .ok (.areturn, 1) := dk_176 (dk_at dksX1_latest_0 19 rfl rfl)
abbrev cX1_charAt : ByteArray := prog_1_method_16_code
def yX1_charAt : MethodName := ⟨RX1, "charAt", "(I)C"⟩
def dkwX1_charAt_1 : List UInt8 := [182, 0, 150, 172]
abbrev dktX1_charAt_1 : List UInt8 := dkwX1_charAt_1 ++ []
def dkwX1_charAt_0 : List UInt8 := [27, 3, 42, 180, 0, 22, 182, 0, 68, 4, 100, 184, 0, 52, 184, 0, 56, 42, 180, 0, 22, 27]
abbrev dktX1_charAt_0 : List UInt8 := dkwX1_charAt_0 ++ dktX1_charAt_1
theorem dksX1_charAt_0 : cX1_charAt.data.toList.drop 0 = dktX1_charAt_0 := by decide +kernel
theorem dksX1_charAt_1 : cX1_charAt.data.toList.drop 22 = dktX1_charAt_1 := dk_seg dksX1_charAt_0 22 rfl rfl
theorem dX1_charAt_0 : decode cX1_charAt 0 = .ok (.iload_n 1, 1) := dk_27 (dk_at dksX1_charAt_0 0 rfl rfl)
theorem dX1_charAt_1 : decode cX1_charAt 1 = .ok (.iconst 0, 1) := dk_3 (dk_at dksX1_charAt_0 1 rfl rfl)
theorem dX1_charAt_2 : decode cX1_charAt 2 = .ok (.aload_n 0, 1) := dk_42 (dk_at dksX1_charAt_0 2 rfl rfl)
theorem dX1_charAt_3 : decode cX1_charAt 3 = .ok (.getfield 22, 3) := dk_180 0 22 (dk_at dksX1_charAt_0 3 rfl rfl)
theorem dX1_charAt_6 : decode cX1_charAt 6 = .ok (.invokevirtual 68, 3) := dk_182 0 68 (dk_at dksX1_charAt_0 6 rfl rfl)
theorem dX1_charAt_9 : decode cX1_charAt 9 = .ok (.iconst 1, 1) := dk_4 (dk_at dksX1_charAt_0 9 rfl rfl)
theorem dX1_charAt_10 : decode cX1_charAt 10 = .ok (.isub, 1) := dk_100 (dk_at dksX1_charAt_0 10 rfl rfl)
theorem dX1_charAt_11 : decode cX1_charAt 11 = .ok (.invokestatic 52, 3) := dk_184 0 52 (dk_at dksX1_charAt_0 11 rfl rfl)
theorem dX1_charAt_14 : decode cX1_charAt 14 = .ok (.invokestatic 56, 3) := dk_184 0 56 (dk_at dksX1_charAt_0 14 rfl rfl)
theorem dX1_charAt_17 : decode cX1_charAt 17 = .ok (.aload_n 0, 1) := dk_42 (dk_at dksX1_charAt_0 17 rfl rfl)
theorem dX1_charAt_18 : decode cX1_charAt 18 = .ok (.getfield 22, 3) := dk_180 0 22 (dk_at dksX1_charAt_0 18 rfl rfl)
theorem dX1_charAt_21 : decode cX1_charAt 21 = .ok (.iload_n 1, 1) := dk_27 (dk_at dksX1_charAt_0 21 rfl rfl)
theorem dX1_charAt_22 : decode cX1_charAt 22 = .ok (.invokevirtual 150, 3) := dk_182 0 150 (dk_at dksX1_charAt_1 0 rfl rfl)
theorem dX1_charAt_25 : decode cX1_charAt 25 = .ok (.ireturn, 1) := dk_172 (dk_at dksX1_charAt_1 3 rfl rfl)
abbrev cX1_addNode : ByteArray := prog_1_method_17_code
def yX1_addNode : MethodName := ⟨RX1, "addNode", "(IIIC)I"⟩
def dkwX1_addNode_3 : List UInt8 := [183, 0, 31, 58, 7, 25, 6, 29, 25, 7, 182, 0, 165, 25, 5, 25, 7, 182, 0, 169, 172]
abbrev dktX1_addNode_3 : List UInt8 := dkwX1_addNode_3 ++ []
def dkwX1_addNode_2 : List UInt8 := [182, 0, 101, 16, 20, 162, 0, 7, 4, 167, 0, 4, 3, 184, 0, 72, 187, 0, 29, 89, 21, 4]
abbrev dktX1_addNode_2 : List UInt8 := dkwX1_addNode_2 ++ dktX1_addNode_3
def dkwX1_addNode_1 : List UInt8 := [185, 0, 157, 1, 0, 184, 0, 52, 184, 0, 56, 21, 4, 184, 0, 158, 184, 0, 162, 25, 5, 180, 0, 97]
abbrev dktX1_addNode_1 : List UInt8 := dkwX1_addNode_1 ++ dktX1_addNode_2
def dkwX1_addNode_0 : List UInt8 := [42, 27, 182, 0, 60, 58, 5, 25, 5, 28, 182, 0, 64, 58, 6, 29, 3, 25, 6, 180, 0, 154]
abbrev dktX1_addNode_0 : List UInt8 := dkwX1_addNode_0 ++ dktX1_addNode_1
theorem dksX1_addNode_0 : cX1_addNode.data.toList.drop 0 = dktX1_addNode_0 := by decide +kernel
theorem dksX1_addNode_1 : cX1_addNode.data.toList.drop 22 = dktX1_addNode_1 := dk_seg dksX1_addNode_0 22 rfl rfl
theorem dksX1_addNode_2 : cX1_addNode.data.toList.drop 46 = dktX1_addNode_2 := dk_seg dksX1_addNode_1 24 rfl rfl
theorem dksX1_addNode_3 : cX1_addNode.data.toList.drop 68 = dktX1_addNode_3 := dk_seg dksX1_addNode_2 22 rfl rfl
theorem dX1_addNode_0 : decode cX1_addNode 0 = .ok (.aload_n 0, 1) := dk_42 (dk_at dksX1_addNode_0 0 rfl rfl)
theorem dX1_addNode_1 : decode cX1_addNode 1 = .ok (.iload_n 1, 1) := dk_27 (dk_at dksX1_addNode_0 1 rfl rfl)
theorem dX1_addNode_2 : decode cX1_addNode 2 = .ok (.invokevirtual 60, 3) := dk_182 0 60 (dk_at dksX1_addNode_0 2 rfl rfl)
theorem dX1_addNode_5 : decode cX1_addNode 5 = .ok (.astore 5, 2) := dk_58 5 (dk_at dksX1_addNode_0 5 rfl rfl)
theorem dX1_addNode_7 : decode cX1_addNode 7 = .ok (.aload 5, 2) := dk_25 5 (dk_at dksX1_addNode_0 7 rfl rfl)
theorem dX1_addNode_9 : decode cX1_addNode 9 = .ok (.iload_n 2, 1) := dk_28 (dk_at dksX1_addNode_0 9 rfl rfl)
theorem dX1_addNode_10 : decode cX1_addNode 10 = .ok (.invokevirtual 64, 3) := dk_182 0 64 (dk_at dksX1_addNode_0 10 rfl rfl)
theorem dX1_addNode_13 : decode cX1_addNode 13 = .ok (.astore 6, 2) := dk_58 6 (dk_at dksX1_addNode_0 13 rfl rfl)
theorem dX1_addNode_15 : decode cX1_addNode 15 = .ok (.iload_n 3, 1) := dk_29 (dk_at dksX1_addNode_0 15 rfl rfl)
theorem dX1_addNode_16 : decode cX1_addNode 16 = .ok (.iconst 0, 1) := dk_3 (dk_at dksX1_addNode_0 16 rfl rfl)
theorem dX1_addNode_17 : decode cX1_addNode 17 = .ok (.aload 6, 2) := dk_25 6 (dk_at dksX1_addNode_0 17 rfl rfl)
theorem dX1_addNode_19 : decode cX1_addNode 19 = .ok (.getfield 154, 3) := dk_180 0 154 (dk_at dksX1_addNode_0 19 rfl rfl)
theorem dX1_addNode_22 : decode cX1_addNode 22 = .ok (.invokeinterface 157 1, 5) := by decide +kernel
theorem dX1_addNode_27 : decode cX1_addNode 27 = .ok (.invokestatic 52, 3) := dk_184 0 52 (dk_at dksX1_addNode_1 5 rfl rfl)
theorem dX1_addNode_30 : decode cX1_addNode 30 = .ok (.invokestatic 56, 3) := dk_184 0 56 (dk_at dksX1_addNode_1 8 rfl rfl)
theorem dX1_addNode_33 : decode cX1_addNode 33 = .ok (.iload 4, 2) := dk_21 4 (dk_at dksX1_addNode_1 11 rfl rfl)
theorem dX1_addNode_35 : decode cX1_addNode 35 = .ok (.invokestatic 158, 3) := dk_184 0 158 (dk_at dksX1_addNode_1 13 rfl rfl)
theorem dX1_addNode_38 : decode cX1_addNode 38 = .ok (.invokestatic 162, 3) := dk_184 0 162 (dk_at dksX1_addNode_1 16 rfl rfl)
theorem dX1_addNode_41 : decode cX1_addNode 41 = .ok (.aload 5, 2) := dk_25 5 (dk_at dksX1_addNode_1 19 rfl rfl)
theorem dX1_addNode_43 : decode cX1_addNode 43 = .ok (.getfield 97, 3) := dk_180 0 97 (dk_at dksX1_addNode_1 21 rfl rfl)
theorem dX1_addNode_46 : decode cX1_addNode 46 = .ok (.invokevirtual 101, 3) := dk_182 0 101 (dk_at dksX1_addNode_2 0 rfl rfl)
theorem dX1_addNode_49 : decode cX1_addNode 49 = .ok (.bipush 20, 2) := dk_16 20 (dk_at dksX1_addNode_2 3 rfl rfl)
theorem dX1_addNode_51 : decode cX1_addNode 51 = .ok (.if_icmp .ge 7, 3) := dk_162 0 7 (dk_at dksX1_addNode_2 5 rfl rfl)
theorem dX1_addNode_54 : decode cX1_addNode 54 = .ok (.iconst 1, 1) := dk_4 (dk_at dksX1_addNode_2 8 rfl rfl)
theorem dX1_addNode_55 : decode cX1_addNode 55 = .ok (.goto 4, 3) := dk_167 0 4 (dk_at dksX1_addNode_2 9 rfl rfl)
theorem dX1_addNode_58 : decode cX1_addNode 58 = .ok (.iconst 0, 1) := dk_3 (dk_at dksX1_addNode_2 12 rfl rfl)
theorem dX1_addNode_59 : decode cX1_addNode 59 = .ok (.invokestatic 72, 3) := dk_184 0 72 (dk_at dksX1_addNode_2 13 rfl rfl)
theorem dX1_addNode_62 : decode cX1_addNode 62 = .ok (.new 29, 3) := dk_187 0 29 (dk_at dksX1_addNode_2 16 rfl rfl)
theorem dX1_addNode_65 : decode cX1_addNode 65 = .ok (.dup, 1) := dk_89 (dk_at dksX1_addNode_2 19 rfl rfl)
theorem dX1_addNode_66 : decode cX1_addNode 66 = .ok (.iload 4, 2) := dk_21 4 (dk_at dksX1_addNode_2 20 rfl rfl)
theorem dX1_addNode_68 : decode cX1_addNode 68 = .ok (.invokespecial 31, 3) := dk_183 0 31 (dk_at dksX1_addNode_3 0 rfl rfl)
theorem dX1_addNode_71 : decode cX1_addNode 71 = .ok (.astore 7, 2) := dk_58 7 (dk_at dksX1_addNode_3 3 rfl rfl)
theorem dX1_addNode_73 : decode cX1_addNode 73 = .ok (.aload 6, 2) := dk_25 6 (dk_at dksX1_addNode_3 5 rfl rfl)
theorem dX1_addNode_75 : decode cX1_addNode 75 = .ok (.iload_n 3, 1) := dk_29 (dk_at dksX1_addNode_3 7 rfl rfl)
theorem dX1_addNode_76 : decode cX1_addNode 76 = .ok (.aload 7, 2) := dk_25 7 (dk_at dksX1_addNode_3 8 rfl rfl)
theorem dX1_addNode_78 : decode cX1_addNode 78 = .ok (.invokevirtual 165, 3) := dk_182 0 165 (dk_at dksX1_addNode_3 10 rfl rfl)
theorem dX1_addNode_81 : decode cX1_addNode 81 = .ok (.aload 5, 2) := dk_25 5 (dk_at dksX1_addNode_3 13 rfl rfl)
theorem dX1_addNode_83 : decode cX1_addNode 83 = .ok (.aload 7, 2) := dk_25 7 (dk_at dksX1_addNode_3 15 rfl rfl)
theorem dX1_addNode_85 : decode cX1_addNode 85 = .ok (.invokevirtual 169, 3) := dk_182 0 169 (dk_at dksX1_addNode_3 17 rfl rfl)
theorem dX1_addNode_88 : decode cX1_addNode 88 = .ok (.ireturn, 1) := dk_172 (dk_at dksX1_addNode_3 20 rfl rfl)
abbrev cX1_requireArgument : ByteArray := prog_1_method_4_code
def yX1_requireArgument : MethodName := ⟨RX1, "requireArgument", "(Z)V"⟩
def dkwX1_requireArgument_0 : List UInt8 := [26, 154, 0, 11, 187, 0, 40, 89, 183, 0, 42, 191, 177]
abbrev dktX1_requireArgument_0 : List UInt8 := dkwX1_requireArgument_0 ++ []
theorem dksX1_requireArgument_0 : cX1_requireArgument.data.toList.drop 0 = dktX1_requireArgument_0 := by decide +kernel
theorem dX1_requireArgument_0 : decode cX1_requireArgument 0 = .ok (.iload_n 0, 1) := dk_26 (dk_at dksX1_requireArgument_0 0 rfl rfl)
theorem dX1_requireArgument_1 : decode cX1_requireArgument 1 = .ok (.ifCond .ne 11, 3) := dk_154 0 11 (dk_at dksX1_requireArgument_0 1 rfl rfl)
theorem dX1_requireArgument_4 : decode cX1_requireArgument 4 = .ok (.new 40, 3) := dk_187 0 40 (dk_at dksX1_requireArgument_0 4 rfl rfl)
theorem dX1_requireArgument_7 : decode cX1_requireArgument 7 = .ok (.dup, 1) := dk_89 (dk_at dksX1_requireArgument_0 7 rfl rfl)
theorem dX1_requireArgument_8 : decode cX1_requireArgument 8 = .ok (.invokespecial 42, 3) := dk_183 0 42 (dk_at dksX1_requireArgument_0 8 rfl rfl)
theorem dX1_requireArgument_11 : decode cX1_requireArgument 11 = .ok (.athrow, 1) := dk_191 (dk_at dksX1_requireArgument_0 11 rfl rfl)
theorem dX1_requireArgument_12 : decode cX1_requireArgument 12 = .ok (.return_, 1) := dk_177 (dk_at dksX1_requireArgument_0 12 rfl rfl)
abbrev cX1_removeNode : ByteArray := prog_1_method_18_code
def yX1_removeNode : MethodName := ⟨RX1, "removeNode", "(II)I"⟩
def dkwX1_removeNode_1 : List UInt8 := [167, 0, 4, 3, 184, 0, 173, 25, 4, 182, 0, 176, 45, 180, 0, 97, 182, 0, 101, 172]
abbrev dktX1_removeNode_1 : List UInt8 := dkwX1_removeNode_1 ++ []
def dkwX1_removeNode_0 : List UInt8 := [42, 27, 182, 0, 60, 78, 45, 28, 182, 0, 64, 58, 4, 25, 4, 45, 180, 0, 97, 165, 0, 7, 4]
abbrev dktX1_removeNode_0 : List UInt8 := dkwX1_removeNode_0 ++ dktX1_removeNode_1
theorem dksX1_removeNode_0 : cX1_removeNode.data.toList.drop 0 = dktX1_removeNode_0 := by decide +kernel
theorem dksX1_removeNode_1 : cX1_removeNode.data.toList.drop 23 = dktX1_removeNode_1 := dk_seg dksX1_removeNode_0 23 rfl rfl
theorem dX1_removeNode_0 : decode cX1_removeNode 0 = .ok (.aload_n 0, 1) := dk_42 (dk_at dksX1_removeNode_0 0 rfl rfl)
theorem dX1_removeNode_1 : decode cX1_removeNode 1 = .ok (.iload_n 1, 1) := dk_27 (dk_at dksX1_removeNode_0 1 rfl rfl)
theorem dX1_removeNode_2 : decode cX1_removeNode 2 = .ok (.invokevirtual 60, 3) := dk_182 0 60 (dk_at dksX1_removeNode_0 2 rfl rfl)
theorem dX1_removeNode_5 : decode cX1_removeNode 5 = .ok (.astore_n 3, 1) := dk_78 (dk_at dksX1_removeNode_0 5 rfl rfl)
theorem dX1_removeNode_6 : decode cX1_removeNode 6 = .ok (.aload_n 3, 1) := dk_45 (dk_at dksX1_removeNode_0 6 rfl rfl)
theorem dX1_removeNode_7 : decode cX1_removeNode 7 = .ok (.iload_n 2, 1) := dk_28 (dk_at dksX1_removeNode_0 7 rfl rfl)
theorem dX1_removeNode_8 : decode cX1_removeNode 8 = .ok (.invokevirtual 64, 3) := dk_182 0 64 (dk_at dksX1_removeNode_0 8 rfl rfl)
theorem dX1_removeNode_11 : decode cX1_removeNode 11 = .ok (.astore 4, 2) := dk_58 4 (dk_at dksX1_removeNode_0 11 rfl rfl)
theorem dX1_removeNode_13 : decode cX1_removeNode 13 = .ok (.aload 4, 2) := dk_25 4 (dk_at dksX1_removeNode_0 13 rfl rfl)
theorem dX1_removeNode_15 : decode cX1_removeNode 15 = .ok (.aload_n 3, 1) := dk_45 (dk_at dksX1_removeNode_0 15 rfl rfl)
theorem dX1_removeNode_16 : decode cX1_removeNode 16 = .ok (.getfield 97, 3) := dk_180 0 97 (dk_at dksX1_removeNode_0 16 rfl rfl)
theorem dX1_removeNode_19 : decode cX1_removeNode 19 = .ok (.if_acmp .eq 7, 3) := dk_165 0 7 (dk_at dksX1_removeNode_0 19 rfl rfl)
theorem dX1_removeNode_22 : decode cX1_removeNode 22 = .ok (.iconst 1, 1) := dk_4 (dk_at dksX1_removeNode_0 22 rfl rfl)
theorem dX1_removeNode_23 : decode cX1_removeNode 23 = .ok (.goto 4, 3) := dk_167 0 4 (dk_at dksX1_removeNode_1 0 rfl rfl)
theorem dX1_removeNode_26 : decode cX1_removeNode 26 = .ok (.iconst 0, 1) := dk_3 (dk_at dksX1_removeNode_1 3 rfl rfl)
theorem dX1_removeNode_27 : decode cX1_removeNode 27 = .ok (.invokestatic 173, 3) := dk_184 0 173 (dk_at dksX1_removeNode_1 4 rfl rfl)
theorem dX1_removeNode_30 : decode cX1_removeNode 30 = .ok (.aload 4, 2) := dk_25 4 (dk_at dksX1_removeNode_1 7 rfl rfl)
theorem dX1_removeNode_32 : decode cX1_removeNode 32 = .ok (.invokevirtual 176, 3) := dk_182 0 176 (dk_at dksX1_removeNode_1 9 rfl rfl)
theorem dX1_removeNode_35 : decode cX1_removeNode 35 = .ok (.aload_n 3, 1) := dk_45 (dk_at dksX1_removeNode_1 12 rfl rfl)
theorem dX1_removeNode_36 : decode cX1_removeNode 36 = .ok (.getfield 97, 3) := dk_180 0 97 (dk_at dksX1_removeNode_1 13 rfl rfl)
theorem dX1_removeNode_39 : decode cX1_removeNode 39 = .ok (.invokevirtual 101, 3) := dk_182 0 101 (dk_at dksX1_removeNode_1 16 rfl rfl)
theorem dX1_removeNode_42 : decode cX1_removeNode 42 = .ok (.ireturn, 1) := dk_172 (dk_at dksX1_removeNode_1 19 rfl rfl)
abbrev cX1_requireSupport : ByteArray := prog_1_method_7_code
def yX1_requireSupport : MethodName := ⟨RX1, "requireSupport", "(Z)V"⟩
def dkwX1_requireSupport_0 : List UInt8 := [26, 154, 0, 11, 187, 0, 49, 89, 183, 0, 51, 191, 177]
abbrev dktX1_requireSupport_0 : List UInt8 := dkwX1_requireSupport_0 ++ []
theorem dksX1_requireSupport_0 : cX1_requireSupport.data.toList.drop 0 = dktX1_requireSupport_0 := by decide +kernel
theorem dX1_requireSupport_0 : decode cX1_requireSupport 0 = .ok (.iload_n 0, 1) := dk_26 (dk_at dksX1_requireSupport_0 0 rfl rfl)
theorem dX1_requireSupport_1 : decode cX1_requireSupport 1 = .ok (.ifCond .ne 11, 3) := dk_154 0 11 (dk_at dksX1_requireSupport_0 1 rfl rfl)
theorem dX1_requireSupport_4 : decode cX1_requireSupport 4 = .ok (.new 49, 3) := dk_187 0 49 (dk_at dksX1_requireSupport_0 4 rfl rfl)
theorem dX1_requireSupport_7 : decode cX1_requireSupport 7 = .ok (.dup, 1) := dk_89 (dk_at dksX1_requireSupport_0 7 rfl rfl)
theorem dX1_requireSupport_8 : decode cX1_requireSupport 8 = .ok (.invokespecial 51, 3) := dk_183 0 51 (dk_at dksX1_requireSupport_0 8 rfl rfl)
theorem dX1_requireSupport_11 : decode cX1_requireSupport 11 = .ok (.athrow, 1) := dk_191 (dk_at dksX1_requireSupport_0 11 rfl rfl)
theorem dX1_requireSupport_12 : decode cX1_requireSupport 12 = .ok (.return_, 1) := dk_177 (dk_at dksX1_requireSupport_0 12 rfl rfl)
abbrev cX1_setLabel : ByteArray := prog_1_method_19_code
def yX1_setLabel : MethodName := ⟨RX1, "setLabel", "(IIC)I"⟩
def dkwX1_setLabel_3 : List UInt8 := [167, 0, 4, 3, 96, 54, 6, 167, 255, 215, 21, 6, 172]
abbrev dktX1_setLabel_3 : List UInt8 := dkwX1_setLabel_3 ++ []
def dkwX1_setLabel_2 : List UInt8 := [25, 7, 185, 0, 133, 1, 0, 192, 0, 29, 58, 8, 21, 6, 25, 8, 180, 0, 179, 29, 160, 0, 7, 4]
abbrev dktX1_setLabel_2 : List UInt8 := dkwX1_setLabel_2 ++ dktX1_setLabel_3
def dkwX1_setLabel_1 : List UInt8 := [29, 181, 0, 179, 3, 54, 6, 25, 4, 182, 0, 182, 58, 7, 25, 7, 185, 0, 127, 1, 0, 153, 0, 37]
abbrev dktX1_setLabel_1 : List UInt8 := dkwX1_setLabel_1 ++ dktX1_setLabel_2
def dkwX1_setLabel_0 : List UInt8 := [42, 27, 182, 0, 60, 58, 4, 25, 4, 28, 182, 0, 64, 58, 5, 29, 184, 0, 158, 184, 0, 162, 25, 5]
abbrev dktX1_setLabel_0 : List UInt8 := dkwX1_setLabel_0 ++ dktX1_setLabel_1
theorem dksX1_setLabel_0 : cX1_setLabel.data.toList.drop 0 = dktX1_setLabel_0 := by decide +kernel
theorem dksX1_setLabel_1 : cX1_setLabel.data.toList.drop 24 = dktX1_setLabel_1 := dk_seg dksX1_setLabel_0 24 rfl rfl
theorem dksX1_setLabel_2 : cX1_setLabel.data.toList.drop 48 = dktX1_setLabel_2 := dk_seg dksX1_setLabel_1 24 rfl rfl
theorem dksX1_setLabel_3 : cX1_setLabel.data.toList.drop 72 = dktX1_setLabel_3 := dk_seg dksX1_setLabel_2 24 rfl rfl
theorem dX1_setLabel_0 : decode cX1_setLabel 0 = .ok (.aload_n 0, 1) := dk_42 (dk_at dksX1_setLabel_0 0 rfl rfl)
theorem dX1_setLabel_1 : decode cX1_setLabel 1 = .ok (.iload_n 1, 1) := dk_27 (dk_at dksX1_setLabel_0 1 rfl rfl)
theorem dX1_setLabel_2 : decode cX1_setLabel 2 = .ok (.invokevirtual 60, 3) := dk_182 0 60 (dk_at dksX1_setLabel_0 2 rfl rfl)
theorem dX1_setLabel_5 : decode cX1_setLabel 5 = .ok (.astore 4, 2) := dk_58 4 (dk_at dksX1_setLabel_0 5 rfl rfl)
theorem dX1_setLabel_7 : decode cX1_setLabel 7 = .ok (.aload 4, 2) := dk_25 4 (dk_at dksX1_setLabel_0 7 rfl rfl)
theorem dX1_setLabel_9 : decode cX1_setLabel 9 = .ok (.iload_n 2, 1) := dk_28 (dk_at dksX1_setLabel_0 9 rfl rfl)
theorem dX1_setLabel_10 : decode cX1_setLabel 10 = .ok (.invokevirtual 64, 3) := dk_182 0 64 (dk_at dksX1_setLabel_0 10 rfl rfl)
theorem dX1_setLabel_13 : decode cX1_setLabel 13 = .ok (.astore 5, 2) := dk_58 5 (dk_at dksX1_setLabel_0 13 rfl rfl)
theorem dX1_setLabel_15 : decode cX1_setLabel 15 = .ok (.iload_n 3, 1) := dk_29 (dk_at dksX1_setLabel_0 15 rfl rfl)
theorem dX1_setLabel_16 : decode cX1_setLabel 16 = .ok (.invokestatic 158, 3) := dk_184 0 158 (dk_at dksX1_setLabel_0 16 rfl rfl)
theorem dX1_setLabel_19 : decode cX1_setLabel 19 = .ok (.invokestatic 162, 3) := dk_184 0 162 (dk_at dksX1_setLabel_0 19 rfl rfl)
theorem dX1_setLabel_22 : decode cX1_setLabel 22 = .ok (.aload 5, 2) := dk_25 5 (dk_at dksX1_setLabel_0 22 rfl rfl)
theorem dX1_setLabel_24 : decode cX1_setLabel 24 = .ok (.iload_n 3, 1) := dk_29 (dk_at dksX1_setLabel_1 0 rfl rfl)
theorem dX1_setLabel_25 : decode cX1_setLabel 25 = .ok (.putfield 179, 3) := dk_181 0 179 (dk_at dksX1_setLabel_1 1 rfl rfl)
theorem dX1_setLabel_28 : decode cX1_setLabel 28 = .ok (.iconst 0, 1) := dk_3 (dk_at dksX1_setLabel_1 4 rfl rfl)
theorem dX1_setLabel_29 : decode cX1_setLabel 29 = .ok (.istore 6, 2) := dk_54 6 (dk_at dksX1_setLabel_1 5 rfl rfl)
theorem dX1_setLabel_31 : decode cX1_setLabel 31 = .ok (.aload 4, 2) := dk_25 4 (dk_at dksX1_setLabel_1 7 rfl rfl)
theorem dX1_setLabel_33 : decode cX1_setLabel 33 = .ok (.invokevirtual 182, 3) := dk_182 0 182 (dk_at dksX1_setLabel_1 9 rfl rfl)
theorem dX1_setLabel_36 : decode cX1_setLabel 36 = .ok (.astore 7, 2) := dk_58 7 (dk_at dksX1_setLabel_1 12 rfl rfl)
theorem dX1_setLabel_38 : decode cX1_setLabel 38 = .ok (.aload 7, 2) := dk_25 7 (dk_at dksX1_setLabel_1 14 rfl rfl)
theorem dX1_setLabel_40 : decode cX1_setLabel 40 = .ok (.invokeinterface 127 1, 5) := by decide +kernel
theorem dX1_setLabel_45 : decode cX1_setLabel 45 = .ok (.ifCond .eq 37, 3) := dk_153 0 37 (dk_at dksX1_setLabel_1 21 rfl rfl)
theorem dX1_setLabel_48 : decode cX1_setLabel 48 = .ok (.aload 7, 2) := dk_25 7 (dk_at dksX1_setLabel_2 0 rfl rfl)
theorem dX1_setLabel_50 : decode cX1_setLabel 50 = .ok (.invokeinterface 133 1, 5) := by decide +kernel
theorem dX1_setLabel_55 : decode cX1_setLabel 55 = .ok (.checkcast 29, 3) := dk_192 0 29 (dk_at dksX1_setLabel_2 7 rfl rfl)
theorem dX1_setLabel_58 : decode cX1_setLabel 58 = .ok (.astore 8, 2) := dk_58 8 (dk_at dksX1_setLabel_2 10 rfl rfl)
theorem dX1_setLabel_60 : decode cX1_setLabel 60 = .ok (.iload 6, 2) := dk_21 6 (dk_at dksX1_setLabel_2 12 rfl rfl)
theorem dX1_setLabel_62 : decode cX1_setLabel 62 = .ok (.aload 8, 2) := dk_25 8 (dk_at dksX1_setLabel_2 14 rfl rfl)
theorem dX1_setLabel_64 : decode cX1_setLabel 64 = .ok (.getfield 179, 3) := dk_180 0 179 (dk_at dksX1_setLabel_2 16 rfl rfl)
theorem dX1_setLabel_67 : decode cX1_setLabel 67 = .ok (.iload_n 3, 1) := dk_29 (dk_at dksX1_setLabel_2 19 rfl rfl)
theorem dX1_setLabel_68 : decode cX1_setLabel 68 = .ok (.if_icmp .ne 7, 3) := dk_160 0 7 (dk_at dksX1_setLabel_2 20 rfl rfl)
theorem dX1_setLabel_71 : decode cX1_setLabel 71 = .ok (.iconst 1, 1) := dk_4 (dk_at dksX1_setLabel_2 23 rfl rfl)
theorem dX1_setLabel_72 : decode cX1_setLabel 72 = .ok (.goto 4, 3) := dk_167 0 4 (dk_at dksX1_setLabel_3 0 rfl rfl)
theorem dX1_setLabel_75 : decode cX1_setLabel 75 = .ok (.iconst 0, 1) := dk_3 (dk_at dksX1_setLabel_3 3 rfl rfl)
theorem dX1_setLabel_76 : decode cX1_setLabel 76 = .ok (.iadd, 1) := dk_96 (dk_at dksX1_setLabel_3 4 rfl rfl)
theorem dX1_setLabel_77 : decode cX1_setLabel 77 = .ok (.istore 6, 2) := dk_54 6 (dk_at dksX1_setLabel_3 5 rfl rfl)
theorem dX1_setLabel_79 : decode cX1_setLabel 79 = .ok (.goto (-41), 3) := dk_167 255 215 (dk_at dksX1_setLabel_3 7 rfl rfl)
theorem dX1_setLabel_82 : decode cX1_setLabel 82 = .ok (.iload 6, 2) := dk_21 6 (dk_at dksX1_setLabel_3 10 rfl rfl)
theorem dX1_setLabel_84 : decode cX1_setLabel 84 = .ok (.ireturn, 1) := dk_172 (dk_at dksX1_setLabel_3 12 rfl rfl)
abbrev cX1_setKey : ByteArray := prog_1_method_20_code
def yX1_setKey : MethodName := ⟨RX1, "setKey", "(III)I"⟩
def dkwX1_setKey_3 : List UInt8 := [180, 0, 190, 54, 5, 25, 4, 29, 181, 0, 190, 21, 5, 172]
abbrev dktX1_setKey_3 : List UInt8 := dkwX1_setKey_3 ++ []
def dkwX1_setKey_2 : List UInt8 := [25, 4, 180, 0, 187, 29, 182, 0, 193, 154, 0, 7, 4, 167, 0, 4, 3, 184, 0, 72, 25, 4]
abbrev dktX1_setKey_2 : List UInt8 := dkwX1_setKey_2 ++ dktX1_setKey_3
def dkwX1_setKey_1 : List UInt8 := [198, 0, 7, 4, 167, 0, 4, 3, 184, 0, 173, 29, 153, 0, 24, 29, 25, 4, 180, 0, 190, 159, 0, 15]
abbrev dktX1_setKey_1 : List UInt8 := dkwX1_setKey_1 ++ dktX1_setKey_2
def dkwX1_setKey_0 : List UInt8 := [42, 27, 28, 182, 0, 183, 58, 4, 29, 3, 16, 9, 184, 0, 52, 184, 0, 162, 25, 4, 180, 0, 187]
abbrev dktX1_setKey_0 : List UInt8 := dkwX1_setKey_0 ++ dktX1_setKey_1
theorem dksX1_setKey_0 : cX1_setKey.data.toList.drop 0 = dktX1_setKey_0 := by decide +kernel
theorem dksX1_setKey_1 : cX1_setKey.data.toList.drop 23 = dktX1_setKey_1 := dk_seg dksX1_setKey_0 23 rfl rfl
theorem dksX1_setKey_2 : cX1_setKey.data.toList.drop 47 = dktX1_setKey_2 := dk_seg dksX1_setKey_1 24 rfl rfl
theorem dksX1_setKey_3 : cX1_setKey.data.toList.drop 69 = dktX1_setKey_3 := dk_seg dksX1_setKey_2 22 rfl rfl
theorem dX1_setKey_0 : decode cX1_setKey 0 = .ok (.aload_n 0, 1) := dk_42 (dk_at dksX1_setKey_0 0 rfl rfl)
theorem dX1_setKey_1 : decode cX1_setKey 1 = .ok (.iload_n 1, 1) := dk_27 (dk_at dksX1_setKey_0 1 rfl rfl)
theorem dX1_setKey_2 : decode cX1_setKey 2 = .ok (.iload_n 2, 1) := dk_28 (dk_at dksX1_setKey_0 2 rfl rfl)
theorem dX1_setKey_3 : decode cX1_setKey 3 = .ok (.invokevirtual 183, 3) := dk_182 0 183 (dk_at dksX1_setKey_0 3 rfl rfl)
theorem dX1_setKey_6 : decode cX1_setKey 6 = .ok (.astore 4, 2) := dk_58 4 (dk_at dksX1_setKey_0 6 rfl rfl)
theorem dX1_setKey_8 : decode cX1_setKey 8 = .ok (.iload_n 3, 1) := dk_29 (dk_at dksX1_setKey_0 8 rfl rfl)
theorem dX1_setKey_9 : decode cX1_setKey 9 = .ok (.iconst 0, 1) := dk_3 (dk_at dksX1_setKey_0 9 rfl rfl)
theorem dX1_setKey_10 : decode cX1_setKey 10 = .ok (.bipush 9, 2) := dk_16 9 (dk_at dksX1_setKey_0 10 rfl rfl)
theorem dX1_setKey_12 : decode cX1_setKey 12 = .ok (.invokestatic 52, 3) := dk_184 0 52 (dk_at dksX1_setKey_0 12 rfl rfl)
theorem dX1_setKey_15 : decode cX1_setKey 15 = .ok (.invokestatic 162, 3) := dk_184 0 162 (dk_at dksX1_setKey_0 15 rfl rfl)
theorem dX1_setKey_18 : decode cX1_setKey 18 = .ok (.aload 4, 2) := dk_25 4 (dk_at dksX1_setKey_0 18 rfl rfl)
theorem dX1_setKey_20 : decode cX1_setKey 20 = .ok (.getfield 187, 3) := dk_180 0 187 (dk_at dksX1_setKey_0 20 rfl rfl)
theorem dX1_setKey_23 : decode cX1_setKey 23 = .ok (.ifnull 7, 3) := dk_198 0 7 (dk_at dksX1_setKey_1 0 rfl rfl)
theorem dX1_setKey_26 : decode cX1_setKey 26 = .ok (.iconst 1, 1) := dk_4 (dk_at dksX1_setKey_1 3 rfl rfl)
theorem dX1_setKey_27 : decode cX1_setKey 27 = .ok (.goto 4, 3) := dk_167 0 4 (dk_at dksX1_setKey_1 4 rfl rfl)
theorem dX1_setKey_30 : decode cX1_setKey 30 = .ok (.iconst 0, 1) := dk_3 (dk_at dksX1_setKey_1 7 rfl rfl)
theorem dX1_setKey_31 : decode cX1_setKey 31 = .ok (.invokestatic 173, 3) := dk_184 0 173 (dk_at dksX1_setKey_1 8 rfl rfl)
theorem dX1_setKey_34 : decode cX1_setKey 34 = .ok (.iload_n 3, 1) := dk_29 (dk_at dksX1_setKey_1 11 rfl rfl)
theorem dX1_setKey_35 : decode cX1_setKey 35 = .ok (.ifCond .eq 24, 3) := dk_153 0 24 (dk_at dksX1_setKey_1 12 rfl rfl)
theorem dX1_setKey_38 : decode cX1_setKey 38 = .ok (.iload_n 3, 1) := dk_29 (dk_at dksX1_setKey_1 15 rfl rfl)
theorem dX1_setKey_39 : decode cX1_setKey 39 = .ok (.aload 4, 2) := dk_25 4 (dk_at dksX1_setKey_1 16 rfl rfl)
theorem dX1_setKey_41 : decode cX1_setKey 41 = .ok (.getfield 190, 3) := dk_180 0 190 (dk_at dksX1_setKey_1 18 rfl rfl)
theorem dX1_setKey_44 : decode cX1_setKey 44 = .ok (.if_icmp .eq 15, 3) := dk_159 0 15 (dk_at dksX1_setKey_1 21 rfl rfl)
theorem dX1_setKey_47 : decode cX1_setKey 47 = .ok (.aload 4, 2) := dk_25 4 (dk_at dksX1_setKey_2 0 rfl rfl)
theorem dX1_setKey_49 : decode cX1_setKey 49 = .ok (.getfield 187, 3) := dk_180 0 187 (dk_at dksX1_setKey_2 2 rfl rfl)
theorem dX1_setKey_52 : decode cX1_setKey 52 = .ok (.iload_n 3, 1) := dk_29 (dk_at dksX1_setKey_2 5 rfl rfl)
theorem dX1_setKey_53 : decode cX1_setKey 53 = .ok (.invokevirtual 193, 3) := dk_182 0 193 (dk_at dksX1_setKey_2 6 rfl rfl)
theorem dX1_setKey_56 : decode cX1_setKey 56 = .ok (.ifCond .ne 7, 3) := dk_154 0 7 (dk_at dksX1_setKey_2 9 rfl rfl)
theorem dX1_setKey_59 : decode cX1_setKey 59 = .ok (.iconst 1, 1) := dk_4 (dk_at dksX1_setKey_2 12 rfl rfl)
theorem dX1_setKey_60 : decode cX1_setKey 60 = .ok (.goto 4, 3) := dk_167 0 4 (dk_at dksX1_setKey_2 13 rfl rfl)
theorem dX1_setKey_63 : decode cX1_setKey 63 = .ok (.iconst 0, 1) := dk_3 (dk_at dksX1_setKey_2 16 rfl rfl)
theorem dX1_setKey_64 : decode cX1_setKey 64 = .ok (.invokestatic 72, 3) := dk_184 0 72 (dk_at dksX1_setKey_2 17 rfl rfl)
theorem dX1_setKey_67 : decode cX1_setKey 67 = .ok (.aload 4, 2) := dk_25 4 (dk_at dksX1_setKey_2 20 rfl rfl)
theorem dX1_setKey_69 : decode cX1_setKey 69 = .ok (.getfield 190, 3) := dk_180 0 190 (dk_at dksX1_setKey_3 0 rfl rfl)
theorem dX1_setKey_72 : decode cX1_setKey 72 = .ok (.istore 5, 2) := dk_54 5 (dk_at dksX1_setKey_3 3 rfl rfl)
theorem dX1_setKey_74 : decode cX1_setKey 74 = .ok (.aload 4, 2) := dk_25 4 (dk_at dksX1_setKey_3 5 rfl rfl)
theorem dX1_setKey_76 : decode cX1_setKey 76 = .ok (.iload_n 3, 1) := dk_29 (dk_at dksX1_setKey_3 7 rfl rfl)
theorem dX1_setKey_77 : decode cX1_setKey 77 = .ok (.putfield 190, 3) := dk_181 0 190 (dk_at dksX1_setKey_3 8 rfl rfl)
theorem dX1_setKey_80 : decode cX1_setKey 80 = .ok (.iload 5, 2) := dk_21 5 (dk_at dksX1_setKey_3 11 rfl rfl)
theorem dX1_setKey_82 : decode cX1_setKey 82 = .ok (.ireturn, 1) := dk_172 (dk_at dksX1_setKey_3 13 rfl rfl)
abbrev cX1_nodeOf : ByteArray := prog_1_method_9_code
def yX1_nodeOf : MethodName := ⟨RX1, "nodeOf", "(II)LTreeDiffer$Node;"⟩
def dkwX1_nodeOf_0 : List UInt8 := [42, 27, 182, 0, 60, 28, 182, 0, 64, 176]
abbrev dktX1_nodeOf_0 : List UInt8 := dkwX1_nodeOf_0 ++ []
theorem dksX1_nodeOf_0 : cX1_nodeOf.data.toList.drop 0 = dktX1_nodeOf_0 := by decide +kernel
theorem dX1_nodeOf_0 : decode cX1_nodeOf 0 = .ok (.aload_n 0, 1) := dk_42 (dk_at dksX1_nodeOf_0 0 rfl rfl)
theorem dX1_nodeOf_1 : decode cX1_nodeOf 1 = .ok (.iload_n 1, 1) := dk_27 (dk_at dksX1_nodeOf_0 1 rfl rfl)
theorem dX1_nodeOf_2 : decode cX1_nodeOf 2 = .ok (.invokevirtual 60, 3) := dk_182 0 60 (dk_at dksX1_nodeOf_0 2 rfl rfl)
theorem dX1_nodeOf_5 : decode cX1_nodeOf 5 = .ok (.iload_n 2, 1) := dk_28 (dk_at dksX1_nodeOf_0 5 rfl rfl)
theorem dX1_nodeOf_6 : decode cX1_nodeOf 6 = .ok (.invokevirtual 64, 3) := dk_182 0 64 (dk_at dksX1_nodeOf_0 6 rfl rfl)
theorem dX1_nodeOf_9 : decode cX1_nodeOf 9 = .ok (.areturn, 1) := dk_176 (dk_at dksX1_nodeOf_0 9 rfl rfl)
abbrev cX1_setValue : ByteArray := prog_1_method_21_code
def yX1_setValue : MethodName := ⟨RX1, "setValue", "(III)I"⟩
def dkwX1_setValue_1 : List UInt8 := [54, 5, 25, 4, 29, 181, 0, 197, 21, 5, 172]
abbrev dktX1_setValue_1 : List UInt8 := dkwX1_setValue_1 ++ []
def dkwX1_setValue_0 : List UInt8 := [42, 27, 28, 182, 0, 183, 58, 4, 29, 3, 16, 99, 184, 0, 52, 184, 0, 162, 25, 4, 180, 0, 197]
abbrev dktX1_setValue_0 : List UInt8 := dkwX1_setValue_0 ++ dktX1_setValue_1
theorem dksX1_setValue_0 : cX1_setValue.data.toList.drop 0 = dktX1_setValue_0 := by decide +kernel
theorem dksX1_setValue_1 : cX1_setValue.data.toList.drop 23 = dktX1_setValue_1 := dk_seg dksX1_setValue_0 23 rfl rfl
theorem dX1_setValue_0 : decode cX1_setValue 0 = .ok (.aload_n 0, 1) := dk_42 (dk_at dksX1_setValue_0 0 rfl rfl)
theorem dX1_setValue_1 : decode cX1_setValue 1 = .ok (.iload_n 1, 1) := dk_27 (dk_at dksX1_setValue_0 1 rfl rfl)
theorem dX1_setValue_2 : decode cX1_setValue 2 = .ok (.iload_n 2, 1) := dk_28 (dk_at dksX1_setValue_0 2 rfl rfl)
theorem dX1_setValue_3 : decode cX1_setValue 3 = .ok (.invokevirtual 183, 3) := dk_182 0 183 (dk_at dksX1_setValue_0 3 rfl rfl)
theorem dX1_setValue_6 : decode cX1_setValue 6 = .ok (.astore 4, 2) := dk_58 4 (dk_at dksX1_setValue_0 6 rfl rfl)
theorem dX1_setValue_8 : decode cX1_setValue 8 = .ok (.iload_n 3, 1) := dk_29 (dk_at dksX1_setValue_0 8 rfl rfl)
theorem dX1_setValue_9 : decode cX1_setValue 9 = .ok (.iconst 0, 1) := dk_3 (dk_at dksX1_setValue_0 9 rfl rfl)
theorem dX1_setValue_10 : decode cX1_setValue 10 = .ok (.bipush 99, 2) := dk_16 99 (dk_at dksX1_setValue_0 10 rfl rfl)
theorem dX1_setValue_12 : decode cX1_setValue 12 = .ok (.invokestatic 52, 3) := dk_184 0 52 (dk_at dksX1_setValue_0 12 rfl rfl)
theorem dX1_setValue_15 : decode cX1_setValue 15 = .ok (.invokestatic 162, 3) := dk_184 0 162 (dk_at dksX1_setValue_0 15 rfl rfl)
theorem dX1_setValue_18 : decode cX1_setValue 18 = .ok (.aload 4, 2) := dk_25 4 (dk_at dksX1_setValue_0 18 rfl rfl)
theorem dX1_setValue_20 : decode cX1_setValue 20 = .ok (.getfield 197, 3) := dk_180 0 197 (dk_at dksX1_setValue_0 20 rfl rfl)
theorem dX1_setValue_23 : decode cX1_setValue 23 = .ok (.istore 5, 2) := dk_54 5 (dk_at dksX1_setValue_1 0 rfl rfl)
theorem dX1_setValue_25 : decode cX1_setValue 25 = .ok (.aload 4, 2) := dk_25 4 (dk_at dksX1_setValue_1 2 rfl rfl)
theorem dX1_setValue_27 : decode cX1_setValue 27 = .ok (.iload_n 3, 1) := dk_29 (dk_at dksX1_setValue_1 4 rfl rfl)
theorem dX1_setValue_28 : decode cX1_setValue 28 = .ok (.putfield 197, 3) := dk_181 0 197 (dk_at dksX1_setValue_1 5 rfl rfl)
theorem dX1_setValue_31 : decode cX1_setValue 31 = .ok (.iload 5, 2) := dk_21 5 (dk_at dksX1_setValue_1 8 rfl rfl)
theorem dX1_setValue_33 : decode cX1_setValue 33 = .ok (.ireturn, 1) := dk_172 (dk_at dksX1_setValue_1 10 rfl rfl)
abbrev cX1_copyTree : ByteArray := prog_1_method_22_code
def yX1_copyTree : MethodName := ⟨RX1, "copyTree", "(II)I"⟩
def dkwX1_copyTree_1 : List UInt8 := [83, 45, 180, 0, 97, 182, 0, 101, 172]
abbrev dktX1_copyTree_1 : List UInt8 := dkwX1_copyTree_1 ++ []
def dkwX1_copyTree_0 : List UInt8 := [42, 27, 182, 0, 60, 78, 28, 3, 5, 184, 0, 52, 184, 0, 56, 42, 180, 0, 11, 28, 45, 182, 0, 200]
abbrev dktX1_copyTree_0 : List UInt8 := dkwX1_copyTree_0 ++ dktX1_copyTree_1
theorem dksX1_copyTree_0 : cX1_copyTree.data.toList.drop 0 = dktX1_copyTree_0 := by decide +kernel
theorem dksX1_copyTree_1 : cX1_copyTree.data.toList.drop 24 = dktX1_copyTree_1 := dk_seg dksX1_copyTree_0 24 rfl rfl
theorem dX1_copyTree_0 : decode cX1_copyTree 0 = .ok (.aload_n 0, 1) := dk_42 (dk_at dksX1_copyTree_0 0 rfl rfl)
theorem dX1_copyTree_1 : decode cX1_copyTree 1 = .ok (.iload_n 1, 1) := dk_27 (dk_at dksX1_copyTree_0 1 rfl rfl)
theorem dX1_copyTree_2 : decode cX1_copyTree 2 = .ok (.invokevirtual 60, 3) := dk_182 0 60 (dk_at dksX1_copyTree_0 2 rfl rfl)
theorem dX1_copyTree_5 : decode cX1_copyTree 5 = .ok (.astore_n 3, 1) := dk_78 (dk_at dksX1_copyTree_0 5 rfl rfl)
theorem dX1_copyTree_6 : decode cX1_copyTree 6 = .ok (.iload_n 2, 1) := dk_28 (dk_at dksX1_copyTree_0 6 rfl rfl)
theorem dX1_copyTree_7 : decode cX1_copyTree 7 = .ok (.iconst 0, 1) := dk_3 (dk_at dksX1_copyTree_0 7 rfl rfl)
theorem dX1_copyTree_8 : decode cX1_copyTree 8 = .ok (.iconst 2, 1) := dk_5 (dk_at dksX1_copyTree_0 8 rfl rfl)
theorem dX1_copyTree_9 : decode cX1_copyTree 9 = .ok (.invokestatic 52, 3) := dk_184 0 52 (dk_at dksX1_copyTree_0 9 rfl rfl)
theorem dX1_copyTree_12 : decode cX1_copyTree 12 = .ok (.invokestatic 56, 3) := dk_184 0 56 (dk_at dksX1_copyTree_0 12 rfl rfl)
theorem dX1_copyTree_15 : decode cX1_copyTree 15 = .ok (.aload_n 0, 1) := dk_42 (dk_at dksX1_copyTree_0 15 rfl rfl)
theorem dX1_copyTree_16 : decode cX1_copyTree 16 = .ok (.getfield 11, 3) := dk_180 0 11 (dk_at dksX1_copyTree_0 16 rfl rfl)
theorem dX1_copyTree_19 : decode cX1_copyTree 19 = .ok (.iload_n 2, 1) := dk_28 (dk_at dksX1_copyTree_0 19 rfl rfl)
theorem dX1_copyTree_20 : decode cX1_copyTree 20 = .ok (.aload_n 3, 1) := dk_45 (dk_at dksX1_copyTree_0 20 rfl rfl)
theorem dX1_copyTree_21 : decode cX1_copyTree 21 = .ok (.invokevirtual 200, 3) := dk_182 0 200 (dk_at dksX1_copyTree_0 21 rfl rfl)
theorem dX1_copyTree_24 : decode cX1_copyTree 24 = .ok (.aastore, 1) := dk_83 (dk_at dksX1_copyTree_1 0 rfl rfl)
theorem dX1_copyTree_25 : decode cX1_copyTree 25 = .ok (.aload_n 3, 1) := dk_45 (dk_at dksX1_copyTree_1 1 rfl rfl)
theorem dX1_copyTree_26 : decode cX1_copyTree 26 = .ok (.getfield 97, 3) := dk_180 0 97 (dk_at dksX1_copyTree_1 2 rfl rfl)
theorem dX1_copyTree_29 : decode cX1_copyTree 29 = .ok (.invokevirtual 101, 3) := dk_182 0 101 (dk_at dksX1_copyTree_1 5 rfl rfl)
theorem dX1_copyTree_32 : decode cX1_copyTree 32 = .ok (.ireturn, 1) := dk_172 (dk_at dksX1_copyTree_1 8 rfl rfl)
abbrev cX1_size : ByteArray := prog_1_method_23_code
def yX1_size : MethodName := ⟨RX1, "size", "(I)I"⟩
def dkwX1_size_0 : List UInt8 := [42, 27, 182, 0, 60, 180, 0, 97, 182, 0, 101, 172]
abbrev dktX1_size_0 : List UInt8 := dkwX1_size_0 ++ []
theorem dksX1_size_0 : cX1_size.data.toList.drop 0 = dktX1_size_0 := by decide +kernel
theorem dX1_size_0 : decode cX1_size 0 = .ok (.aload_n 0, 1) := dk_42 (dk_at dksX1_size_0 0 rfl rfl)
theorem dX1_size_1 : decode cX1_size 1 = .ok (.iload_n 1, 1) := dk_27 (dk_at dksX1_size_0 1 rfl rfl)
theorem dX1_size_2 : decode cX1_size 2 = .ok (.invokevirtual 60, 3) := dk_182 0 60 (dk_at dksX1_size_0 2 rfl rfl)
theorem dX1_size_5 : decode cX1_size 5 = .ok (.getfield 97, 3) := dk_180 0 97 (dk_at dksX1_size_0 5 rfl rfl)
theorem dX1_size_8 : decode cX1_size 8 = .ok (.invokevirtual 101, 3) := dk_182 0 101 (dk_at dksX1_size_0 8 rfl rfl)
theorem dX1_size_11 : decode cX1_size 11 = .ok (.ireturn, 1) := dk_172 (dk_at dksX1_size_0 11 rfl rfl)
abbrev cX1_label : ByteArray := prog_1_method_24_code
def yX1_label : MethodName := ⟨RX1, "label", "(II)C"⟩
def dkwX1_label_0 : List UInt8 := [42, 27, 28, 182, 0, 183, 180, 0, 179, 172]
abbrev dktX1_label_0 : List UInt8 := dkwX1_label_0 ++ []
theorem dksX1_label_0 : cX1_label.data.toList.drop 0 = dktX1_label_0 := by decide +kernel
theorem dX1_label_0 : decode cX1_label 0 = .ok (.aload_n 0, 1) := dk_42 (dk_at dksX1_label_0 0 rfl rfl)
theorem dX1_label_1 : decode cX1_label 1 = .ok (.iload_n 1, 1) := dk_27 (dk_at dksX1_label_0 1 rfl rfl)
theorem dX1_label_2 : decode cX1_label 2 = .ok (.iload_n 2, 1) := dk_28 (dk_at dksX1_label_0 2 rfl rfl)
theorem dX1_label_3 : decode cX1_label 3 = .ok (.invokevirtual 183, 3) := dk_182 0 183 (dk_at dksX1_label_0 3 rfl rfl)
theorem dX1_label_6 : decode cX1_label 6 = .ok (.getfield 179, 3) := dk_180 0 179 (dk_at dksX1_label_0 6 rfl rfl)
theorem dX1_label_9 : decode cX1_label 9 = .ok (.ireturn, 1) := dk_172 (dk_at dksX1_label_0 9 rfl rfl)
abbrev cX1_key : ByteArray := prog_1_method_25_code
def yX1_key : MethodName := ⟨RX1, "key", "(II)I"⟩
def dkwX1_key_0 : List UInt8 := [42, 27, 28, 182, 0, 183, 180, 0, 190, 172]
abbrev dktX1_key_0 : List UInt8 := dkwX1_key_0 ++ []
theorem dksX1_key_0 : cX1_key.data.toList.drop 0 = dktX1_key_0 := by decide +kernel
theorem dX1_key_0 : decode cX1_key 0 = .ok (.aload_n 0, 1) := dk_42 (dk_at dksX1_key_0 0 rfl rfl)
theorem dX1_key_1 : decode cX1_key 1 = .ok (.iload_n 1, 1) := dk_27 (dk_at dksX1_key_0 1 rfl rfl)
theorem dX1_key_2 : decode cX1_key 2 = .ok (.iload_n 2, 1) := dk_28 (dk_at dksX1_key_0 2 rfl rfl)
theorem dX1_key_3 : decode cX1_key 3 = .ok (.invokevirtual 183, 3) := dk_182 0 183 (dk_at dksX1_key_0 3 rfl rfl)
theorem dX1_key_6 : decode cX1_key 6 = .ok (.getfield 190, 3) := dk_180 0 190 (dk_at dksX1_key_0 6 rfl rfl)
theorem dX1_key_9 : decode cX1_key 9 = .ok (.ireturn, 1) := dk_172 (dk_at dksX1_key_0 9 rfl rfl)
abbrev cX1_value : ByteArray := prog_1_method_26_code
def yX1_value : MethodName := ⟨RX1, "value", "(II)I"⟩
def dkwX1_value_0 : List UInt8 := [42, 27, 28, 182, 0, 183, 180, 0, 197, 172]
abbrev dktX1_value_0 : List UInt8 := dkwX1_value_0 ++ []
theorem dksX1_value_0 : cX1_value.data.toList.drop 0 = dktX1_value_0 := by decide +kernel
theorem dX1_value_0 : decode cX1_value 0 = .ok (.aload_n 0, 1) := dk_42 (dk_at dksX1_value_0 0 rfl rfl)
theorem dX1_value_1 : decode cX1_value 1 = .ok (.iload_n 1, 1) := dk_27 (dk_at dksX1_value_0 1 rfl rfl)
theorem dX1_value_2 : decode cX1_value 2 = .ok (.iload_n 2, 1) := dk_28 (dk_at dksX1_value_0 2 rfl rfl)
theorem dX1_value_3 : decode cX1_value 3 = .ok (.invokevirtual 183, 3) := dk_182 0 183 (dk_at dksX1_value_0 3 rfl rfl)
theorem dX1_value_6 : decode cX1_value 6 = .ok (.getfield 197, 3) := dk_180 0 197 (dk_at dksX1_value_0 6 rfl rfl)
theorem dX1_value_9 : decode cX1_value 9 = .ok (.ireturn, 1) := dk_172 (dk_at dksX1_value_0 9 rfl rfl)
abbrev cX1_children : ByteArray := prog_1_method_27_code
def yX1_children : MethodName := ⟨RX1, "children", "(II)I"⟩
def dkwX1_children_0 : List UInt8 := [42, 27, 28, 182, 0, 183, 180, 0, 154, 185, 0, 157, 1, 0, 172]
abbrev dktX1_children_0 : List UInt8 := dkwX1_children_0 ++ []
theorem dksX1_children_0 : cX1_children.data.toList.drop 0 = dktX1_children_0 := by decide +kernel
theorem dX1_children_0 : decode cX1_children 0 = .ok (.aload_n 0, 1) := dk_42 (dk_at dksX1_children_0 0 rfl rfl)
theorem dX1_children_1 : decode cX1_children 1 = .ok (.iload_n 1, 1) := dk_27 (dk_at dksX1_children_0 1 rfl rfl)
theorem dX1_children_2 : decode cX1_children 2 = .ok (.iload_n 2, 1) := dk_28 (dk_at dksX1_children_0 2 rfl rfl)
theorem dX1_children_3 : decode cX1_children 3 = .ok (.invokevirtual 183, 3) := dk_182 0 183 (dk_at dksX1_children_0 3 rfl rfl)
theorem dX1_children_6 : decode cX1_children 6 = .ok (.getfield 154, 3) := dk_180 0 154 (dk_at dksX1_children_0 6 rfl rfl)
theorem dX1_children_9 : decode cX1_children 9 = .ok (.invokeinterface 157 1, 5) := by decide +kernel
theorem dX1_children_14 : decode cX1_children 14 = .ok (.ireturn, 1) := dk_172 (dk_at dksX1_children_0 14 rfl rfl)
abbrev cX1_parent : ByteArray := prog_1_method_28_code
def yX1_parent : MethodName := ⟨RX1, "parent", "(II)I"⟩
def dkwX1_parent_1 : List UInt8 := [167, 0, 4, 3, 184, 0, 104, 45, 25, 4, 180, 0, 187, 182, 0, 169, 172]
abbrev dktX1_parent_1 : List UInt8 := dkwX1_parent_1 ++ []
def dkwX1_parent_0 : List UInt8 := [42, 27, 182, 0, 60, 78, 45, 28, 182, 0, 64, 58, 4, 25, 4, 180, 0, 187, 198, 0, 7, 4]
abbrev dktX1_parent_0 : List UInt8 := dkwX1_parent_0 ++ dktX1_parent_1
theorem dksX1_parent_0 : cX1_parent.data.toList.drop 0 = dktX1_parent_0 := by decide +kernel
theorem dksX1_parent_1 : cX1_parent.data.toList.drop 22 = dktX1_parent_1 := dk_seg dksX1_parent_0 22 rfl rfl
theorem dX1_parent_0 : decode cX1_parent 0 = .ok (.aload_n 0, 1) := dk_42 (dk_at dksX1_parent_0 0 rfl rfl)
theorem dX1_parent_1 : decode cX1_parent 1 = .ok (.iload_n 1, 1) := dk_27 (dk_at dksX1_parent_0 1 rfl rfl)
theorem dX1_parent_2 : decode cX1_parent 2 = .ok (.invokevirtual 60, 3) := dk_182 0 60 (dk_at dksX1_parent_0 2 rfl rfl)
theorem dX1_parent_5 : decode cX1_parent 5 = .ok (.astore_n 3, 1) := dk_78 (dk_at dksX1_parent_0 5 rfl rfl)
theorem dX1_parent_6 : decode cX1_parent 6 = .ok (.aload_n 3, 1) := dk_45 (dk_at dksX1_parent_0 6 rfl rfl)
theorem dX1_parent_7 : decode cX1_parent 7 = .ok (.iload_n 2, 1) := dk_28 (dk_at dksX1_parent_0 7 rfl rfl)
theorem dX1_parent_8 : decode cX1_parent 8 = .ok (.invokevirtual 64, 3) := dk_182 0 64 (dk_at dksX1_parent_0 8 rfl rfl)
theorem dX1_parent_11 : decode cX1_parent 11 = .ok (.astore 4, 2) := dk_58 4 (dk_at dksX1_parent_0 11 rfl rfl)
theorem dX1_parent_13 : decode cX1_parent 13 = .ok (.aload 4, 2) := dk_25 4 (dk_at dksX1_parent_0 13 rfl rfl)
theorem dX1_parent_15 : decode cX1_parent 15 = .ok (.getfield 187, 3) := dk_180 0 187 (dk_at dksX1_parent_0 15 rfl rfl)
theorem dX1_parent_18 : decode cX1_parent 18 = .ok (.ifnull 7, 3) := dk_198 0 7 (dk_at dksX1_parent_0 18 rfl rfl)
theorem dX1_parent_21 : decode cX1_parent 21 = .ok (.iconst 1, 1) := dk_4 (dk_at dksX1_parent_0 21 rfl rfl)
theorem dX1_parent_22 : decode cX1_parent 22 = .ok (.goto 4, 3) := dk_167 0 4 (dk_at dksX1_parent_1 0 rfl rfl)
theorem dX1_parent_25 : decode cX1_parent 25 = .ok (.iconst 0, 1) := dk_3 (dk_at dksX1_parent_1 3 rfl rfl)
theorem dX1_parent_26 : decode cX1_parent 26 = .ok (.invokestatic 104, 3) := dk_184 0 104 (dk_at dksX1_parent_1 4 rfl rfl)
theorem dX1_parent_29 : decode cX1_parent 29 = .ok (.aload_n 3, 1) := dk_45 (dk_at dksX1_parent_1 7 rfl rfl)
theorem dX1_parent_30 : decode cX1_parent 30 = .ok (.aload 4, 2) := dk_25 4 (dk_at dksX1_parent_1 8 rfl rfl)
theorem dX1_parent_32 : decode cX1_parent 32 = .ok (.getfield 187, 3) := dk_180 0 187 (dk_at dksX1_parent_1 10 rfl rfl)
theorem dX1_parent_35 : decode cX1_parent 35 = .ok (.invokevirtual 169, 3) := dk_182 0 169 (dk_at dksX1_parent_1 13 rfl rfl)
theorem dX1_parent_38 : decode cX1_parent 38 = .ok (.ireturn, 1) := dk_172 (dk_at dksX1_parent_1 16 rfl rfl)
abbrev cX1_subtreeSize : ByteArray := prog_1_method_29_code
def yX1_subtreeSize : MethodName := ⟨RX1, "subtreeSize", "(II)I"⟩
def dkwX1_subtreeSize_0 : List UInt8 := [42, 27, 28, 182, 0, 183, 182, 0, 101, 172]
abbrev dktX1_subtreeSize_0 : List UInt8 := dkwX1_subtreeSize_0 ++ []
theorem dksX1_subtreeSize_0 : cX1_subtreeSize.data.toList.drop 0 = dktX1_subtreeSize_0 := by decide +kernel
theorem dX1_subtreeSize_0 : decode cX1_subtreeSize 0 = .ok (.aload_n 0, 1) := dk_42 (dk_at dksX1_subtreeSize_0 0 rfl rfl)
theorem dX1_subtreeSize_1 : decode cX1_subtreeSize 1 = .ok (.iload_n 1, 1) := dk_27 (dk_at dksX1_subtreeSize_0 1 rfl rfl)
theorem dX1_subtreeSize_2 : decode cX1_subtreeSize 2 = .ok (.iload_n 2, 1) := dk_28 (dk_at dksX1_subtreeSize_0 2 rfl rfl)
theorem dX1_subtreeSize_3 : decode cX1_subtreeSize 3 = .ok (.invokevirtual 183, 3) := dk_182 0 183 (dk_at dksX1_subtreeSize_0 3 rfl rfl)
theorem dX1_subtreeSize_6 : decode cX1_subtreeSize 6 = .ok (.invokevirtual 101, 3) := dk_182 0 101 (dk_at dksX1_subtreeSize_0 6 rfl rfl)
theorem dX1_subtreeSize_9 : decode cX1_subtreeSize 9 = .ok (.ireturn, 1) := dk_172 (dk_at dksX1_subtreeSize_0 9 rfl rfl)
abbrev cX1_subtreeHash : ByteArray := prog_1_method_30_code
def yX1_subtreeHash : MethodName := ⟨RX1, "subtreeHash", "(II)I"⟩
def dkwX1_subtreeHash_0 : List UInt8 := [42, 27, 28, 182, 0, 183, 182, 0, 203, 172]
abbrev dktX1_subtreeHash_0 : List UInt8 := dkwX1_subtreeHash_0 ++ []
theorem dksX1_subtreeHash_0 : cX1_subtreeHash.data.toList.drop 0 = dktX1_subtreeHash_0 := by decide +kernel
theorem dX1_subtreeHash_0 : decode cX1_subtreeHash 0 = .ok (.aload_n 0, 1) := dk_42 (dk_at dksX1_subtreeHash_0 0 rfl rfl)
theorem dX1_subtreeHash_1 : decode cX1_subtreeHash 1 = .ok (.iload_n 1, 1) := dk_27 (dk_at dksX1_subtreeHash_0 1 rfl rfl)
theorem dX1_subtreeHash_2 : decode cX1_subtreeHash 2 = .ok (.iload_n 2, 1) := dk_28 (dk_at dksX1_subtreeHash_0 2 rfl rfl)
theorem dX1_subtreeHash_3 : decode cX1_subtreeHash 3 = .ok (.invokevirtual 183, 3) := dk_182 0 183 (dk_at dksX1_subtreeHash_0 3 rfl rfl)
theorem dX1_subtreeHash_6 : decode cX1_subtreeHash 6 = .ok (.invokevirtual 203, 3) := dk_182 0 203 (dk_at dksX1_subtreeHash_0 6 rfl rfl)
theorem dX1_subtreeHash_9 : decode cX1_subtreeHash 9 = .ok (.ireturn, 1) := dk_172 (dk_at dksX1_subtreeHash_0 9 rfl rfl)
abbrev cX1_areEqual : ByteArray := prog_1_method_31_code
def yX1_areEqual : MethodName := ⟨RX1, "areEqual", "(IIII)Z"⟩
def dkwX1_areEqual_0 : List UInt8 := [42, 27, 28, 182, 0, 183, 58, 5, 25, 5, 42, 29, 21, 4, 182, 0, 183, 3, 182, 0, 206, 172]
abbrev dktX1_areEqual_0 : List UInt8 := dkwX1_areEqual_0 ++ []
theorem dksX1_areEqual_0 : cX1_areEqual.data.toList.drop 0 = dktX1_areEqual_0 := by decide +kernel
theorem dX1_areEqual_0 : decode cX1_areEqual 0 = .ok (.aload_n 0, 1) := dk_42 (dk_at dksX1_areEqual_0 0 rfl rfl)
theorem dX1_areEqual_1 : decode cX1_areEqual 1 = .ok (.iload_n 1, 1) := dk_27 (dk_at dksX1_areEqual_0 1 rfl rfl)
theorem dX1_areEqual_2 : decode cX1_areEqual 2 = .ok (.iload_n 2, 1) := dk_28 (dk_at dksX1_areEqual_0 2 rfl rfl)
theorem dX1_areEqual_3 : decode cX1_areEqual 3 = .ok (.invokevirtual 183, 3) := dk_182 0 183 (dk_at dksX1_areEqual_0 3 rfl rfl)
theorem dX1_areEqual_6 : decode cX1_areEqual 6 = .ok (.astore 5, 2) := dk_58 5 (dk_at dksX1_areEqual_0 6 rfl rfl)
theorem dX1_areEqual_8 : decode cX1_areEqual 8 = .ok (.aload 5, 2) := dk_25 5 (dk_at dksX1_areEqual_0 8 rfl rfl)
theorem dX1_areEqual_10 : decode cX1_areEqual 10 = .ok (.aload_n 0, 1) := dk_42 (dk_at dksX1_areEqual_0 10 rfl rfl)
theorem dX1_areEqual_11 : decode cX1_areEqual 11 = .ok (.iload_n 3, 1) := dk_29 (dk_at dksX1_areEqual_0 11 rfl rfl)
theorem dX1_areEqual_12 : decode cX1_areEqual 12 = .ok (.iload 4, 2) := dk_21 4 (dk_at dksX1_areEqual_0 12 rfl rfl)
theorem dX1_areEqual_14 : decode cX1_areEqual 14 = .ok (.invokevirtual 183, 3) := dk_182 0 183 (dk_at dksX1_areEqual_0 14 rfl rfl)
theorem dX1_areEqual_17 : decode cX1_areEqual 17 = .ok (.iconst 0, 1) := dk_3 (dk_at dksX1_areEqual_0 17 rfl rfl)
theorem dX1_areEqual_18 : decode cX1_areEqual 18 = .ok (.invokevirtual 206, 3) := dk_182 0 206 (dk_at dksX1_areEqual_0 18 rfl rfl)
theorem dX1_areEqual_21 : decode cX1_areEqual 21 = .ok (.ireturn, 1) := dk_172 (dk_at dksX1_areEqual_0 21 rfl rfl)
abbrev cX1_twin : ByteArray := prog_1_method_32_code
def yX1_twin : MethodName := ⟨RX1, "twin", "(III)I"⟩
def dkwX1_twin_3 : List UInt8 := [153, 0, 6, 21, 6, 172, 132, 6, 1, 167, 255, 207, 187, 0, 46, 89, 183, 0, 48, 191]
abbrev dktX1_twin_3 : List UInt8 := dkwX1_twin_3 ++ []
def dkwX1_twin_2 : List UInt8 := [192, 0, 29, 58, 8, 25, 8, 182, 0, 203, 21, 5, 160, 0, 17, 25, 8, 25, 4, 3, 182, 0, 206]
abbrev dktX1_twin_2 : List UInt8 := dkwX1_twin_2 ++ dktX1_twin_3
def dkwX1_twin_1 : List UInt8 := [182, 0, 182, 58, 7, 25, 7, 185, 0, 127, 1, 0, 153, 0, 45, 25, 7, 185, 0, 133, 1, 0]
abbrev dktX1_twin_1 : List UInt8 := dkwX1_twin_1 ++ dktX1_twin_2
def dkwX1_twin_0 : List UInt8 := [42, 27, 28, 182, 0, 183, 58, 4, 25, 4, 182, 0, 203, 54, 5, 3, 54, 6, 42, 29, 182, 0, 60]
abbrev dktX1_twin_0 : List UInt8 := dkwX1_twin_0 ++ dktX1_twin_1
theorem dksX1_twin_0 : cX1_twin.data.toList.drop 0 = dktX1_twin_0 := by decide +kernel
theorem dksX1_twin_1 : cX1_twin.data.toList.drop 23 = dktX1_twin_1 := dk_seg dksX1_twin_0 23 rfl rfl
theorem dksX1_twin_2 : cX1_twin.data.toList.drop 45 = dktX1_twin_2 := dk_seg dksX1_twin_1 22 rfl rfl
theorem dksX1_twin_3 : cX1_twin.data.toList.drop 68 = dktX1_twin_3 := dk_seg dksX1_twin_2 23 rfl rfl
theorem dX1_twin_0 : decode cX1_twin 0 = .ok (.aload_n 0, 1) := dk_42 (dk_at dksX1_twin_0 0 rfl rfl)
theorem dX1_twin_1 : decode cX1_twin 1 = .ok (.iload_n 1, 1) := dk_27 (dk_at dksX1_twin_0 1 rfl rfl)
theorem dX1_twin_2 : decode cX1_twin 2 = .ok (.iload_n 2, 1) := dk_28 (dk_at dksX1_twin_0 2 rfl rfl)
theorem dX1_twin_3 : decode cX1_twin 3 = .ok (.invokevirtual 183, 3) := dk_182 0 183 (dk_at dksX1_twin_0 3 rfl rfl)
theorem dX1_twin_6 : decode cX1_twin 6 = .ok (.astore 4, 2) := dk_58 4 (dk_at dksX1_twin_0 6 rfl rfl)
theorem dX1_twin_8 : decode cX1_twin 8 = .ok (.aload 4, 2) := dk_25 4 (dk_at dksX1_twin_0 8 rfl rfl)
theorem dX1_twin_10 : decode cX1_twin 10 = .ok (.invokevirtual 203, 3) := dk_182 0 203 (dk_at dksX1_twin_0 10 rfl rfl)
theorem dX1_twin_13 : decode cX1_twin 13 = .ok (.istore 5, 2) := dk_54 5 (dk_at dksX1_twin_0 13 rfl rfl)
theorem dX1_twin_15 : decode cX1_twin 15 = .ok (.iconst 0, 1) := dk_3 (dk_at dksX1_twin_0 15 rfl rfl)
theorem dX1_twin_16 : decode cX1_twin 16 = .ok (.istore 6, 2) := dk_54 6 (dk_at dksX1_twin_0 16 rfl rfl)
theorem dX1_twin_18 : decode cX1_twin 18 = .ok (.aload_n 0, 1) := dk_42 (dk_at dksX1_twin_0 18 rfl rfl)
theorem dX1_twin_19 : decode cX1_twin 19 = .ok (.iload_n 3, 1) := dk_29 (dk_at dksX1_twin_0 19 rfl rfl)
theorem dX1_twin_20 : decode cX1_twin 20 = .ok (.invokevirtual 60, 3) := dk_182 0 60 (dk_at dksX1_twin_0 20 rfl rfl)
theorem dX1_twin_23 : decode cX1_twin 23 = .ok (.invokevirtual 182, 3) := dk_182 0 182 (dk_at dksX1_twin_1 0 rfl rfl)
theorem dX1_twin_26 : decode cX1_twin 26 = .ok (.astore 7, 2) := dk_58 7 (dk_at dksX1_twin_1 3 rfl rfl)
theorem dX1_twin_28 : decode cX1_twin 28 = .ok (.aload 7, 2) := dk_25 7 (dk_at dksX1_twin_1 5 rfl rfl)
theorem dX1_twin_30 : decode cX1_twin 30 = .ok (.invokeinterface 127 1, 5) := by decide +kernel
theorem dX1_twin_35 : decode cX1_twin 35 = .ok (.ifCond .eq 45, 3) := dk_153 0 45 (dk_at dksX1_twin_1 12 rfl rfl)
theorem dX1_twin_38 : decode cX1_twin 38 = .ok (.aload 7, 2) := dk_25 7 (dk_at dksX1_twin_1 15 rfl rfl)
theorem dX1_twin_40 : decode cX1_twin 40 = .ok (.invokeinterface 133 1, 5) := by decide +kernel
theorem dX1_twin_45 : decode cX1_twin 45 = .ok (.checkcast 29, 3) := dk_192 0 29 (dk_at dksX1_twin_2 0 rfl rfl)
theorem dX1_twin_48 : decode cX1_twin 48 = .ok (.astore 8, 2) := dk_58 8 (dk_at dksX1_twin_2 3 rfl rfl)
theorem dX1_twin_50 : decode cX1_twin 50 = .ok (.aload 8, 2) := dk_25 8 (dk_at dksX1_twin_2 5 rfl rfl)
theorem dX1_twin_52 : decode cX1_twin 52 = .ok (.invokevirtual 203, 3) := dk_182 0 203 (dk_at dksX1_twin_2 7 rfl rfl)
theorem dX1_twin_55 : decode cX1_twin 55 = .ok (.iload 5, 2) := dk_21 5 (dk_at dksX1_twin_2 10 rfl rfl)
theorem dX1_twin_57 : decode cX1_twin 57 = .ok (.if_icmp .ne 17, 3) := dk_160 0 17 (dk_at dksX1_twin_2 12 rfl rfl)
theorem dX1_twin_60 : decode cX1_twin 60 = .ok (.aload 8, 2) := dk_25 8 (dk_at dksX1_twin_2 15 rfl rfl)
theorem dX1_twin_62 : decode cX1_twin 62 = .ok (.aload 4, 2) := dk_25 4 (dk_at dksX1_twin_2 17 rfl rfl)
theorem dX1_twin_64 : decode cX1_twin 64 = .ok (.iconst 0, 1) := dk_3 (dk_at dksX1_twin_2 19 rfl rfl)
theorem dX1_twin_65 : decode cX1_twin 65 = .ok (.invokevirtual 206, 3) := dk_182 0 206 (dk_at dksX1_twin_2 20 rfl rfl)
theorem dX1_twin_68 : decode cX1_twin 68 = .ok (.ifCond .eq 6, 3) := dk_153 0 6 (dk_at dksX1_twin_3 0 rfl rfl)
theorem dX1_twin_71 : decode cX1_twin 71 = .ok (.iload 6, 2) := dk_21 6 (dk_at dksX1_twin_3 3 rfl rfl)
theorem dX1_twin_73 : decode cX1_twin 73 = .ok (.ireturn, 1) := dk_172 (dk_at dksX1_twin_3 5 rfl rfl)
theorem dX1_twin_74 : decode cX1_twin 74 = .ok (.iinc 6 1, 3) := dk_132 6 1 (dk_at dksX1_twin_3 6 rfl rfl)
theorem dX1_twin_77 : decode cX1_twin 77 = .ok (.goto (-49), 3) := dk_167 255 207 (dk_at dksX1_twin_3 9 rfl rfl)
theorem dX1_twin_80 : decode cX1_twin 80 = .ok (.new 46, 3) := dk_187 0 46 (dk_at dksX1_twin_3 12 rfl rfl)
theorem dX1_twin_83 : decode cX1_twin 83 = .ok (.dup, 1) := dk_89 (dk_at dksX1_twin_3 15 rfl rfl)
theorem dX1_twin_84 : decode cX1_twin 84 = .ok (.invokespecial 48, 3) := dk_183 0 48 (dk_at dksX1_twin_3 16 rfl rfl)
theorem dX1_twin_87 : decode cX1_twin 87 = .ok (.athrow, 1) := dk_191 (dk_at dksX1_twin_3 19 rfl rfl)
abbrev cX1_shapeTwin : ByteArray := prog_1_method_33_code
def yX1_shapeTwin : MethodName := ⟨RX1, "shapeTwin", "(III)I"⟩
def dkwX1_shapeTwin_2 : List UInt8 := [4, 182, 0, 206, 153, 0, 6, 21, 5, 172, 132, 5, 1, 167, 255, 217, 187, 0, 46, 89, 183, 0, 48, 191]
abbrev dktX1_shapeTwin_2 : List UInt8 := dkwX1_shapeTwin_2 ++ []
def dkwX1_shapeTwin_1 : List UInt8 := [185, 0, 127, 1, 0, 153, 0, 35, 25, 6, 185, 0, 133, 1, 0, 192, 0, 29, 58, 7, 25, 7, 25, 4]
abbrev dktX1_shapeTwin_1 : List UInt8 := dkwX1_shapeTwin_1 ++ dktX1_shapeTwin_2
def dkwX1_shapeTwin_0 : List UInt8 := [42, 27, 28, 182, 0, 183, 58, 4, 3, 54, 5, 42, 29, 182, 0, 60, 182, 0, 182, 58, 6, 25, 6]
abbrev dktX1_shapeTwin_0 : List UInt8 := dkwX1_shapeTwin_0 ++ dktX1_shapeTwin_1
theorem dksX1_shapeTwin_0 : cX1_shapeTwin.data.toList.drop 0 = dktX1_shapeTwin_0 := by decide +kernel
theorem dksX1_shapeTwin_1 : cX1_shapeTwin.data.toList.drop 23 = dktX1_shapeTwin_1 := dk_seg dksX1_shapeTwin_0 23 rfl rfl
theorem dksX1_shapeTwin_2 : cX1_shapeTwin.data.toList.drop 47 = dktX1_shapeTwin_2 := dk_seg dksX1_shapeTwin_1 24 rfl rfl
theorem dX1_shapeTwin_0 : decode cX1_shapeTwin 0 = .ok (.aload_n 0, 1) := dk_42 (dk_at dksX1_shapeTwin_0 0 rfl rfl)
theorem dX1_shapeTwin_1 : decode cX1_shapeTwin 1 = .ok (.iload_n 1, 1) := dk_27 (dk_at dksX1_shapeTwin_0 1 rfl rfl)
theorem dX1_shapeTwin_2 : decode cX1_shapeTwin 2 = .ok (.iload_n 2, 1) := dk_28 (dk_at dksX1_shapeTwin_0 2 rfl rfl)
theorem dX1_shapeTwin_3 : decode cX1_shapeTwin 3 = .ok (.invokevirtual 183, 3) := dk_182 0 183 (dk_at dksX1_shapeTwin_0 3 rfl rfl)
theorem dX1_shapeTwin_6 : decode cX1_shapeTwin 6 = .ok (.astore 4, 2) := dk_58 4 (dk_at dksX1_shapeTwin_0 6 rfl rfl)
theorem dX1_shapeTwin_8 : decode cX1_shapeTwin 8 = .ok (.iconst 0, 1) := dk_3 (dk_at dksX1_shapeTwin_0 8 rfl rfl)
theorem dX1_shapeTwin_9 : decode cX1_shapeTwin 9 = .ok (.istore 5, 2) := dk_54 5 (dk_at dksX1_shapeTwin_0 9 rfl rfl)
theorem dX1_shapeTwin_11 : decode cX1_shapeTwin 11 = .ok (.aload_n 0, 1) := dk_42 (dk_at dksX1_shapeTwin_0 11 rfl rfl)
theorem dX1_shapeTwin_12 : decode cX1_shapeTwin 12 = .ok (.iload_n 3, 1) := dk_29 (dk_at dksX1_shapeTwin_0 12 rfl rfl)
theorem dX1_shapeTwin_13 : decode cX1_shapeTwin 13 = .ok (.invokevirtual 60, 3) := dk_182 0 60 (dk_at dksX1_shapeTwin_0 13 rfl rfl)
theorem dX1_shapeTwin_16 : decode cX1_shapeTwin 16 = .ok (.invokevirtual 182, 3) := dk_182 0 182 (dk_at dksX1_shapeTwin_0 16 rfl rfl)
theorem dX1_shapeTwin_19 : decode cX1_shapeTwin 19 = .ok (.astore 6, 2) := dk_58 6 (dk_at dksX1_shapeTwin_0 19 rfl rfl)
theorem dX1_shapeTwin_21 : decode cX1_shapeTwin 21 = .ok (.aload 6, 2) := dk_25 6 (dk_at dksX1_shapeTwin_0 21 rfl rfl)
theorem dX1_shapeTwin_23 : decode cX1_shapeTwin 23 = .ok (.invokeinterface 127 1, 5) := by decide +kernel
theorem dX1_shapeTwin_28 : decode cX1_shapeTwin 28 = .ok (.ifCond .eq 35, 3) := dk_153 0 35 (dk_at dksX1_shapeTwin_1 5 rfl rfl)
theorem dX1_shapeTwin_31 : decode cX1_shapeTwin 31 = .ok (.aload 6, 2) := dk_25 6 (dk_at dksX1_shapeTwin_1 8 rfl rfl)
theorem dX1_shapeTwin_33 : decode cX1_shapeTwin 33 = .ok (.invokeinterface 133 1, 5) := by decide +kernel
theorem dX1_shapeTwin_38 : decode cX1_shapeTwin 38 = .ok (.checkcast 29, 3) := dk_192 0 29 (dk_at dksX1_shapeTwin_1 15 rfl rfl)
theorem dX1_shapeTwin_41 : decode cX1_shapeTwin 41 = .ok (.astore 7, 2) := dk_58 7 (dk_at dksX1_shapeTwin_1 18 rfl rfl)
theorem dX1_shapeTwin_43 : decode cX1_shapeTwin 43 = .ok (.aload 7, 2) := dk_25 7 (dk_at dksX1_shapeTwin_1 20 rfl rfl)
theorem dX1_shapeTwin_45 : decode cX1_shapeTwin 45 = .ok (.aload 4, 2) := dk_25 4 (dk_at dksX1_shapeTwin_1 22 rfl rfl)
theorem dX1_shapeTwin_47 : decode cX1_shapeTwin 47 = .ok (.iconst 1, 1) := dk_4 (dk_at dksX1_shapeTwin_2 0 rfl rfl)
theorem dX1_shapeTwin_48 : decode cX1_shapeTwin 48 = .ok (.invokevirtual 206, 3) := dk_182 0 206 (dk_at dksX1_shapeTwin_2 1 rfl rfl)
theorem dX1_shapeTwin_51 : decode cX1_shapeTwin 51 = .ok (.ifCond .eq 6, 3) := dk_153 0 6 (dk_at dksX1_shapeTwin_2 4 rfl rfl)
theorem dX1_shapeTwin_54 : decode cX1_shapeTwin 54 = .ok (.iload 5, 2) := dk_21 5 (dk_at dksX1_shapeTwin_2 7 rfl rfl)
theorem dX1_shapeTwin_56 : decode cX1_shapeTwin 56 = .ok (.ireturn, 1) := dk_172 (dk_at dksX1_shapeTwin_2 9 rfl rfl)
theorem dX1_shapeTwin_57 : decode cX1_shapeTwin 57 = .ok (.iinc 5 1, 3) := dk_132 5 1 (dk_at dksX1_shapeTwin_2 10 rfl rfl)
theorem dX1_shapeTwin_60 : decode cX1_shapeTwin 60 = .ok (.goto (-39), 3) := dk_167 255 217 (dk_at dksX1_shapeTwin_2 13 rfl rfl)
theorem dX1_shapeTwin_63 : decode cX1_shapeTwin 63 = .ok (.new 46, 3) := dk_187 0 46 (dk_at dksX1_shapeTwin_2 16 rfl rfl)
theorem dX1_shapeTwin_66 : decode cX1_shapeTwin 66 = .ok (.dup, 1) := dk_89 (dk_at dksX1_shapeTwin_2 19 rfl rfl)
theorem dX1_shapeTwin_67 : decode cX1_shapeTwin 67 = .ok (.invokespecial 48, 3) := dk_183 0 48 (dk_at dksX1_shapeTwin_2 20 rfl rfl)
theorem dX1_shapeTwin_70 : decode cX1_shapeTwin 70 = .ok (.athrow, 1) := dk_191 (dk_at dksX1_shapeTwin_2 23 rfl rfl)
abbrev cX1_distance : ByteArray := prog_1_method_37_code
def yX1_distance : MethodName := ⟨RX1, "distance", "(II)I"⟩
def dkwX1_distance_0 : List UInt8 := [42, 27, 182, 0, 60, 78, 45, 180, 0, 97, 42, 28, 182, 0, 60, 180, 0, 97, 184, 0, 239, 172]
abbrev dktX1_distance_0 : List UInt8 := dkwX1_distance_0 ++ []
theorem dksX1_distance_0 : cX1_distance.data.toList.drop 0 = dktX1_distance_0 := by decide +kernel
theorem dX1_distance_0 : decode cX1_distance 0 = .ok (.aload_n 0, 1) := dk_42 (dk_at dksX1_distance_0 0 rfl rfl)
theorem dX1_distance_1 : decode cX1_distance 1 = .ok (.iload_n 1, 1) := dk_27 (dk_at dksX1_distance_0 1 rfl rfl)
theorem dX1_distance_2 : decode cX1_distance 2 = .ok (.invokevirtual 60, 3) := dk_182 0 60 (dk_at dksX1_distance_0 2 rfl rfl)
theorem dX1_distance_5 : decode cX1_distance 5 = .ok (.astore_n 3, 1) := dk_78 (dk_at dksX1_distance_0 5 rfl rfl)
theorem dX1_distance_6 : decode cX1_distance 6 = .ok (.aload_n 3, 1) := dk_45 (dk_at dksX1_distance_0 6 rfl rfl)
theorem dX1_distance_7 : decode cX1_distance 7 = .ok (.getfield 97, 3) := dk_180 0 97 (dk_at dksX1_distance_0 7 rfl rfl)
theorem dX1_distance_10 : decode cX1_distance 10 = .ok (.aload_n 0, 1) := dk_42 (dk_at dksX1_distance_0 10 rfl rfl)
theorem dX1_distance_11 : decode cX1_distance 11 = .ok (.iload_n 2, 1) := dk_28 (dk_at dksX1_distance_0 11 rfl rfl)
theorem dX1_distance_12 : decode cX1_distance 12 = .ok (.invokevirtual 60, 3) := dk_182 0 60 (dk_at dksX1_distance_0 12 rfl rfl)
theorem dX1_distance_15 : decode cX1_distance 15 = .ok (.getfield 97, 3) := dk_180 0 97 (dk_at dksX1_distance_0 15 rfl rfl)
theorem dX1_distance_18 : decode cX1_distance 18 = .ok (.invokestatic 239, 3) := dk_184 0 239 (dk_at dksX1_distance_0 18 rfl rfl)
theorem dX1_distance_21 : decode cX1_distance 21 = .ok (.ireturn, 1) := dk_172 (dk_at dksX1_distance_0 21 rfl rfl)
abbrev cX1_distanceByMatchings : ByteArray := prog_1_method_39_code
def yX1_distanceByMatchings : MethodName := ⟨RX1, "distanceByMatchings", "(II)I"⟩
def dkwX1_distanceByMatchings_2 : List UInt8 := [45, 25, 4, 184, 0, 242, 172]
abbrev dktX1_distanceByMatchings_2 : List UInt8 := dkwX1_distanceByMatchings_2 ++ []
def dkwX1_distanceByMatchings_1 : List UInt8 := [163, 0, 20, 25, 4, 180, 0, 97, 182, 0, 101, 16, 7, 163, 0, 7, 4, 167, 0, 4, 3, 184, 0, 173]
abbrev dktX1_distanceByMatchings_1 : List UInt8 := dkwX1_distanceByMatchings_1 ++ dktX1_distanceByMatchings_2
def dkwX1_distanceByMatchings_0 : List UInt8 := [42, 27, 182, 0, 60, 78, 42, 28, 182, 0, 60, 58, 4, 45, 180, 0, 97, 182, 0, 101, 16, 7]
abbrev dktX1_distanceByMatchings_0 : List UInt8 := dkwX1_distanceByMatchings_0 ++ dktX1_distanceByMatchings_1
theorem dksX1_distanceByMatchings_0 : cX1_distanceByMatchings.data.toList.drop 0 = dktX1_distanceByMatchings_0 := by decide +kernel
theorem dksX1_distanceByMatchings_1 : cX1_distanceByMatchings.data.toList.drop 22 = dktX1_distanceByMatchings_1 := dk_seg dksX1_distanceByMatchings_0 22 rfl rfl
theorem dksX1_distanceByMatchings_2 : cX1_distanceByMatchings.data.toList.drop 46 = dktX1_distanceByMatchings_2 := dk_seg dksX1_distanceByMatchings_1 24 rfl rfl
theorem dX1_distanceByMatchings_0 : decode cX1_distanceByMatchings 0 = .ok (.aload_n 0, 1) := dk_42 (dk_at dksX1_distanceByMatchings_0 0 rfl rfl)
theorem dX1_distanceByMatchings_1 : decode cX1_distanceByMatchings 1 = .ok (.iload_n 1, 1) := dk_27 (dk_at dksX1_distanceByMatchings_0 1 rfl rfl)
theorem dX1_distanceByMatchings_2 : decode cX1_distanceByMatchings 2 = .ok (.invokevirtual 60, 3) := dk_182 0 60 (dk_at dksX1_distanceByMatchings_0 2 rfl rfl)
theorem dX1_distanceByMatchings_5 : decode cX1_distanceByMatchings 5 = .ok (.astore_n 3, 1) := dk_78 (dk_at dksX1_distanceByMatchings_0 5 rfl rfl)
theorem dX1_distanceByMatchings_6 : decode cX1_distanceByMatchings 6 = .ok (.aload_n 0, 1) := dk_42 (dk_at dksX1_distanceByMatchings_0 6 rfl rfl)
theorem dX1_distanceByMatchings_7 : decode cX1_distanceByMatchings 7 = .ok (.iload_n 2, 1) := dk_28 (dk_at dksX1_distanceByMatchings_0 7 rfl rfl)
theorem dX1_distanceByMatchings_8 : decode cX1_distanceByMatchings 8 = .ok (.invokevirtual 60, 3) := dk_182 0 60 (dk_at dksX1_distanceByMatchings_0 8 rfl rfl)
theorem dX1_distanceByMatchings_11 : decode cX1_distanceByMatchings 11 = .ok (.astore 4, 2) := dk_58 4 (dk_at dksX1_distanceByMatchings_0 11 rfl rfl)
theorem dX1_distanceByMatchings_13 : decode cX1_distanceByMatchings 13 = .ok (.aload_n 3, 1) := dk_45 (dk_at dksX1_distanceByMatchings_0 13 rfl rfl)
theorem dX1_distanceByMatchings_14 : decode cX1_distanceByMatchings 14 = .ok (.getfield 97, 3) := dk_180 0 97 (dk_at dksX1_distanceByMatchings_0 14 rfl rfl)
theorem dX1_distanceByMatchings_17 : decode cX1_distanceByMatchings 17 = .ok (.invokevirtual 101, 3) := dk_182 0 101 (dk_at dksX1_distanceByMatchings_0 17 rfl rfl)
theorem dX1_distanceByMatchings_20 : decode cX1_distanceByMatchings 20 = .ok (.bipush 7, 2) := dk_16 7 (dk_at dksX1_distanceByMatchings_0 20 rfl rfl)
theorem dX1_distanceByMatchings_22 : decode cX1_distanceByMatchings 22 = .ok (.if_icmp .gt 20, 3) := dk_163 0 20 (dk_at dksX1_distanceByMatchings_1 0 rfl rfl)
theorem dX1_distanceByMatchings_25 : decode cX1_distanceByMatchings 25 = .ok (.aload 4, 2) := dk_25 4 (dk_at dksX1_distanceByMatchings_1 3 rfl rfl)
theorem dX1_distanceByMatchings_27 : decode cX1_distanceByMatchings 27 = .ok (.getfield 97, 3) := dk_180 0 97 (dk_at dksX1_distanceByMatchings_1 5 rfl rfl)
theorem dX1_distanceByMatchings_30 : decode cX1_distanceByMatchings 30 = .ok (.invokevirtual 101, 3) := dk_182 0 101 (dk_at dksX1_distanceByMatchings_1 8 rfl rfl)
theorem dX1_distanceByMatchings_33 : decode cX1_distanceByMatchings 33 = .ok (.bipush 7, 2) := dk_16 7 (dk_at dksX1_distanceByMatchings_1 11 rfl rfl)
theorem dX1_distanceByMatchings_35 : decode cX1_distanceByMatchings 35 = .ok (.if_icmp .gt 7, 3) := dk_163 0 7 (dk_at dksX1_distanceByMatchings_1 13 rfl rfl)
theorem dX1_distanceByMatchings_38 : decode cX1_distanceByMatchings 38 = .ok (.iconst 1, 1) := dk_4 (dk_at dksX1_distanceByMatchings_1 16 rfl rfl)
theorem dX1_distanceByMatchings_39 : decode cX1_distanceByMatchings 39 = .ok (.goto 4, 3) := dk_167 0 4 (dk_at dksX1_distanceByMatchings_1 17 rfl rfl)
theorem dX1_distanceByMatchings_42 : decode cX1_distanceByMatchings 42 = .ok (.iconst 0, 1) := dk_3 (dk_at dksX1_distanceByMatchings_1 20 rfl rfl)
theorem dX1_distanceByMatchings_43 : decode cX1_distanceByMatchings 43 = .ok (.invokestatic 173, 3) := dk_184 0 173 (dk_at dksX1_distanceByMatchings_1 21 rfl rfl)
theorem dX1_distanceByMatchings_46 : decode cX1_distanceByMatchings 46 = .ok (.aload_n 3, 1) := dk_45 (dk_at dksX1_distanceByMatchings_2 0 rfl rfl)
theorem dX1_distanceByMatchings_47 : decode cX1_distanceByMatchings 47 = .ok (.aload 4, 2) := dk_25 4 (dk_at dksX1_distanceByMatchings_2 1 rfl rfl)
theorem dX1_distanceByMatchings_49 : decode cX1_distanceByMatchings 49 = .ok (.invokestatic 242, 3) := dk_184 0 242 (dk_at dksX1_distanceByMatchings_2 3 rfl rfl)
theorem dX1_distanceByMatchings_52 : decode cX1_distanceByMatchings 52 = .ok (.ireturn, 1) := dk_172 (dk_at dksX1_distanceByMatchings_2 6 rfl rfl)
abbrev cX1_similarity : ByteArray := prog_1_method_40_code
def yX1_similarity : MethodName := ⟨RX1, "similarity", "(II)D"⟩
def dkwX1_similarity_2 : List UInt8 := [103, 175]
abbrev dktX1_similarity_2 : List UInt8 := dkwX1_similarity_2 ++ []
def dkwX1_similarity_1 : List UInt8 := [184, 0, 239, 135, 5, 45, 180, 0, 97, 182, 0, 101, 25, 4, 180, 0, 97, 182, 0, 101, 96, 104, 135, 111]
abbrev dktX1_similarity_1 : List UInt8 := dkwX1_similarity_1 ++ dktX1_similarity_2
def dkwX1_similarity_0 : List UInt8 := [42, 27, 182, 0, 60, 78, 42, 28, 182, 0, 60, 58, 4, 15, 45, 180, 0, 97, 25, 4, 180, 0, 97]
abbrev dktX1_similarity_0 : List UInt8 := dkwX1_similarity_0 ++ dktX1_similarity_1
theorem dksX1_similarity_0 : cX1_similarity.data.toList.drop 0 = dktX1_similarity_0 := by decide +kernel
theorem dksX1_similarity_1 : cX1_similarity.data.toList.drop 23 = dktX1_similarity_1 := dk_seg dksX1_similarity_0 23 rfl rfl
theorem dksX1_similarity_2 : cX1_similarity.data.toList.drop 47 = dktX1_similarity_2 := dk_seg dksX1_similarity_1 24 rfl rfl
theorem dX1_similarity_0 : decode cX1_similarity 0 = .ok (.aload_n 0, 1) := dk_42 (dk_at dksX1_similarity_0 0 rfl rfl)
theorem dX1_similarity_1 : decode cX1_similarity 1 = .ok (.iload_n 1, 1) := dk_27 (dk_at dksX1_similarity_0 1 rfl rfl)
theorem dX1_similarity_2 : decode cX1_similarity 2 = .ok (.invokevirtual 60, 3) := dk_182 0 60 (dk_at dksX1_similarity_0 2 rfl rfl)
theorem dX1_similarity_5 : decode cX1_similarity 5 = .ok (.astore_n 3, 1) := dk_78 (dk_at dksX1_similarity_0 5 rfl rfl)
theorem dX1_similarity_6 : decode cX1_similarity 6 = .ok (.aload_n 0, 1) := dk_42 (dk_at dksX1_similarity_0 6 rfl rfl)
theorem dX1_similarity_7 : decode cX1_similarity 7 = .ok (.iload_n 2, 1) := dk_28 (dk_at dksX1_similarity_0 7 rfl rfl)
theorem dX1_similarity_8 : decode cX1_similarity 8 = .ok (.invokevirtual 60, 3) := dk_182 0 60 (dk_at dksX1_similarity_0 8 rfl rfl)
theorem dX1_similarity_11 : decode cX1_similarity 11 = .ok (.astore 4, 2) := dk_58 4 (dk_at dksX1_similarity_0 11 rfl rfl)
theorem dX1_similarity_13 : decode cX1_similarity 13 = .ok (.dconst 1, 1) := dk_15 (dk_at dksX1_similarity_0 13 rfl rfl)
theorem dX1_similarity_14 : decode cX1_similarity 14 = .ok (.aload_n 3, 1) := dk_45 (dk_at dksX1_similarity_0 14 rfl rfl)
theorem dX1_similarity_15 : decode cX1_similarity 15 = .ok (.getfield 97, 3) := dk_180 0 97 (dk_at dksX1_similarity_0 15 rfl rfl)
theorem dX1_similarity_18 : decode cX1_similarity 18 = .ok (.aload 4, 2) := dk_25 4 (dk_at dksX1_similarity_0 18 rfl rfl)
theorem dX1_similarity_20 : decode cX1_similarity 20 = .ok (.getfield 97, 3) := dk_180 0 97 (dk_at dksX1_similarity_0 20 rfl rfl)
theorem dX1_similarity_23 : decode cX1_similarity 23 = .ok (.invokestatic 239, 3) := dk_184 0 239 (dk_at dksX1_similarity_1 0 rfl rfl)
theorem dX1_similarity_26 : decode cX1_similarity 26 = .ok (.i2d, 1) := dk_135 (dk_at dksX1_similarity_1 3 rfl rfl)
theorem dX1_similarity_27 : decode cX1_similarity 27 = .ok (.iconst 2, 1) := dk_5 (dk_at dksX1_similarity_1 4 rfl rfl)
theorem dX1_similarity_28 : decode cX1_similarity 28 = .ok (.aload_n 3, 1) := dk_45 (dk_at dksX1_similarity_1 5 rfl rfl)
theorem dX1_similarity_29 : decode cX1_similarity 29 = .ok (.getfield 97, 3) := dk_180 0 97 (dk_at dksX1_similarity_1 6 rfl rfl)
theorem dX1_similarity_32 : decode cX1_similarity 32 = .ok (.invokevirtual 101, 3) := dk_182 0 101 (dk_at dksX1_similarity_1 9 rfl rfl)
theorem dX1_similarity_35 : decode cX1_similarity 35 = .ok (.aload 4, 2) := dk_25 4 (dk_at dksX1_similarity_1 12 rfl rfl)
theorem dX1_similarity_37 : decode cX1_similarity 37 = .ok (.getfield 97, 3) := dk_180 0 97 (dk_at dksX1_similarity_1 14 rfl rfl)
theorem dX1_similarity_40 : decode cX1_similarity 40 = .ok (.invokevirtual 101, 3) := dk_182 0 101 (dk_at dksX1_similarity_1 17 rfl rfl)
theorem dX1_similarity_43 : decode cX1_similarity 43 = .ok (.iadd, 1) := dk_96 (dk_at dksX1_similarity_1 20 rfl rfl)
theorem dX1_similarity_44 : decode cX1_similarity 44 = .ok (.imul, 1) := dk_104 (dk_at dksX1_similarity_1 21 rfl rfl)
theorem dX1_similarity_45 : decode cX1_similarity 45 = .ok (.i2d, 1) := dk_135 (dk_at dksX1_similarity_1 22 rfl rfl)
theorem dX1_similarity_46 : decode cX1_similarity 46 = .ok (.ddiv, 1) := dk_111 (dk_at dksX1_similarity_1 23 rfl rfl)
theorem dX1_similarity_47 : decode cX1_similarity 47 = .ok (.dsub, 1) := dk_103 (dk_at dksX1_similarity_2 0 rfl rfl)
theorem dX1_similarity_48 : decode cX1_similarity 48 = .ok (.dreturn, 1) := dk_175 (dk_at dksX1_similarity_2 1 rfl rfl)
abbrev cX1_diff : ByteArray := prog_1_method_44_code
def yX1_diff : MethodName := ⟨RX1, "diff", "(II)I"⟩
def dkwX1_diff_1 : List UInt8 := [182, 0, 200, 183, 1, 19, 181, 1, 15, 42, 180, 1, 15, 180, 0, 115, 185, 0, 157, 1, 0, 172]
abbrev dktX1_diff_1 : List UInt8 := dkwX1_diff_1 ++ []
def dkwX1_diff_0 : List UInt8 := [42, 27, 182, 0, 60, 78, 42, 28, 182, 0, 60, 58, 4, 42, 187, 0, 116, 89, 45, 182, 0, 200, 25, 4]
abbrev dktX1_diff_0 : List UInt8 := dkwX1_diff_0 ++ dktX1_diff_1
theorem dksX1_diff_0 : cX1_diff.data.toList.drop 0 = dktX1_diff_0 := by decide +kernel
theorem dksX1_diff_1 : cX1_diff.data.toList.drop 24 = dktX1_diff_1 := dk_seg dksX1_diff_0 24 rfl rfl
theorem dX1_diff_0 : decode cX1_diff 0 = .ok (.aload_n 0, 1) := dk_42 (dk_at dksX1_diff_0 0 rfl rfl)
theorem dX1_diff_1 : decode cX1_diff 1 = .ok (.iload_n 1, 1) := dk_27 (dk_at dksX1_diff_0 1 rfl rfl)
theorem dX1_diff_2 : decode cX1_diff 2 = .ok (.invokevirtual 60, 3) := dk_182 0 60 (dk_at dksX1_diff_0 2 rfl rfl)
theorem dX1_diff_5 : decode cX1_diff 5 = .ok (.astore_n 3, 1) := dk_78 (dk_at dksX1_diff_0 5 rfl rfl)
theorem dX1_diff_6 : decode cX1_diff 6 = .ok (.aload_n 0, 1) := dk_42 (dk_at dksX1_diff_0 6 rfl rfl)
theorem dX1_diff_7 : decode cX1_diff 7 = .ok (.iload_n 2, 1) := dk_28 (dk_at dksX1_diff_0 7 rfl rfl)
theorem dX1_diff_8 : decode cX1_diff 8 = .ok (.invokevirtual 60, 3) := dk_182 0 60 (dk_at dksX1_diff_0 8 rfl rfl)
theorem dX1_diff_11 : decode cX1_diff 11 = .ok (.astore 4, 2) := dk_58 4 (dk_at dksX1_diff_0 11 rfl rfl)
theorem dX1_diff_13 : decode cX1_diff 13 = .ok (.aload_n 0, 1) := dk_42 (dk_at dksX1_diff_0 13 rfl rfl)
theorem dX1_diff_14 : decode cX1_diff 14 = .ok (.new 116, 3) := dk_187 0 116 (dk_at dksX1_diff_0 14 rfl rfl)
theorem dX1_diff_17 : decode cX1_diff 17 = .ok (.dup, 1) := dk_89 (dk_at dksX1_diff_0 17 rfl rfl)
theorem dX1_diff_18 : decode cX1_diff 18 = .ok (.aload_n 3, 1) := dk_45 (dk_at dksX1_diff_0 18 rfl rfl)
theorem dX1_diff_19 : decode cX1_diff 19 = .ok (.invokevirtual 200, 3) := dk_182 0 200 (dk_at dksX1_diff_0 19 rfl rfl)
theorem dX1_diff_22 : decode cX1_diff 22 = .ok (.aload 4, 2) := dk_25 4 (dk_at dksX1_diff_0 22 rfl rfl)
theorem dX1_diff_24 : decode cX1_diff 24 = .ok (.invokevirtual 200, 3) := dk_182 0 200 (dk_at dksX1_diff_1 0 rfl rfl)
theorem dX1_diff_27 : decode cX1_diff 27 = .ok (.invokespecial 275, 3) := dk_183 1 19 (dk_at dksX1_diff_1 3 rfl rfl)
theorem dX1_diff_30 : decode cX1_diff 30 = .ok (.putfield 271, 3) := dk_181 1 15 (dk_at dksX1_diff_1 6 rfl rfl)
theorem dX1_diff_33 : decode cX1_diff 33 = .ok (.aload_n 0, 1) := dk_42 (dk_at dksX1_diff_1 9 rfl rfl)
theorem dX1_diff_34 : decode cX1_diff 34 = .ok (.getfield 271, 3) := dk_180 1 15 (dk_at dksX1_diff_1 10 rfl rfl)
theorem dX1_diff_37 : decode cX1_diff 37 = .ok (.getfield 115, 3) := dk_180 0 115 (dk_at dksX1_diff_1 13 rfl rfl)
theorem dX1_diff_40 : decode cX1_diff 40 = .ok (.invokeinterface 157 1, 5) := by decide +kernel
theorem dX1_diff_45 : decode cX1_diff 45 = .ok (.ireturn, 1) := dk_172 (dk_at dksX1_diff_1 21 rfl rfl)
abbrev cX1_operations : ByteArray := prog_1_method_45_code
def yX1_operations : MethodName := ⟨RX1, "operations", "()I"⟩
def dkwX1_operations_0 : List UInt8 := [42, 182, 0, 111, 180, 0, 115, 185, 0, 157, 1, 0, 172]
abbrev dktX1_operations_0 : List UInt8 := dkwX1_operations_0 ++ []
theorem dksX1_operations_0 : cX1_operations.data.toList.drop 0 = dktX1_operations_0 := by decide +kernel
theorem dX1_operations_0 : decode cX1_operations 0 = .ok (.aload_n 0, 1) := dk_42 (dk_at dksX1_operations_0 0 rfl rfl)
theorem dX1_operations_1 : decode cX1_operations 1 = .ok (.invokevirtual 111, 3) := dk_182 0 111 (dk_at dksX1_operations_0 1 rfl rfl)
theorem dX1_operations_4 : decode cX1_operations 4 = .ok (.getfield 115, 3) := dk_180 0 115 (dk_at dksX1_operations_0 4 rfl rfl)
theorem dX1_operations_7 : decode cX1_operations 7 = .ok (.invokeinterface 157 1, 5) := by decide +kernel
theorem dX1_operations_12 : decode cX1_operations 12 = .ok (.ireturn, 1) := dk_172 (dk_at dksX1_operations_0 12 rfl rfl)
abbrev cX1_opKind : ByteArray := prog_1_method_46_code
def yX1_opKind : MethodName := ⟨RX1, "opKind", "(I)C"⟩
def dkwX1_opKind_0 : List UInt8 := [42, 27, 182, 1, 22, 180, 0, 139, 172]
abbrev dktX1_opKind_0 : List UInt8 := dkwX1_opKind_0 ++ []
theorem dksX1_opKind_0 : cX1_opKind.data.toList.drop 0 = dktX1_opKind_0 := by decide +kernel
theorem dX1_opKind_0 : decode cX1_opKind 0 = .ok (.aload_n 0, 1) := dk_42 (dk_at dksX1_opKind_0 0 rfl rfl)
theorem dX1_opKind_1 : decode cX1_opKind 1 = .ok (.iload_n 1, 1) := dk_27 (dk_at dksX1_opKind_0 1 rfl rfl)
theorem dX1_opKind_2 : decode cX1_opKind 2 = .ok (.invokevirtual 278, 3) := dk_182 1 22 (dk_at dksX1_opKind_0 2 rfl rfl)
theorem dX1_opKind_5 : decode cX1_opKind 5 = .ok (.getfield 139, 3) := dk_180 0 139 (dk_at dksX1_opKind_0 5 rfl rfl)
theorem dX1_opKind_8 : decode cX1_opKind 8 = .ok (.ireturn, 1) := dk_172 (dk_at dksX1_opKind_0 8 rfl rfl)
abbrev cX1_operationOf : ByteArray := prog_1_method_43_code
def yX1_operationOf : MethodName := ⟨RX1, "operationOf", "(I)LTreeDiffer$Operation;"⟩
def dkwX1_operationOf_1 : List UInt8 := [44, 180, 0, 115, 27, 185, 0, 226, 2, 0, 192, 0, 137, 176]
abbrev dktX1_operationOf_1 : List UInt8 := dkwX1_operationOf_1 ++ []
def dkwX1_operationOf_0 : List UInt8 := [42, 182, 0, 111, 77, 27, 3, 44, 180, 0, 115, 185, 0, 157, 1, 0, 4, 100, 184, 0, 52, 184, 0, 56]
abbrev dktX1_operationOf_0 : List UInt8 := dkwX1_operationOf_0 ++ dktX1_operationOf_1
theorem dksX1_operationOf_0 : cX1_operationOf.data.toList.drop 0 = dktX1_operationOf_0 := by decide +kernel
theorem dksX1_operationOf_1 : cX1_operationOf.data.toList.drop 24 = dktX1_operationOf_1 := dk_seg dksX1_operationOf_0 24 rfl rfl
theorem dX1_operationOf_0 : decode cX1_operationOf 0 = .ok (.aload_n 0, 1) := dk_42 (dk_at dksX1_operationOf_0 0 rfl rfl)
theorem dX1_operationOf_1 : decode cX1_operationOf 1 = .ok (.invokevirtual 111, 3) := dk_182 0 111 (dk_at dksX1_operationOf_0 1 rfl rfl)
theorem dX1_operationOf_4 : decode cX1_operationOf 4 = .ok (.astore_n 2, 1) := dk_77 (dk_at dksX1_operationOf_0 4 rfl rfl)
theorem dX1_operationOf_5 : decode cX1_operationOf 5 = .ok (.iload_n 1, 1) := dk_27 (dk_at dksX1_operationOf_0 5 rfl rfl)
theorem dX1_operationOf_6 : decode cX1_operationOf 6 = .ok (.iconst 0, 1) := dk_3 (dk_at dksX1_operationOf_0 6 rfl rfl)
theorem dX1_operationOf_7 : decode cX1_operationOf 7 = .ok (.aload_n 2, 1) := dk_44 (dk_at dksX1_operationOf_0 7 rfl rfl)
theorem dX1_operationOf_8 : decode cX1_operationOf 8 = .ok (.getfield 115, 3) := dk_180 0 115 (dk_at dksX1_operationOf_0 8 rfl rfl)
theorem dX1_operationOf_11 : decode cX1_operationOf 11 = .ok (.invokeinterface 157 1, 5) := by decide +kernel
theorem dX1_operationOf_16 : decode cX1_operationOf 16 = .ok (.iconst 1, 1) := dk_4 (dk_at dksX1_operationOf_0 16 rfl rfl)
theorem dX1_operationOf_17 : decode cX1_operationOf 17 = .ok (.isub, 1) := dk_100 (dk_at dksX1_operationOf_0 17 rfl rfl)
theorem dX1_operationOf_18 : decode cX1_operationOf 18 = .ok (.invokestatic 52, 3) := dk_184 0 52 (dk_at dksX1_operationOf_0 18 rfl rfl)
theorem dX1_operationOf_21 : decode cX1_operationOf 21 = .ok (.invokestatic 56, 3) := dk_184 0 56 (dk_at dksX1_operationOf_0 21 rfl rfl)
theorem dX1_operationOf_24 : decode cX1_operationOf 24 = .ok (.aload_n 2, 1) := dk_44 (dk_at dksX1_operationOf_1 0 rfl rfl)
theorem dX1_operationOf_25 : decode cX1_operationOf 25 = .ok (.getfield 115, 3) := dk_180 0 115 (dk_at dksX1_operationOf_1 1 rfl rfl)
theorem dX1_operationOf_28 : decode cX1_operationOf 28 = .ok (.iload_n 1, 1) := dk_27 (dk_at dksX1_operationOf_1 4 rfl rfl)
theorem dX1_operationOf_29 : decode cX1_operationOf 29 = .ok (.invokeinterface 226 2, 5) := by decide +kernel
theorem dX1_operationOf_34 : decode cX1_operationOf 34 = .ok (.checkcast 137, 3) := dk_192 0 137 (dk_at dksX1_operationOf_1 10 rfl rfl)
theorem dX1_operationOf_37 : decode cX1_operationOf 37 = .ok (.areturn, 1) := dk_176 (dk_at dksX1_operationOf_1 13 rfl rfl)
abbrev cX1_opNode : ByteArray := prog_1_method_47_code
def yX1_opNode : MethodName := ⟨RX1, "opNode", "(I)I"⟩
def dkwX1_opNode_0 : List UInt8 := [42, 27, 182, 1, 22, 77, 42, 180, 1, 15, 44, 182, 0, 143, 172]
abbrev dktX1_opNode_0 : List UInt8 := dkwX1_opNode_0 ++ []
theorem dksX1_opNode_0 : cX1_opNode.data.toList.drop 0 = dktX1_opNode_0 := by decide +kernel
theorem dX1_opNode_0 : decode cX1_opNode 0 = .ok (.aload_n 0, 1) := dk_42 (dk_at dksX1_opNode_0 0 rfl rfl)
theorem dX1_opNode_1 : decode cX1_opNode 1 = .ok (.iload_n 1, 1) := dk_27 (dk_at dksX1_opNode_0 1 rfl rfl)
theorem dX1_opNode_2 : decode cX1_opNode 2 = .ok (.invokevirtual 278, 3) := dk_182 1 22 (dk_at dksX1_opNode_0 2 rfl rfl)
theorem dX1_opNode_5 : decode cX1_opNode 5 = .ok (.astore_n 2, 1) := dk_77 (dk_at dksX1_opNode_0 5 rfl rfl)
theorem dX1_opNode_6 : decode cX1_opNode 6 = .ok (.aload_n 0, 1) := dk_42 (dk_at dksX1_opNode_0 6 rfl rfl)
theorem dX1_opNode_7 : decode cX1_opNode 7 = .ok (.getfield 271, 3) := dk_180 1 15 (dk_at dksX1_opNode_0 7 rfl rfl)
theorem dX1_opNode_10 : decode cX1_opNode 10 = .ok (.aload_n 2, 1) := dk_44 (dk_at dksX1_opNode_0 10 rfl rfl)
theorem dX1_opNode_11 : decode cX1_opNode 11 = .ok (.invokevirtual 143, 3) := dk_182 0 143 (dk_at dksX1_opNode_0 11 rfl rfl)
theorem dX1_opNode_14 : decode cX1_opNode 14 = .ok (.ireturn, 1) := dk_172 (dk_at dksX1_opNode_0 14 rfl rfl)
abbrev cX1_opTarget : ByteArray := prog_1_method_48_code
def yX1_opTarget : MethodName := ⟨RX1, "opTarget", "(I)I"⟩
def dkwX1_opTarget_1 : List UInt8 := [180, 1, 15, 180, 1, 29, 44, 182, 0, 169, 172]
abbrev dktX1_opTarget_1 : List UInt8 := dkwX1_opTarget_1 ++ []
def dkwX1_opTarget_0 : List UInt8 := [42, 27, 182, 1, 22, 180, 1, 26, 77, 44, 198, 0, 7, 4, 167, 0, 4, 3, 184, 0, 104, 42]
abbrev dktX1_opTarget_0 : List UInt8 := dkwX1_opTarget_0 ++ dktX1_opTarget_1
theorem dksX1_opTarget_0 : cX1_opTarget.data.toList.drop 0 = dktX1_opTarget_0 := by decide +kernel
theorem dksX1_opTarget_1 : cX1_opTarget.data.toList.drop 22 = dktX1_opTarget_1 := dk_seg dksX1_opTarget_0 22 rfl rfl
theorem dX1_opTarget_0 : decode cX1_opTarget 0 = .ok (.aload_n 0, 1) := dk_42 (dk_at dksX1_opTarget_0 0 rfl rfl)
theorem dX1_opTarget_1 : decode cX1_opTarget 1 = .ok (.iload_n 1, 1) := dk_27 (dk_at dksX1_opTarget_0 1 rfl rfl)
theorem dX1_opTarget_2 : decode cX1_opTarget 2 = .ok (.invokevirtual 278, 3) := dk_182 1 22 (dk_at dksX1_opTarget_0 2 rfl rfl)
theorem dX1_opTarget_5 : decode cX1_opTarget 5 = .ok (.getfield 282, 3) := dk_180 1 26 (dk_at dksX1_opTarget_0 5 rfl rfl)
theorem dX1_opTarget_8 : decode cX1_opTarget 8 = .ok (.astore_n 2, 1) := dk_77 (dk_at dksX1_opTarget_0 8 rfl rfl)
theorem dX1_opTarget_9 : decode cX1_opTarget 9 = .ok (.aload_n 2, 1) := dk_44 (dk_at dksX1_opTarget_0 9 rfl rfl)
theorem dX1_opTarget_10 : decode cX1_opTarget 10 = .ok (.ifnull 7, 3) := dk_198 0 7 (dk_at dksX1_opTarget_0 10 rfl rfl)
theorem dX1_opTarget_13 : decode cX1_opTarget 13 = .ok (.iconst 1, 1) := dk_4 (dk_at dksX1_opTarget_0 13 rfl rfl)
theorem dX1_opTarget_14 : decode cX1_opTarget 14 = .ok (.goto 4, 3) := dk_167 0 4 (dk_at dksX1_opTarget_0 14 rfl rfl)
theorem dX1_opTarget_17 : decode cX1_opTarget 17 = .ok (.iconst 0, 1) := dk_3 (dk_at dksX1_opTarget_0 17 rfl rfl)
theorem dX1_opTarget_18 : decode cX1_opTarget 18 = .ok (.invokestatic 104, 3) := dk_184 0 104 (dk_at dksX1_opTarget_0 18 rfl rfl)
theorem dX1_opTarget_21 : decode cX1_opTarget 21 = .ok (.aload_n 0, 1) := dk_42 (dk_at dksX1_opTarget_0 21 rfl rfl)
theorem dX1_opTarget_22 : decode cX1_opTarget 22 = .ok (.getfield 271, 3) := dk_180 1 15 (dk_at dksX1_opTarget_1 0 rfl rfl)
theorem dX1_opTarget_25 : decode cX1_opTarget 25 = .ok (.getfield 285, 3) := dk_180 1 29 (dk_at dksX1_opTarget_1 3 rfl rfl)
theorem dX1_opTarget_28 : decode cX1_opTarget 28 = .ok (.aload_n 2, 1) := dk_44 (dk_at dksX1_opTarget_1 6 rfl rfl)
theorem dX1_opTarget_29 : decode cX1_opTarget 29 = .ok (.invokevirtual 169, 3) := dk_182 0 169 (dk_at dksX1_opTarget_1 7 rfl rfl)
theorem dX1_opTarget_32 : decode cX1_opTarget 32 = .ok (.ireturn, 1) := dk_172 (dk_at dksX1_opTarget_1 10 rfl rfl)
abbrev cX1_partner : ByteArray := prog_1_method_49_code
def yX1_partner : MethodName := ⟨RX1, "partner", "(I)I"⟩
def dkwX1_partner_1 : List UInt8 := [184, 0, 104, 42, 180, 1, 15, 180, 1, 29, 44, 182, 0, 169, 172]
abbrev dktX1_partner_1 : List UInt8 := dkwX1_partner_1 ++ []
def dkwX1_partner_0 : List UInt8 := [42, 182, 0, 111, 180, 1, 33, 27, 182, 0, 64, 180, 1, 36, 77, 44, 198, 0, 7, 4, 167, 0, 4, 3]
abbrev dktX1_partner_0 : List UInt8 := dkwX1_partner_0 ++ dktX1_partner_1
theorem dksX1_partner_0 : cX1_partner.data.toList.drop 0 = dktX1_partner_0 := by decide +kernel
theorem dksX1_partner_1 : cX1_partner.data.toList.drop 24 = dktX1_partner_1 := dk_seg dksX1_partner_0 24 rfl rfl
theorem dX1_partner_0 : decode cX1_partner 0 = .ok (.aload_n 0, 1) := dk_42 (dk_at dksX1_partner_0 0 rfl rfl)
theorem dX1_partner_1 : decode cX1_partner 1 = .ok (.invokevirtual 111, 3) := dk_182 0 111 (dk_at dksX1_partner_0 1 rfl rfl)
theorem dX1_partner_4 : decode cX1_partner 4 = .ok (.getfield 289, 3) := dk_180 1 33 (dk_at dksX1_partner_0 4 rfl rfl)
theorem dX1_partner_7 : decode cX1_partner 7 = .ok (.iload_n 1, 1) := dk_27 (dk_at dksX1_partner_0 7 rfl rfl)
theorem dX1_partner_8 : decode cX1_partner 8 = .ok (.invokevirtual 64, 3) := dk_182 0 64 (dk_at dksX1_partner_0 8 rfl rfl)
theorem dX1_partner_11 : decode cX1_partner 11 = .ok (.getfield 292, 3) := dk_180 1 36 (dk_at dksX1_partner_0 11 rfl rfl)
theorem dX1_partner_14 : decode cX1_partner 14 = .ok (.astore_n 2, 1) := dk_77 (dk_at dksX1_partner_0 14 rfl rfl)
theorem dX1_partner_15 : decode cX1_partner 15 = .ok (.aload_n 2, 1) := dk_44 (dk_at dksX1_partner_0 15 rfl rfl)
theorem dX1_partner_16 : decode cX1_partner 16 = .ok (.ifnull 7, 3) := dk_198 0 7 (dk_at dksX1_partner_0 16 rfl rfl)
theorem dX1_partner_19 : decode cX1_partner 19 = .ok (.iconst 1, 1) := dk_4 (dk_at dksX1_partner_0 19 rfl rfl)
theorem dX1_partner_20 : decode cX1_partner 20 = .ok (.goto 4, 3) := dk_167 0 4 (dk_at dksX1_partner_0 20 rfl rfl)
theorem dX1_partner_23 : decode cX1_partner 23 = .ok (.iconst 0, 1) := dk_3 (dk_at dksX1_partner_0 23 rfl rfl)
theorem dX1_partner_24 : decode cX1_partner 24 = .ok (.invokestatic 104, 3) := dk_184 0 104 (dk_at dksX1_partner_1 0 rfl rfl)
theorem dX1_partner_27 : decode cX1_partner 27 = .ok (.aload_n 0, 1) := dk_42 (dk_at dksX1_partner_1 3 rfl rfl)
theorem dX1_partner_28 : decode cX1_partner 28 = .ok (.getfield 271, 3) := dk_180 1 15 (dk_at dksX1_partner_1 4 rfl rfl)
theorem dX1_partner_31 : decode cX1_partner 31 = .ok (.getfield 285, 3) := dk_180 1 29 (dk_at dksX1_partner_1 7 rfl rfl)
theorem dX1_partner_34 : decode cX1_partner 34 = .ok (.aload_n 2, 1) := dk_44 (dk_at dksX1_partner_1 10 rfl rfl)
theorem dX1_partner_35 : decode cX1_partner 35 = .ok (.invokevirtual 169, 3) := dk_182 0 169 (dk_at dksX1_partner_1 11 rfl rfl)
theorem dX1_partner_38 : decode cX1_partner 38 = .ok (.ireturn, 1) := dk_172 (dk_at dksX1_partner_1 14 rfl rfl)
abbrev cX1_moves : ByteArray := prog_1_method_50_code
def yX1_moves : MethodName := ⟨RX1, "moves", "()I"⟩
def dkwX1_moves_2 : List UInt8 := [3, 96, 60, 167, 255, 220, 27, 172]
abbrev dktX1_moves_2 : List UInt8 := dkwX1_moves_2 ++ []
def dkwX1_moves_1 : List UInt8 := [44, 185, 0, 133, 1, 0, 192, 0, 137, 78, 27, 45, 180, 0, 139, 16, 109, 160, 0, 7, 4, 167, 0, 4]
abbrev dktX1_moves_1 : List UInt8 := dkwX1_moves_1 ++ dktX1_moves_2
def dkwX1_moves_0 : List UInt8 := [3, 60, 42, 182, 0, 111, 180, 0, 115, 185, 0, 121, 1, 0, 77, 44, 185, 0, 127, 1, 0, 153, 0, 33]
abbrev dktX1_moves_0 : List UInt8 := dkwX1_moves_0 ++ dktX1_moves_1
theorem dksX1_moves_0 : cX1_moves.data.toList.drop 0 = dktX1_moves_0 := by decide +kernel
theorem dksX1_moves_1 : cX1_moves.data.toList.drop 24 = dktX1_moves_1 := dk_seg dksX1_moves_0 24 rfl rfl
theorem dksX1_moves_2 : cX1_moves.data.toList.drop 48 = dktX1_moves_2 := dk_seg dksX1_moves_1 24 rfl rfl
theorem dX1_moves_0 : decode cX1_moves 0 = .ok (.iconst 0, 1) := dk_3 (dk_at dksX1_moves_0 0 rfl rfl)
theorem dX1_moves_1 : decode cX1_moves 1 = .ok (.istore_n 1, 1) := dk_60 (dk_at dksX1_moves_0 1 rfl rfl)
theorem dX1_moves_2 : decode cX1_moves 2 = .ok (.aload_n 0, 1) := dk_42 (dk_at dksX1_moves_0 2 rfl rfl)
theorem dX1_moves_3 : decode cX1_moves 3 = .ok (.invokevirtual 111, 3) := dk_182 0 111 (dk_at dksX1_moves_0 3 rfl rfl)
theorem dX1_moves_6 : decode cX1_moves 6 = .ok (.getfield 115, 3) := dk_180 0 115 (dk_at dksX1_moves_0 6 rfl rfl)
theorem dX1_moves_9 : decode cX1_moves 9 = .ok (.invokeinterface 121 1, 5) := by decide +kernel
theorem dX1_moves_14 : decode cX1_moves 14 = .ok (.astore_n 2, 1) := dk_77 (dk_at dksX1_moves_0 14 rfl rfl)
theorem dX1_moves_15 : decode cX1_moves 15 = .ok (.aload_n 2, 1) := dk_44 (dk_at dksX1_moves_0 15 rfl rfl)
theorem dX1_moves_16 : decode cX1_moves 16 = .ok (.invokeinterface 127 1, 5) := by decide +kernel
theorem dX1_moves_21 : decode cX1_moves 21 = .ok (.ifCond .eq 33, 3) := dk_153 0 33 (dk_at dksX1_moves_0 21 rfl rfl)
theorem dX1_moves_24 : decode cX1_moves 24 = .ok (.aload_n 2, 1) := dk_44 (dk_at dksX1_moves_1 0 rfl rfl)
theorem dX1_moves_25 : decode cX1_moves 25 = .ok (.invokeinterface 133 1, 5) := by decide +kernel
theorem dX1_moves_30 : decode cX1_moves 30 = .ok (.checkcast 137, 3) := dk_192 0 137 (dk_at dksX1_moves_1 6 rfl rfl)
theorem dX1_moves_33 : decode cX1_moves 33 = .ok (.astore_n 3, 1) := dk_78 (dk_at dksX1_moves_1 9 rfl rfl)
theorem dX1_moves_34 : decode cX1_moves 34 = .ok (.iload_n 1, 1) := dk_27 (dk_at dksX1_moves_1 10 rfl rfl)
theorem dX1_moves_35 : decode cX1_moves 35 = .ok (.aload_n 3, 1) := dk_45 (dk_at dksX1_moves_1 11 rfl rfl)
theorem dX1_moves_36 : decode cX1_moves 36 = .ok (.getfield 139, 3) := dk_180 0 139 (dk_at dksX1_moves_1 12 rfl rfl)
theorem dX1_moves_39 : decode cX1_moves 39 = .ok (.bipush 109, 2) := dk_16 109 (dk_at dksX1_moves_1 15 rfl rfl)
theorem dX1_moves_41 : decode cX1_moves 41 = .ok (.if_icmp .ne 7, 3) := dk_160 0 7 (dk_at dksX1_moves_1 17 rfl rfl)
theorem dX1_moves_44 : decode cX1_moves 44 = .ok (.iconst 1, 1) := dk_4 (dk_at dksX1_moves_1 20 rfl rfl)
theorem dX1_moves_45 : decode cX1_moves 45 = .ok (.goto 4, 3) := dk_167 0 4 (dk_at dksX1_moves_1 21 rfl rfl)
theorem dX1_moves_48 : decode cX1_moves 48 = .ok (.iconst 0, 1) := dk_3 (dk_at dksX1_moves_2 0 rfl rfl)
theorem dX1_moves_49 : decode cX1_moves 49 = .ok (.iadd, 1) := dk_96 (dk_at dksX1_moves_2 1 rfl rfl)
theorem dX1_moves_50 : decode cX1_moves 50 = .ok (.istore_n 1, 1) := dk_60 (dk_at dksX1_moves_2 2 rfl rfl)
theorem dX1_moves_51 : decode cX1_moves 51 = .ok (.goto (-36), 3) := dk_167 255 220 (dk_at dksX1_moves_2 3 rfl rfl)
theorem dX1_moves_54 : decode cX1_moves 54 = .ok (.iload_n 1, 1) := dk_27 (dk_at dksX1_moves_2 6 rfl rfl)
theorem dX1_moves_55 : decode cX1_moves 55 = .ok (.ireturn, 1) := dk_172 (dk_at dksX1_moves_2 7 rfl rfl)
abbrev cX1_scriptCost : ByteArray := prog_1_method_51_code
def yX1_scriptCost : MethodName := ⟨RX1, "scriptCost", "()I"⟩
def dkwX1_scriptCost_0 : List UInt8 := [42, 182, 0, 111, 182, 1, 39, 172]
abbrev dktX1_scriptCost_0 : List UInt8 := dkwX1_scriptCost_0 ++ []
theorem dksX1_scriptCost_0 : cX1_scriptCost.data.toList.drop 0 = dktX1_scriptCost_0 := by decide +kernel
theorem dX1_scriptCost_0 : decode cX1_scriptCost 0 = .ok (.aload_n 0, 1) := dk_42 (dk_at dksX1_scriptCost_0 0 rfl rfl)
theorem dX1_scriptCost_1 : decode cX1_scriptCost 1 = .ok (.invokevirtual 111, 3) := dk_182 0 111 (dk_at dksX1_scriptCost_0 1 rfl rfl)
theorem dX1_scriptCost_4 : decode cX1_scriptCost 4 = .ok (.invokevirtual 295, 3) := dk_182 1 39 (dk_at dksX1_scriptCost_0 4 rfl rfl)
theorem dX1_scriptCost_7 : decode cX1_scriptCost 7 = .ok (.ireturn, 1) := dk_172 (dk_at dksX1_scriptCost_0 7 rfl rfl)
abbrev cX1_givesTarget : ByteArray := prog_1_method_52_code
def yX1_givesTarget : MethodName := ⟨RX1, "givesTarget", "()Z"⟩
def dkwX1_givesTarget_0 : List UInt8 := [42, 182, 0, 111, 182, 1, 41, 172]
abbrev dktX1_givesTarget_0 : List UInt8 := dkwX1_givesTarget_0 ++ []
theorem dksX1_givesTarget_0 : cX1_givesTarget.data.toList.drop 0 = dktX1_givesTarget_0 := by decide +kernel
theorem dX1_givesTarget_0 : decode cX1_givesTarget 0 = .ok (.aload_n 0, 1) := dk_42 (dk_at dksX1_givesTarget_0 0 rfl rfl)
theorem dX1_givesTarget_1 : decode cX1_givesTarget 1 = .ok (.invokevirtual 111, 3) := dk_182 0 111 (dk_at dksX1_givesTarget_0 1 rfl rfl)
theorem dX1_givesTarget_4 : decode cX1_givesTarget 4 = .ok (.invokevirtual 297, 3) := dk_182 1 41 (dk_at dksX1_givesTarget_0 4 rfl rfl)
theorem dX1_givesTarget_7 : decode cX1_givesTarget 7 = .ok (.ireturn, 1) := dk_172 (dk_at dksX1_givesTarget_0 7 rfl rfl)
abbrev cX1_patch : ByteArray := prog_1_method_53_code
def yX1_patch : MethodName := ⟨RX1, "patch", "(I)I"⟩
def dkwX1_patch_2 : List UInt8 := [180, 0, 11, 27, 44, 83, 44, 180, 0, 97, 182, 0, 101, 172]
abbrev dktX1_patch_2 : List UInt8 := dkwX1_patch_2 ++ []
def dkwX1_patch_1 : List UInt8 := [182, 1, 49, 167, 0, 19, 58, 4, 42, 25, 4, 181, 1, 54, 187, 0, 49, 89, 183, 0, 51, 191, 42]
abbrev dktX1_patch_1 : List UInt8 := dkwX1_patch_1 ++ dktX1_patch_2
def dkwX1_patch_0 : List UInt8 := [42, 27, 182, 0, 60, 182, 0, 200, 77, 187, 1, 44, 89, 42, 182, 0, 111, 44, 183, 1, 46, 78, 45]
abbrev dktX1_patch_0 : List UInt8 := dkwX1_patch_0 ++ dktX1_patch_1
theorem dksX1_patch_0 : cX1_patch.data.toList.drop 0 = dktX1_patch_0 := by decide +kernel
theorem dksX1_patch_1 : cX1_patch.data.toList.drop 23 = dktX1_patch_1 := dk_seg dksX1_patch_0 23 rfl rfl
theorem dksX1_patch_2 : cX1_patch.data.toList.drop 46 = dktX1_patch_2 := dk_seg dksX1_patch_1 23 rfl rfl
theorem dX1_patch_0 : decode cX1_patch 0 = .ok (.aload_n 0, 1) := dk_42 (dk_at dksX1_patch_0 0 rfl rfl)
theorem dX1_patch_1 : decode cX1_patch 1 = .ok (.iload_n 1, 1) := dk_27 (dk_at dksX1_patch_0 1 rfl rfl)
theorem dX1_patch_2 : decode cX1_patch 2 = .ok (.invokevirtual 60, 3) := dk_182 0 60 (dk_at dksX1_patch_0 2 rfl rfl)
theorem dX1_patch_5 : decode cX1_patch 5 = .ok (.invokevirtual 200, 3) := dk_182 0 200 (dk_at dksX1_patch_0 5 rfl rfl)
theorem dX1_patch_8 : decode cX1_patch 8 = .ok (.astore_n 2, 1) := dk_77 (dk_at dksX1_patch_0 8 rfl rfl)
theorem dX1_patch_9 : decode cX1_patch 9 = .ok (.new 300, 3) := dk_187 1 44 (dk_at dksX1_patch_0 9 rfl rfl)
theorem dX1_patch_12 : decode cX1_patch 12 = .ok (.dup, 1) := dk_89 (dk_at dksX1_patch_0 12 rfl rfl)
theorem dX1_patch_13 : decode cX1_patch 13 = .ok (.aload_n 0, 1) := dk_42 (dk_at dksX1_patch_0 13 rfl rfl)
theorem dX1_patch_14 : decode cX1_patch 14 = .ok (.invokevirtual 111, 3) := dk_182 0 111 (dk_at dksX1_patch_0 14 rfl rfl)
theorem dX1_patch_17 : decode cX1_patch 17 = .ok (.aload_n 2, 1) := dk_44 (dk_at dksX1_patch_0 17 rfl rfl)
theorem dX1_patch_18 : decode cX1_patch 18 = .ok (.invokespecial 302, 3) := dk_183 1 46 (dk_at dksX1_patch_0 18 rfl rfl)
theorem dX1_patch_21 : decode cX1_patch 21 = .ok (.astore_n 3, 1) := dk_78 (dk_at dksX1_patch_0 21 rfl rfl)
theorem dX1_patch_22 : decode cX1_patch 22 = .ok (.aload_n 3, 1) := dk_45 (dk_at dksX1_patch_0 22 rfl rfl)
theorem dX1_patch_23 : decode cX1_patch 23 = .ok (.invokevirtual 305, 3) := dk_182 1 49 (dk_at dksX1_patch_1 0 rfl rfl)
theorem dX1_patch_26 : decode cX1_patch 26 = .ok (.goto 19, 3) := dk_167 0 19 (dk_at dksX1_patch_1 3 rfl rfl)
theorem dX1_patch_29 : decode cX1_patch 29 = .ok (.astore 4, 2) := dk_58 4 (dk_at dksX1_patch_1 6 rfl rfl)
theorem dX1_patch_31 : decode cX1_patch 31 = .ok (.aload_n 0, 1) := dk_42 (dk_at dksX1_patch_1 8 rfl rfl)
theorem dX1_patch_32 : decode cX1_patch 32 = .ok (.aload 4, 2) := dk_25 4 (dk_at dksX1_patch_1 9 rfl rfl)
theorem dX1_patch_34 : decode cX1_patch 34 = .ok (.putfield 310, 3) := dk_181 1 54 (dk_at dksX1_patch_1 11 rfl rfl)
theorem dX1_patch_37 : decode cX1_patch 37 = .ok (.new 49, 3) := dk_187 0 49 (dk_at dksX1_patch_1 14 rfl rfl)
theorem dX1_patch_40 : decode cX1_patch 40 = .ok (.dup, 1) := dk_89 (dk_at dksX1_patch_1 17 rfl rfl)
theorem dX1_patch_41 : decode cX1_patch 41 = .ok (.invokespecial 51, 3) := dk_183 0 51 (dk_at dksX1_patch_1 18 rfl rfl)
theorem dX1_patch_44 : decode cX1_patch 44 = .ok (.athrow, 1) := dk_191 (dk_at dksX1_patch_1 21 rfl rfl)
theorem dX1_patch_45 : decode cX1_patch 45 = .ok (.aload_n 0, 1) := dk_42 (dk_at dksX1_patch_1 22 rfl rfl)
theorem dX1_patch_46 : decode cX1_patch 46 = .ok (.getfield 11, 3) := dk_180 0 11 (dk_at dksX1_patch_2 0 rfl rfl)
theorem dX1_patch_49 : decode cX1_patch 49 = .ok (.iload_n 1, 1) := dk_27 (dk_at dksX1_patch_2 3 rfl rfl)
theorem dX1_patch_50 : decode cX1_patch 50 = .ok (.aload_n 2, 1) := dk_44 (dk_at dksX1_patch_2 4 rfl rfl)
theorem dX1_patch_51 : decode cX1_patch 51 = .ok (.aastore, 1) := dk_83 (dk_at dksX1_patch_2 5 rfl rfl)
theorem dX1_patch_52 : decode cX1_patch 52 = .ok (.aload_n 2, 1) := dk_44 (dk_at dksX1_patch_2 6 rfl rfl)
theorem dX1_patch_53 : decode cX1_patch 53 = .ok (.getfield 97, 3) := dk_180 0 97 (dk_at dksX1_patch_2 7 rfl rfl)
theorem dX1_patch_56 : decode cX1_patch 56 = .ok (.invokevirtual 101, 3) := dk_182 0 101 (dk_at dksX1_patch_2 10 rfl rfl)
theorem dX1_patch_59 : decode cX1_patch 59 = .ok (.ireturn, 1) := dk_172 (dk_at dksX1_patch_2 13 rfl rfl)
abbrev cX1_conflictOperation : ByteArray := prog_1_method_54_code
def yX1_conflictOperation : MethodName := ⟨RX1, "conflictOperation", "()I"⟩
def dkwX1_conflictOperation_0 : List UInt8 := [42, 180, 1, 54, 198, 0, 7, 4, 167, 0, 4, 3, 184, 0, 104, 42, 180, 1, 54, 180, 1, 58, 172]
abbrev dktX1_conflictOperation_0 : List UInt8 := dkwX1_conflictOperation_0 ++ []
theorem dksX1_conflictOperation_0 : cX1_conflictOperation.data.toList.drop 0 = dktX1_conflictOperation_0 := by decide +kernel
theorem dX1_conflictOperation_0 : decode cX1_conflictOperation 0 = .ok (.aload_n 0, 1) := dk_42 (dk_at dksX1_conflictOperation_0 0 rfl rfl)
theorem dX1_conflictOperation_1 : decode cX1_conflictOperation 1 = .ok (.getfield 310, 3) := dk_180 1 54 (dk_at dksX1_conflictOperation_0 1 rfl rfl)
theorem dX1_conflictOperation_4 : decode cX1_conflictOperation 4 = .ok (.ifnull 7, 3) := dk_198 0 7 (dk_at dksX1_conflictOperation_0 4 rfl rfl)
theorem dX1_conflictOperation_7 : decode cX1_conflictOperation 7 = .ok (.iconst 1, 1) := dk_4 (dk_at dksX1_conflictOperation_0 7 rfl rfl)
theorem dX1_conflictOperation_8 : decode cX1_conflictOperation 8 = .ok (.goto 4, 3) := dk_167 0 4 (dk_at dksX1_conflictOperation_0 8 rfl rfl)
theorem dX1_conflictOperation_11 : decode cX1_conflictOperation 11 = .ok (.iconst 0, 1) := dk_3 (dk_at dksX1_conflictOperation_0 11 rfl rfl)
theorem dX1_conflictOperation_12 : decode cX1_conflictOperation 12 = .ok (.invokestatic 104, 3) := dk_184 0 104 (dk_at dksX1_conflictOperation_0 12 rfl rfl)
theorem dX1_conflictOperation_15 : decode cX1_conflictOperation 15 = .ok (.aload_n 0, 1) := dk_42 (dk_at dksX1_conflictOperation_0 15 rfl rfl)
theorem dX1_conflictOperation_16 : decode cX1_conflictOperation 16 = .ok (.getfield 310, 3) := dk_180 1 54 (dk_at dksX1_conflictOperation_0 16 rfl rfl)
theorem dX1_conflictOperation_19 : decode cX1_conflictOperation 19 = .ok (.getfield 314, 3) := dk_180 1 58 (dk_at dksX1_conflictOperation_0 19 rfl rfl)
theorem dX1_conflictOperation_22 : decode cX1_conflictOperation 22 = .ok (.ireturn, 1) := dk_172 (dk_at dksX1_conflictOperation_0 22 rfl rfl)
abbrev cX1_conflictReason : ByteArray := prog_1_method_55_code
def yX1_conflictReason : MethodName := ⟨RX1, "conflictReason", "()C"⟩
def dkwX1_conflictReason_0 : List UInt8 := [42, 180, 1, 54, 198, 0, 7, 4, 167, 0, 4, 3, 184, 0, 104, 42, 180, 1, 54, 182, 1, 61, 172]
abbrev dktX1_conflictReason_0 : List UInt8 := dkwX1_conflictReason_0 ++ []
theorem dksX1_conflictReason_0 : cX1_conflictReason.data.toList.drop 0 = dktX1_conflictReason_0 := by decide +kernel
theorem dX1_conflictReason_0 : decode cX1_conflictReason 0 = .ok (.aload_n 0, 1) := dk_42 (dk_at dksX1_conflictReason_0 0 rfl rfl)
theorem dX1_conflictReason_1 : decode cX1_conflictReason 1 = .ok (.getfield 310, 3) := dk_180 1 54 (dk_at dksX1_conflictReason_0 1 rfl rfl)
theorem dX1_conflictReason_4 : decode cX1_conflictReason 4 = .ok (.ifnull 7, 3) := dk_198 0 7 (dk_at dksX1_conflictReason_0 4 rfl rfl)
theorem dX1_conflictReason_7 : decode cX1_conflictReason 7 = .ok (.iconst 1, 1) := dk_4 (dk_at dksX1_conflictReason_0 7 rfl rfl)
theorem dX1_conflictReason_8 : decode cX1_conflictReason 8 = .ok (.goto 4, 3) := dk_167 0 4 (dk_at dksX1_conflictReason_0 8 rfl rfl)
theorem dX1_conflictReason_11 : decode cX1_conflictReason 11 = .ok (.iconst 0, 1) := dk_3 (dk_at dksX1_conflictReason_0 11 rfl rfl)
theorem dX1_conflictReason_12 : decode cX1_conflictReason 12 = .ok (.invokestatic 104, 3) := dk_184 0 104 (dk_at dksX1_conflictReason_0 12 rfl rfl)
theorem dX1_conflictReason_15 : decode cX1_conflictReason 15 = .ok (.aload_n 0, 1) := dk_42 (dk_at dksX1_conflictReason_0 15 rfl rfl)
theorem dX1_conflictReason_16 : decode cX1_conflictReason 16 = .ok (.getfield 310, 3) := dk_180 1 54 (dk_at dksX1_conflictReason_0 16 rfl rfl)
theorem dX1_conflictReason_19 : decode cX1_conflictReason 19 = .ok (.invokevirtual 317, 3) := dk_182 1 61 (dk_at dksX1_conflictReason_0 19 rfl rfl)
theorem dX1_conflictReason_22 : decode cX1_conflictReason 22 = .ok (.ireturn, 1) := dk_172 (dk_at dksX1_conflictReason_0 22 rfl rfl)
theorem q64 : (Jvm.Cond.initialized "TreeDiffer") ∈ lw_all := lw_g (lw_at lw_m1 1 rfl) rfl
theorem q114 : (Jvm.Cond.instantiable "TreeDiffer" (6 : Nat)) ∈ lw_all := lw_g (lw_at lw_m1 51 rfl) rfl
theorem q116 : (Jvm.Cond.instanceMethod ({ cls := "TreeDiffer", name := "<init>", desc := "()V" } : Jvm.MethodName)) ∈ lw_all := lw_g (lw_at lw_m1 53 rfl) rfl
theorem q117 : (Jvm.Cond.code ({ cls := "TreeDiffer", name := "<init>", desc := "()V" } : Jvm.MethodName) prog_1_method_1_code (2 : Nat) (Option.none : Option Jvm.ClassFile.FieldType)) ∈ lw_all := lw_g (lw_at lw_m1 54 rfl) rfl
theorem q118 : (Jvm.Cond.methodLink "TreeDiffer" (1 : Nat) ({ cls := "java/lang/Object", name := "<init>", desc := "()V" } : Jvm.MethodName)) ∈ lw_all := lw_g (lw_at lw_m1 55 rfl) rfl
theorem q121 : (Jvm.Cond.classLink "TreeDiffer" (9 : Nat) "TreeDiffer$Tree") ∈ lw_all := lw_g (lw_at lw_m1 58 rfl) rfl
theorem q123 : (Jvm.Cond.classLink "TreeDiffer" (15 : Nat) "java/lang/StringBuilder") ∈ lw_all := lw_g (lw_at lw_m1 60 rfl) rfl
theorem q125 : (Jvm.Cond.methodLink "TreeDiffer" (17 : Nat) ({ cls := "java/lang/StringBuilder", name := "<init>", desc := "()V" } : Jvm.MethodName)) ∈ lw_all := lw_g (lw_at lw_m1 62 rfl) rfl
theorem q157 : (Jvm.Cond.classLink "TreeDiffer" (29 : Nat) "TreeDiffer$Node") ∈ lw_all := lw_g (lw_at lw_m1 94 rfl) rfl
theorem q159 : (Jvm.Cond.methodLink "TreeDiffer" (31 : Nat) ({ cls := "TreeDiffer$Node", name := "<init>", desc := "(C)V" } : Jvm.MethodName)) ∈ lw_all := lw_g (lw_at lw_m1 96 rfl) rfl
theorem q195 : (Jvm.Cond.fieldLinkNest "TreeDiffer" (179 : Nat) "TreeDiffer$Node" "label" "C" "TreeDiffer") ∈ lw_tbl := lw_at lw_m1 132 rfl
theorem q200 : (Jvm.Cond.fieldLinkNest "TreeDiffer" (190 : Nat) "TreeDiffer$Node" "key" "I" "TreeDiffer") ∈ lw_tbl := lw_at lw_m1 137 rfl
theorem q205 : (Jvm.Cond.fieldLinkNest "TreeDiffer" (197 : Nat) "TreeDiffer$Node" "value" "I" "TreeDiffer") ∈ lw_tbl := lw_at lw_m1 142 rfl
theorem q208 : (Jvm.Cond.fieldLinkNest "TreeDiffer" (187 : Nat) "TreeDiffer$Node" "parent" "LTreeDiffer$Node;" "TreeDiffer") ∈ lw_tbl := lw_at lw_m1 145 rfl
theorem q214 : (Jvm.Cond.fieldLinkNest "TreeDiffer" (154 : Nat) "TreeDiffer$Node" "children" "Ljava/util/List;" "TreeDiffer") ∈ lw_tbl := lw_at lw_m1 151 rfl
theorem q217 : (Jvm.Cond.fieldLinkNest "TreeDiffer" (292 : Nat) "TreeDiffer$Node" "partner" "LTreeDiffer$Node;" "TreeDiffer") ∈ lw_tbl := lw_at lw_m1 154 rfl
theorem q235 : (Jvm.Cond.methodLink "TreeDiffer" (34 : Nat) ({ cls := "TreeDiffer$Tree", name := "<init>", desc := "(LTreeDiffer$Node;)V" } : Jvm.MethodName)) ∈ lw_all := lw_g (lw_at lw_m1 172 rfl) rfl
theorem q242 : (Jvm.Cond.fieldLinkNest "TreeDiffer" (97 : Nat) "TreeDiffer$Tree" "root" "LTreeDiffer$Node;" "TreeDiffer") ∈ lw_tbl := lw_at lw_m1 179 rfl
theorem q246 : (Jvm.Cond.fieldLink "TreeDiffer" (11 : Nat) "TreeDiffer" "trees" "[LTreeDiffer$Tree;") ∈ lw_all := lw_g (lw_at lw_m1 183 rfl) rfl
theorem q247 : (Jvm.Cond.fieldLink "TreeDiffer" (18 : Nat) "TreeDiffer" "text" "Ljava/lang/StringBuilder;") ∈ lw_all := lw_g (lw_at lw_m1 184 rfl) rfl
theorem q249 : (Jvm.Cond.fieldLink "TreeDiffer" (22 : Nat) "TreeDiffer" "line" "Ljava/lang/StringBuilder;") ∈ lw_all := lw_g (lw_at lw_m1 186 rfl) rfl
theorem q250 : (Jvm.Cond.fieldLink "TreeDiffer" (25 : Nat) "TreeDiffer" "errorPosition" "I") ∈ lw_all := lw_g (lw_at lw_m1 187 rfl) rfl
theorem q251 : (Jvm.Cond.fieldLink "TreeDiffer" (271 : Nat) "TreeDiffer" "script" "LTreeDiffer$Script;") ∈ lw_all := lw_g (lw_at lw_m1 188 rfl) rfl
theorem q252 : (Jvm.Cond.fieldLink "TreeDiffer" (310 : Nat) "TreeDiffer" "conflict" "LTreeDiffer$Conflict;") ∈ lw_all := lw_g (lw_at lw_m1 189 rfl) rfl
theorem q253 : (Jvm.Cond.laysFinal "TreeDiffer" "TreeDiffer" "trees" "[LTreeDiffer$Tree;") ∈ lw_all := lw_g (lw_at lw_m1 190 rfl) rfl
theorem q254 : (Jvm.Cond.soleField "TreeDiffer" "trees") ∈ lw_all := lw_g (lw_at lw_m1 191 rfl) rfl
theorem q255 : (Jvm.Cond.laysFinal "TreeDiffer" "TreeDiffer" "text" "Ljava/lang/StringBuilder;") ∈ lw_all := lw_g (lw_at lw_m1 192 rfl) rfl
theorem q256 : (Jvm.Cond.soleField "TreeDiffer" "text") ∈ lw_all := lw_g (lw_at lw_m1 193 rfl) rfl
theorem q257 : (Jvm.Cond.laysFinal "TreeDiffer" "TreeDiffer" "line" "Ljava/lang/StringBuilder;") ∈ lw_all := lw_g (lw_at lw_m1 194 rfl) rfl
theorem q258 : (Jvm.Cond.soleField "TreeDiffer" "line") ∈ lw_all := lw_g (lw_at lw_m1 195 rfl) rfl
theorem q259 : (Jvm.Cond.lays "TreeDiffer" "TreeDiffer" "errorPosition" "I") ∈ lw_all := lw_g (lw_at lw_m1 196 rfl) rfl
theorem q260 : (Jvm.Cond.soleField "TreeDiffer" "errorPosition") ∈ lw_all := lw_g (lw_at lw_m1 197 rfl) rfl
theorem q261 : (Jvm.Cond.lays "TreeDiffer" "TreeDiffer" "script" "LTreeDiffer$Script;") ∈ lw_all := lw_g (lw_at lw_m1 198 rfl) rfl
theorem q262 : (Jvm.Cond.soleField "TreeDiffer" "script") ∈ lw_all := lw_g (lw_at lw_m1 199 rfl) rfl
theorem q263 : (Jvm.Cond.lays "TreeDiffer" "TreeDiffer" "conflict" "LTreeDiffer$Conflict;") ∈ lw_all := lw_g (lw_at lw_m1 200 rfl) rfl
theorem q264 : (Jvm.Cond.soleField "TreeDiffer" "conflict") ∈ lw_all := lw_g (lw_at lw_m1 201 rfl) rfl
theorem q265 : (Jvm.Cond.superclass "TreeDiffer" "java/lang/Object") ∈ lw_all := lw_g (lw_at lw_m1 202 rfl) rfl
theorem q267 : (Jvm.Cond.instanceMethod ({ cls := "TreeDiffer", name := "isConsistent", desc := "()Z" } : Jvm.MethodName)) ∈ lw_all := lw_g (lw_at lw_m1 204 rfl) rfl
theorem q268 : (Jvm.Cond.selects "TreeDiffer" ({ cls := "TreeDiffer", name := "isConsistent", desc := "()Z" } : Jvm.MethodName) ({ cls := "TreeDiffer", name := "isConsistent", desc := "()Z" } : Jvm.MethodName)) ∈ lw_all := lw_g (lw_at lw_m1 205 rfl) rfl
theorem q269 : (Jvm.Cond.code ({ cls := "TreeDiffer", name := "isConsistent", desc := "()Z" } : Jvm.MethodName) prog_1_method_56_code (7 : Nat) (Option.some Jvm.ClassFile.FieldType.boolean)) ∈ lw_all := lw_g (lw_at lw_m1 206 rfl) rfl
theorem q270 : (Jvm.Cond.methodLink "TreeDiffer" (239 : Nat) ({ cls := "TreeDiffer", name := "cost", desc := "(LTreeDiffer$Node;LTreeDiffer$Node;)I" } : Jvm.MethodName)) ∈ lw_all := lw_g (lw_at lw_m1 207 rfl) rfl
theorem q271 : (Jvm.Cond.static ({ cls := "TreeDiffer", name := "cost", desc := "(LTreeDiffer$Node;LTreeDiffer$Node;)I" } : Jvm.MethodName)) ∈ lw_all := lw_g (lw_at lw_m1 208 rfl) rfl
theorem q272 : (Jvm.Cond.code ({ cls := "TreeDiffer", name := "cost", desc := "(LTreeDiffer$Node;LTreeDiffer$Node;)I" } : Jvm.MethodName) prog_1_method_35_code (3 : Nat) (Option.some Jvm.ClassFile.FieldType.int)) ∈ lw_all := lw_g (lw_at lw_m1 209 rfl) rfl
theorem q273 : (Jvm.Cond.methodLink "TreeDiffer" (210 : Nat) ({ cls := "TreeDiffer", name := "pairCost", desc := "(LTreeDiffer$Node;LTreeDiffer$Node;)I" } : Jvm.MethodName)) ∈ lw_all := lw_g (lw_at lw_m1 210 rfl) rfl
theorem q274 : (Jvm.Cond.static ({ cls := "TreeDiffer", name := "pairCost", desc := "(LTreeDiffer$Node;LTreeDiffer$Node;)I" } : Jvm.MethodName)) ∈ lw_all := lw_g (lw_at lw_m1 211 rfl) rfl
theorem q275 : (Jvm.Cond.code ({ cls := "TreeDiffer", name := "pairCost", desc := "(LTreeDiffer$Node;LTreeDiffer$Node;)I" } : Jvm.MethodName) prog_1_method_34_code (2 : Nat) (Option.some Jvm.ClassFile.FieldType.int)) ∈ lw_all := lw_g (lw_at lw_m1 212 rfl) rfl
theorem q276 : (Jvm.Cond.interfaceEntry "TreeDiffer" (214 : Nat)) ∈ lw_tbl := lw_at lw_m1 213 rfl
theorem q277 : (Jvm.Cond.methodLink "TreeDiffer" (214 : Nat) ({ cls := "java/util/List", name := "isEmpty", desc := "()Z" } : Jvm.MethodName)) ∈ lw_all := lw_g (lw_at lw_m1 214 rfl) rfl
theorem q286 : (Jvm.Cond.methodLink "TreeDiffer" (101 : Nat) ({ cls := "TreeDiffer$Node", name := "size", desc := "()I" } : Jvm.MethodName)) ∈ lw_all := lw_g (lw_at lw_m1 223 rfl) rfl
theorem q519 : (Jvm.Cond.selects "TreeDiffer" ({ cls := "java/lang/Object", name := "getClass", desc := "()Ljava/lang/Class;" } : Jvm.MethodName) ({ cls := "java/lang/Object", name := "getClass", desc := "()Ljava/lang/Class;" } : Jvm.MethodName)) ∈ lw_all := lw_g (lw_at lw_m2 216 rfl) rfl
theorem q579 : (Jvm.Cond.classLink "TreeDiffer" (217 : Nat) "TreeDiffer$Table") ∈ lw_all := lw_g (lw_at lw_m3 36 rfl) rfl
theorem q581 : (Jvm.Cond.methodLink "TreeDiffer" (219 : Nat) ({ cls := "TreeDiffer$Table", name := "<init>", desc := "(LTreeDiffer$Node;LTreeDiffer$Node;)V" } : Jvm.MethodName)) ∈ lw_all := lw_g (lw_at lw_m3 38 rfl) rfl
theorem q631 : (Jvm.Cond.methodLink "TreeDiffer" (222 : Nat) ({ cls := "TreeDiffer$Table", name := "at", desc := "(II)I" } : Jvm.MethodName)) ∈ lw_all := lw_g (lw_at lw_m3 88 rfl) rfl
theorem q632 : (Jvm.Cond.methodLink "TreeDiffer" (206 : Nat) ({ cls := "TreeDiffer$Node", name := "isLike", desc := "(LTreeDiffer$Node;Z)Z" } : Jvm.MethodName)) ∈ lw_all := lw_g (lw_at lw_m3 89 rfl) rfl
theorem q641 : (Jvm.Cond.methodLink "TreeDiffer" (242 : Nat) ({ cls := "TreeDiffer", name := "triedDistance", desc := "(LTreeDiffer$Tree;LTreeDiffer$Tree;)I" } : Jvm.MethodName)) ∈ lw_all := lw_g (lw_at lw_m3 98 rfl) rfl
theorem q642 : (Jvm.Cond.static ({ cls := "TreeDiffer", name := "triedDistance", desc := "(LTreeDiffer$Tree;LTreeDiffer$Tree;)I" } : Jvm.MethodName)) ∈ lw_all := lw_g (lw_at lw_m3 99 rfl) rfl
theorem q643 : (Jvm.Cond.code ({ cls := "TreeDiffer", name := "triedDistance", desc := "(LTreeDiffer$Tree;LTreeDiffer$Tree;)I" } : Jvm.MethodName) prog_1_method_38_code (2 : Nat) (Option.some Jvm.ClassFile.FieldType.int)) ∈ lw_all := lw_g (lw_at lw_m3 100 rfl) rfl
theorem q644 : (Jvm.Cond.methodLink "TreeDiffer" (230 : Nat) ({ cls := "TreeDiffer", name := "tried", desc := "(LTreeDiffer$Node;LTreeDiffer$Node;II)I" } : Jvm.MethodName)) ∈ lw_all := lw_g (lw_at lw_m3 101 rfl) rfl
theorem q645 : (Jvm.Cond.static ({ cls := "TreeDiffer", name := "tried", desc := "(LTreeDiffer$Node;LTreeDiffer$Node;II)I" } : Jvm.MethodName)) ∈ lw_all := lw_g (lw_at lw_m3 102 rfl) rfl
theorem q646 : (Jvm.Cond.code ({ cls := "TreeDiffer", name := "tried", desc := "(LTreeDiffer$Node;LTreeDiffer$Node;II)I" } : Jvm.MethodName) prog_1_method_36_code (9 : Nat) (Option.some Jvm.ClassFile.FieldType.int)) ∈ lw_all := lw_g (lw_at lw_m3 103 rfl) rfl
theorem q647 : (Jvm.Cond.interfaceEntry "TreeDiffer" (157 : Nat)) ∈ lw_tbl := lw_at lw_m3 104 rfl
theorem q648 : (Jvm.Cond.methodLink "TreeDiffer" (157 : Nat) ({ cls := "java/util/List", name := "size", desc := "()I" } : Jvm.MethodName)) ∈ lw_all := lw_g (lw_at lw_m3 105 rfl) rfl
theorem q649 : (Jvm.Cond.interfaceEntry "TreeDiffer" (226 : Nat)) ∈ lw_tbl := lw_at lw_m3 106 rfl
theorem q650 : (Jvm.Cond.methodLink "TreeDiffer" (226 : Nat) ({ cls := "java/util/List", name := "get", desc := "(I)Ljava/lang/Object;" } : Jvm.MethodName)) ∈ lw_all := lw_g (lw_at lw_m3 107 rfl) rfl
theorem q651 : (Jvm.Cond.methodLink "TreeDiffer" (234 : Nat) ({ cls := "java/lang/Math", name := "min", desc := "(II)I" } : Jvm.MethodName)) ∈ lw_all := lw_g (lw_at lw_m3 108 rfl) rfl
theorem q652 : (Jvm.Cond.methodLink "TreeDiffer" (297 : Nat) ({ cls := "TreeDiffer$Script", name := "givesTarget", desc := "()Z" } : Jvm.MethodName)) ∈ lw_all := lw_g (lw_at lw_m3 109 rfl) rfl
theorem q1000 : (Jvm.Cond.static ({ cls := "TreeDiffer", name := "visit", desc := "(LTreeDiffer$Node;LTreeDiffer$Node;LTreeDiffer$Visitor;)V" } : Jvm.MethodName)) ∈ lw_all := lw_g (lw_at lw_m4 217 rfl) rfl
theorem q1001 : (Jvm.Cond.code ({ cls := "TreeDiffer", name := "visit", desc := "(LTreeDiffer$Node;LTreeDiffer$Node;LTreeDiffer$Visitor;)V" } : Jvm.MethodName) prog_1_method_41_code (6 : Nat) (Option.none : Option Jvm.ClassFile.FieldType)) ∈ lw_all := lw_g (lw_at lw_m4 218 rfl) rfl
theorem q1002 : (Jvm.Cond.interfaceEntry "TreeDiffer" (246 : Nat)) ∈ lw_tbl := lw_at lw_m4 219 rfl
theorem q1003 : (Jvm.Cond.methodLink "TreeDiffer" (246 : Nat) ({ cls := "TreeDiffer$Visitor", name := "pair", desc := "(LTreeDiffer$Node;LTreeDiffer$Node;)V" } : Jvm.MethodName)) ∈ lw_all := lw_g (lw_at lw_m4 220 rfl) rfl
theorem q1027 : (Jvm.Cond.fieldLinkNest "TreeDiffer" (139 : Nat) "TreeDiffer$Operation" "kind" "C" "TreeDiffer") ∈ lw_tbl := lw_at lw_m5 4 rfl
theorem q1034 : (Jvm.Cond.fieldLinkNest "TreeDiffer" (282 : Nat) "TreeDiffer$Operation" "target" "LTreeDiffer$Node;" "TreeDiffer") ∈ lw_tbl := lw_at lw_m5 11 rfl
theorem q1055 : (Jvm.Cond.methodLink "TreeDiffer" (251 : Nat) ({ cls := "TreeDiffer$Table", name := "canPair", desc := "(II)Z" } : Jvm.MethodName)) ∈ lw_all := lw_g (lw_at lw_m5 32 rfl) rfl
theorem q1056 : (Jvm.Cond.methodLink "TreeDiffer" (255 : Nat) ({ cls := "TreeDiffer$Table", name := "byPair", desc := "(II)I" } : Jvm.MethodName)) ∈ lw_all := lw_g (lw_at lw_m5 33 rfl) rfl
theorem q1057 : (Jvm.Cond.methodLink "TreeDiffer" (258 : Nat) ({ cls := "TreeDiffer", name := "visit", desc := "(LTreeDiffer$Node;LTreeDiffer$Node;LTreeDiffer$Visitor;)V" } : Jvm.MethodName)) ∈ lw_all := lw_g (lw_at lw_m5 34 rfl) rfl
theorem q1058 : (Jvm.Cond.methodLink "TreeDiffer" (262 : Nat) ({ cls := "TreeDiffer$Table", name := "byDeletion", desc := "(II)I" } : Jvm.MethodName)) ∈ lw_all := lw_g (lw_at lw_m5 35 rfl) rfl
theorem q1059 : (Jvm.Cond.interfaceEntry "TreeDiffer" (265 : Nat)) ∈ lw_tbl := lw_at lw_m5 36 rfl
theorem q1060 : (Jvm.Cond.methodLink "TreeDiffer" (265 : Nat) ({ cls := "TreeDiffer$Visitor", name := "deletion", desc := "(LTreeDiffer$Node;)V" } : Jvm.MethodName)) ∈ lw_all := lw_g (lw_at lw_m5 37 rfl) rfl
theorem q1073 : (Jvm.Cond.interfaceEntry "TreeDiffer" (268 : Nat)) ∈ lw_tbl := lw_at lw_m5 50 rfl
theorem q1074 : (Jvm.Cond.methodLink "TreeDiffer" (268 : Nat) ({ cls := "TreeDiffer$Visitor", name := "insertion", desc := "(LTreeDiffer$Node;)V" } : Jvm.MethodName)) ∈ lw_all := lw_g (lw_at lw_m5 51 rfl) rfl
theorem q1224 : (Jvm.Cond.fieldLinkNest "TreeDiffer" (314 : Nat) "TreeDiffer$Conflict" "operation" "I" "TreeDiffer") ∈ lw_tbl := lw_at lw_m5 201 rfl
theorem q1248 : (Jvm.Cond.selects "TreeDiffer" ({ cls := "java/lang/Object", name := "toString", desc := "()Ljava/lang/String;" } : Jvm.MethodName) ({ cls := "java/lang/Object", name := "toString", desc := "()Ljava/lang/String;" } : Jvm.MethodName)) ∈ lw_all := lw_g (lw_at lw_m5 225 rfl) rfl
theorem q1338 : (Jvm.Cond.methodLink "TreeDiffer" (295 : Nat) ({ cls := "TreeDiffer$Script", name := "cost", desc := "()I" } : Jvm.MethodName)) ∈ lw_all := lw_g (lw_at lw_m6 75 rfl) rfl
theorem q1359 : (Jvm.Cond.instanceMethod ({ cls := "TreeDiffer", name := "type", desc := "(C)I" } : Jvm.MethodName)) ∈ lw_all := lw_g (lw_at lw_m6 96 rfl) rfl
theorem q1360 : (Jvm.Cond.selects "TreeDiffer" ({ cls := "TreeDiffer", name := "type", desc := "(C)I" } : Jvm.MethodName) ({ cls := "TreeDiffer", name := "type", desc := "(C)I" } : Jvm.MethodName)) ∈ lw_all := lw_g (lw_at lw_m6 97 rfl) rfl
theorem q1361 : (Jvm.Cond.code ({ cls := "TreeDiffer", name := "type", desc := "(C)I" } : Jvm.MethodName) prog_1_method_11_code (2 : Nat) (Option.some Jvm.ClassFile.FieldType.int)) ∈ lw_all := lw_g (lw_at lw_m6 98 rfl) rfl
theorem q1362 : (Jvm.Cond.methodLink "TreeDiffer" (68 : Nat) ({ cls := "java/lang/StringBuilder", name := "length", desc := "()I" } : Jvm.MethodName)) ∈ lw_all := lw_g (lw_at lw_m6 99 rfl) rfl
theorem q1363 : (Jvm.Cond.methodLink "TreeDiffer" (72 : Nat) ({ cls := "TreeDiffer", name := "requireState", desc := "(Z)V" } : Jvm.MethodName)) ∈ lw_all := lw_g (lw_at lw_m6 100 rfl) rfl
theorem q1364 : (Jvm.Cond.static ({ cls := "TreeDiffer", name := "requireState", desc := "(Z)V" } : Jvm.MethodName)) ∈ lw_all := lw_g (lw_at lw_m6 101 rfl) rfl
theorem q1365 : (Jvm.Cond.code ({ cls := "TreeDiffer", name := "requireState", desc := "(Z)V" } : Jvm.MethodName) prog_1_method_5_code (1 : Nat) (Option.none : Option Jvm.ClassFile.FieldType)) ∈ lw_all := lw_g (lw_at lw_m6 102 rfl) rfl
theorem q1366 : (Jvm.Cond.classLink "TreeDiffer" (43 : Nat) "java/lang/IllegalStateException") ∈ lw_all := lw_g (lw_at lw_m6 103 rfl) rfl
theorem q1367 : (Jvm.Cond.methodLink "TreeDiffer" (45 : Nat) ({ cls := "java/lang/IllegalStateException", name := "<init>", desc := "()V" } : Jvm.MethodName)) ∈ lw_all := lw_g (lw_at lw_m6 104 rfl) rfl
theorem q1371 : (Jvm.Cond.methodLink "TreeDiffer" (75 : Nat) ({ cls := "java/lang/StringBuilder", name := "append", desc := "(C)Ljava/lang/StringBuilder;" } : Jvm.MethodName)) ∈ lw_all := lw_g (lw_at lw_m6 108 rfl) rfl
theorem q1412 : (Jvm.Cond.instanceMethod ({ cls := "TreeDiffer", name := "read", desc := "(I)I" } : Jvm.MethodName)) ∈ lw_all := lw_g (lw_at lw_m6 149 rfl) rfl
theorem q1413 : (Jvm.Cond.selects "TreeDiffer" ({ cls := "TreeDiffer", name := "read", desc := "(I)I" } : Jvm.MethodName) ({ cls := "TreeDiffer", name := "read", desc := "(I)I" } : Jvm.MethodName)) ∈ lw_all := lw_g (lw_at lw_m6 150 rfl) rfl
theorem q1414 : (Jvm.Cond.codeWith ({ cls := "TreeDiffer", name := "read", desc := "(I)I" } : Jvm.MethodName) prog_1_method_12_code (4 : Nat) (Option.some Jvm.ClassFile.FieldType.int) [((9 : Nat), (26 : Nat), (37 : Nat), (92 : Nat)), ((9 : Nat), (26 : Nat), (54 : Nat), (0 : Nat)), ((37 : Nat), (55 : Nat), (54 : Nat), (0 : Nat))]) ∈ lw_all := lw_g (lw_at lw_m6 151 rfl) rfl
theorem q1415 : (Jvm.Cond.classLink "TreeDiffer" (92 : Nat) "TreeDiffer$WrongText") ∈ lw_all := lw_g (lw_at lw_m6 152 rfl) rfl
theorem q1416 : (Jvm.Cond.methodLink "TreeDiffer" (52 : Nat) ({ cls := "TreeDiffer", name := "isBetween", desc := "(III)Z" } : Jvm.MethodName)) ∈ lw_all := lw_g (lw_at lw_m6 153 rfl) rfl
theorem q1417 : (Jvm.Cond.static ({ cls := "TreeDiffer", name := "isBetween", desc := "(III)Z" } : Jvm.MethodName)) ∈ lw_all := lw_g (lw_at lw_m6 154 rfl) rfl
theorem q1418 : (Jvm.Cond.code ({ cls := "TreeDiffer", name := "isBetween", desc := "(III)Z" } : Jvm.MethodName) prog_1_method_2_code (3 : Nat) (Option.some Jvm.ClassFile.FieldType.boolean)) ∈ lw_all := lw_g (lw_at lw_m6 155 rfl) rfl
theorem q1419 : (Jvm.Cond.methodLink "TreeDiffer" (56 : Nat) ({ cls := "TreeDiffer", name := "requireIndex", desc := "(Z)V" } : Jvm.MethodName)) ∈ lw_all := lw_g (lw_at lw_m6 156 rfl) rfl
theorem q1420 : (Jvm.Cond.static ({ cls := "TreeDiffer", name := "requireIndex", desc := "(Z)V" } : Jvm.MethodName)) ∈ lw_all := lw_g (lw_at lw_m6 157 rfl) rfl
theorem q1421 : (Jvm.Cond.code ({ cls := "TreeDiffer", name := "requireIndex", desc := "(Z)V" } : Jvm.MethodName) prog_1_method_3_code (1 : Nat) (Option.none : Option Jvm.ClassFile.FieldType)) ∈ lw_all := lw_g (lw_at lw_m6 158 rfl) rfl
theorem q1422 : (Jvm.Cond.classLink "TreeDiffer" (37 : Nat) "java/lang/IndexOutOfBoundsException") ∈ lw_all := lw_g (lw_at lw_m6 159 rfl) rfl
theorem q1423 : (Jvm.Cond.methodLink "TreeDiffer" (39 : Nat) ({ cls := "java/lang/IndexOutOfBoundsException", name := "<init>", desc := "()V" } : Jvm.MethodName)) ∈ lw_all := lw_g (lw_at lw_m6 160 rfl) rfl
theorem q1427 : (Jvm.Cond.classLink "TreeDiffer" (79 : Nat) "TreeDiffer$Reader") ∈ lw_all := lw_g (lw_at lw_m6 164 rfl) rfl
theorem q1429 : (Jvm.Cond.methodLinkNest "TreeDiffer" (81 : Nat) ({ cls := "TreeDiffer$Reader", name := "<init>", desc := "(LTreeDiffer;)V" } : Jvm.MethodName) "TreeDiffer") ∈ lw_tbl := lw_at lw_m6 166 rfl
theorem q1443 : (Jvm.Cond.methodLink "TreeDiffer" (84 : Nat) ({ cls := "TreeDiffer$Reader", name := "read", desc := "()LTreeDiffer$Tree;" } : Jvm.MethodName)) ∈ lw_all := lw_g (lw_at lw_m6 180 rfl) rfl
theorem q1467 : (Jvm.Cond.static ({ cls := "TreeDiffer", name := "isLetter", desc := "(C)Z" } : Jvm.MethodName)) ∈ lw_all := lw_g (lw_at lw_m6 204 rfl) rfl
theorem q1468 : (Jvm.Cond.code ({ cls := "TreeDiffer", name := "isLetter", desc := "(C)Z" } : Jvm.MethodName) prog_1_method_10_code (1 : Nat) (Option.some Jvm.ClassFile.FieldType.boolean)) ∈ lw_all := lw_g (lw_at lw_m6 205 rfl) rfl
theorem q1483 : (Jvm.Cond.fieldLinkNest "TreeDiffer" (94 : Nat) "TreeDiffer$WrongText" "position" "I" "TreeDiffer") ∈ lw_tbl := lw_at lw_m6 220 rfl
theorem q1504 : (Jvm.Cond.methodLink "TreeDiffer" (88 : Nat) ({ cls := "java/lang/StringBuilder", name := "setLength", desc := "(I)V" } : Jvm.MethodName)) ∈ lw_all := lw_g (lw_at lw_m7 1 rfl) rfl
theorem q1556 : (Jvm.Cond.classLink "TreeDiffer" (40 : Nat) "java/lang/IllegalArgumentException") ∈ lw_all := lw_g (lw_at lw_m7 53 rfl) rfl
theorem q1557 : (Jvm.Cond.methodLink "TreeDiffer" (42 : Nat) ({ cls := "java/lang/IllegalArgumentException", name := "<init>", desc := "()V" } : Jvm.MethodName)) ∈ lw_all := lw_g (lw_at lw_m7 54 rfl) rfl
theorem q1566 : (Jvm.Cond.instanceMethod ({ cls := "TreeDiffer", name := "errorPosition", desc := "()I" } : Jvm.MethodName)) ∈ lw_all := lw_g (lw_at lw_m7 63 rfl) rfl
theorem q1567 : (Jvm.Cond.selects "TreeDiffer" ({ cls := "TreeDiffer", name := "errorPosition", desc := "()I" } : Jvm.MethodName) ({ cls := "TreeDiffer", name := "errorPosition", desc := "()I" } : Jvm.MethodName)) ∈ lw_all := lw_g (lw_at lw_m7 64 rfl) rfl
theorem q1568 : (Jvm.Cond.code ({ cls := "TreeDiffer", name := "errorPosition", desc := "()I" } : Jvm.MethodName) prog_1_method_13_code (1 : Nat) (Option.some Jvm.ClassFile.FieldType.int)) ∈ lw_all := lw_g (lw_at lw_m7 65 rfl) rfl
theorem q1569 : (Jvm.Cond.methodLink "TreeDiffer" (104 : Nat) ({ cls := "TreeDiffer", name := "requireElement", desc := "(Z)V" } : Jvm.MethodName)) ∈ lw_all := lw_g (lw_at lw_m7 66 rfl) rfl
theorem q1570 : (Jvm.Cond.static ({ cls := "TreeDiffer", name := "requireElement", desc := "(Z)V" } : Jvm.MethodName)) ∈ lw_all := lw_g (lw_at lw_m7 67 rfl) rfl
theorem q1571 : (Jvm.Cond.code ({ cls := "TreeDiffer", name := "requireElement", desc := "(Z)V" } : Jvm.MethodName) prog_1_method_6_code (1 : Nat) (Option.none : Option Jvm.ClassFile.FieldType)) ∈ lw_all := lw_g (lw_at lw_m7 68 rfl) rfl
theorem q1572 : (Jvm.Cond.classLink "TreeDiffer" (46 : Nat) "java/util/NoSuchElementException") ∈ lw_all := lw_g (lw_at lw_m7 69 rfl) rfl
theorem q1573 : (Jvm.Cond.methodLink "TreeDiffer" (48 : Nat) ({ cls := "java/util/NoSuchElementException", name := "<init>", desc := "()V" } : Jvm.MethodName)) ∈ lw_all := lw_g (lw_at lw_m7 70 rfl) rfl
theorem q1578 : (Jvm.Cond.instanceMethod ({ cls := "TreeDiffer", name := "writeTree", desc := "(I)I" } : Jvm.MethodName)) ∈ lw_all := lw_g (lw_at lw_m7 75 rfl) rfl
theorem q1579 : (Jvm.Cond.selects "TreeDiffer" ({ cls := "TreeDiffer", name := "writeTree", desc := "(I)I" } : Jvm.MethodName) ({ cls := "TreeDiffer", name := "writeTree", desc := "(I)I" } : Jvm.MethodName)) ∈ lw_all := lw_g (lw_at lw_m7 76 rfl) rfl
theorem q1580 : (Jvm.Cond.code ({ cls := "TreeDiffer", name := "writeTree", desc := "(I)I" } : Jvm.MethodName) prog_1_method_14_code (3 : Nat) (Option.some Jvm.ClassFile.FieldType.int)) ∈ lw_all := lw_g (lw_at lw_m7 77 rfl) rfl
theorem q1581 : (Jvm.Cond.methodLink "TreeDiffer" (60 : Nat) ({ cls := "TreeDiffer", name := "treeOf", desc := "(I)LTreeDiffer$Tree;" } : Jvm.MethodName)) ∈ lw_all := lw_g (lw_at lw_m7 78 rfl) rfl
theorem q1582 : (Jvm.Cond.privateMethod ({ cls := "TreeDiffer", name := "treeOf", desc := "(I)LTreeDiffer$Tree;" } : Jvm.MethodName)) ∈ lw_tbl := lw_at lw_m7 79 rfl
theorem q1583 : (Jvm.Cond.instanceMethod ({ cls := "TreeDiffer", name := "treeOf", desc := "(I)LTreeDiffer$Tree;" } : Jvm.MethodName)) ∈ lw_all := lw_g (lw_at lw_m7 80 rfl) rfl
theorem q1584 : (Jvm.Cond.code ({ cls := "TreeDiffer", name := "treeOf", desc := "(I)LTreeDiffer$Tree;" } : Jvm.MethodName) prog_1_method_8_code (2 : Nat) (Option.some (Jvm.ClassFile.FieldType.object "TreeDiffer$Tree"))) ∈ lw_all := lw_g (lw_at lw_m7 81 rfl) rfl
theorem q1585 : (Jvm.Cond.methodLink "TreeDiffer" (107 : Nat) ({ cls := "TreeDiffer$Node", name := "write", desc := "(Ljava/lang/StringBuilder;)V" } : Jvm.MethodName)) ∈ lw_all := lw_g (lw_at lw_m7 82 rfl) rfl
theorem q1598 : (Jvm.Cond.instanceMethod ({ cls := "TreeDiffer", name := "writeScript", desc := "()I" } : Jvm.MethodName)) ∈ lw_all := lw_g (lw_at lw_m7 95 rfl) rfl
theorem q1599 : (Jvm.Cond.selects "TreeDiffer" ({ cls := "TreeDiffer", name := "writeScript", desc := "()I" } : Jvm.MethodName) ({ cls := "TreeDiffer", name := "writeScript", desc := "()I" } : Jvm.MethodName)) ∈ lw_all := lw_g (lw_at lw_m7 96 rfl) rfl
theorem q1600 : (Jvm.Cond.code ({ cls := "TreeDiffer", name := "writeScript", desc := "()I" } : Jvm.MethodName) prog_1_method_15_code (4 : Nat) (Option.some Jvm.ClassFile.FieldType.int)) ∈ lw_all := lw_g (lw_at lw_m7 97 rfl) rfl
theorem q1601 : (Jvm.Cond.methodLink "TreeDiffer" (111 : Nat) ({ cls := "TreeDiffer", name := "latest", desc := "()LTreeDiffer$Script;" } : Jvm.MethodName)) ∈ lw_all := lw_g (lw_at lw_m7 98 rfl) rfl
theorem q1602 : (Jvm.Cond.privateMethod ({ cls := "TreeDiffer", name := "latest", desc := "()LTreeDiffer$Script;" } : Jvm.MethodName)) ∈ lw_tbl := lw_at lw_m7 99 rfl
theorem q1603 : (Jvm.Cond.instanceMethod ({ cls := "TreeDiffer", name := "latest", desc := "()LTreeDiffer$Script;" } : Jvm.MethodName)) ∈ lw_all := lw_g (lw_at lw_m7 100 rfl) rfl
theorem q1604 : (Jvm.Cond.code ({ cls := "TreeDiffer", name := "latest", desc := "()LTreeDiffer$Script;" } : Jvm.MethodName) prog_1_method_42_code (1 : Nat) (Option.some (Jvm.ClassFile.FieldType.object "TreeDiffer$Script"))) ∈ lw_all := lw_g (lw_at lw_m7 101 rfl) rfl
theorem q1605 : (Jvm.Cond.interfaceEntry "TreeDiffer" (121 : Nat)) ∈ lw_tbl := lw_at lw_m7 102 rfl
theorem q1606 : (Jvm.Cond.methodLink "TreeDiffer" (121 : Nat) ({ cls := "java/util/List", name := "iterator", desc := "()Ljava/util/Iterator;" } : Jvm.MethodName)) ∈ lw_all := lw_g (lw_at lw_m7 103 rfl) rfl
theorem q1607 : (Jvm.Cond.interfaceEntry "TreeDiffer" (127 : Nat)) ∈ lw_tbl := lw_at lw_m7 104 rfl
theorem q1608 : (Jvm.Cond.methodLink "TreeDiffer" (127 : Nat) ({ cls := "java/util/Iterator", name := "hasNext", desc := "()Z" } : Jvm.MethodName)) ∈ lw_all := lw_g (lw_at lw_m7 105 rfl) rfl
theorem q1609 : (Jvm.Cond.interfaceEntry "TreeDiffer" (133 : Nat)) ∈ lw_tbl := lw_at lw_m7 106 rfl
theorem q1610 : (Jvm.Cond.methodLink "TreeDiffer" (133 : Nat) ({ cls := "java/util/Iterator", name := "next", desc := "()Ljava/lang/Object;" } : Jvm.MethodName)) ∈ lw_all := lw_g (lw_at lw_m7 107 rfl) rfl
theorem q1611 : (Jvm.Cond.classLink "TreeDiffer" (137 : Nat) "TreeDiffer$Operation") ∈ lw_all := lw_g (lw_at lw_m7 108 rfl) rfl
theorem q1612 : (Jvm.Cond.methodLink "TreeDiffer" (143 : Nat) ({ cls := "TreeDiffer$Script", name := "nodeNumber", desc := "(LTreeDiffer$Operation;)I" } : Jvm.MethodName)) ∈ lw_all := lw_g (lw_at lw_m7 109 rfl) rfl
theorem q1626 : (Jvm.Cond.methodLink "TreeDiffer" (147 : Nat) ({ cls := "java/lang/StringBuilder", name := "append", desc := "(I)Ljava/lang/StringBuilder;" } : Jvm.MethodName)) ∈ lw_all := lw_g (lw_at lw_m7 123 rfl) rfl
theorem q1631 : (Jvm.Cond.instanceMethod ({ cls := "TreeDiffer", name := "charAt", desc := "(I)C" } : Jvm.MethodName)) ∈ lw_all := lw_g (lw_at lw_m7 128 rfl) rfl
theorem q1632 : (Jvm.Cond.selects "TreeDiffer" ({ cls := "TreeDiffer", name := "charAt", desc := "(I)C" } : Jvm.MethodName) ({ cls := "TreeDiffer", name := "charAt", desc := "(I)C" } : Jvm.MethodName)) ∈ lw_all := lw_g (lw_at lw_m7 129 rfl) rfl
theorem q1633 : (Jvm.Cond.code ({ cls := "TreeDiffer", name := "charAt", desc := "(I)C" } : Jvm.MethodName) prog_1_method_16_code (2 : Nat) (Option.some Jvm.ClassFile.FieldType.char)) ∈ lw_all := lw_g (lw_at lw_m7 130 rfl) rfl
theorem q1634 : (Jvm.Cond.methodLink "TreeDiffer" (150 : Nat) ({ cls := "java/lang/StringBuilder", name := "charAt", desc := "(I)C" } : Jvm.MethodName)) ∈ lw_all := lw_g (lw_at lw_m7 131 rfl) rfl
theorem q1639 : (Jvm.Cond.instanceMethod ({ cls := "TreeDiffer", name := "addNode", desc := "(IIIC)I" } : Jvm.MethodName)) ∈ lw_all := lw_g (lw_at lw_m7 136 rfl) rfl
theorem q1640 : (Jvm.Cond.selects "TreeDiffer" ({ cls := "TreeDiffer", name := "addNode", desc := "(IIIC)I" } : Jvm.MethodName) ({ cls := "TreeDiffer", name := "addNode", desc := "(IIIC)I" } : Jvm.MethodName)) ∈ lw_all := lw_g (lw_at lw_m7 137 rfl) rfl
theorem q1641 : (Jvm.Cond.code ({ cls := "TreeDiffer", name := "addNode", desc := "(IIIC)I" } : Jvm.MethodName) prog_1_method_17_code (8 : Nat) (Option.some Jvm.ClassFile.FieldType.int)) ∈ lw_all := lw_g (lw_at lw_m7 138 rfl) rfl
theorem q1642 : (Jvm.Cond.methodLink "TreeDiffer" (64 : Nat) ({ cls := "TreeDiffer$Tree", name := "node", desc := "(I)LTreeDiffer$Node;" } : Jvm.MethodName)) ∈ lw_all := lw_g (lw_at lw_m7 139 rfl) rfl
theorem q1648 : (Jvm.Cond.methodLink "TreeDiffer" (158 : Nat) ({ cls := "TreeDiffer", name := "isLetter", desc := "(C)Z" } : Jvm.MethodName)) ∈ lw_all := lw_g (lw_at lw_m7 145 rfl) rfl
theorem q1649 : (Jvm.Cond.methodLink "TreeDiffer" (162 : Nat) ({ cls := "TreeDiffer", name := "requireArgument", desc := "(Z)V" } : Jvm.MethodName)) ∈ lw_all := lw_g (lw_at lw_m7 146 rfl) rfl
theorem q1650 : (Jvm.Cond.static ({ cls := "TreeDiffer", name := "requireArgument", desc := "(Z)V" } : Jvm.MethodName)) ∈ lw_all := lw_g (lw_at lw_m7 147 rfl) rfl
theorem q1651 : (Jvm.Cond.code ({ cls := "TreeDiffer", name := "requireArgument", desc := "(Z)V" } : Jvm.MethodName) prog_1_method_4_code (1 : Nat) (Option.none : Option Jvm.ClassFile.FieldType)) ∈ lw_all := lw_g (lw_at lw_m7 148 rfl) rfl
theorem q1652 : (Jvm.Cond.methodLink "TreeDiffer" (165 : Nat) ({ cls := "TreeDiffer$Node", name := "add", desc := "(ILTreeDiffer$Node;)V" } : Jvm.MethodName)) ∈ lw_all := lw_g (lw_at lw_m7 149 rfl) rfl
theorem q1653 : (Jvm.Cond.methodLink "TreeDiffer" (169 : Nat) ({ cls := "TreeDiffer$Tree", name := "number", desc := "(LTreeDiffer$Node;)I" } : Jvm.MethodName)) ∈ lw_all := lw_g (lw_at lw_m7 150 rfl) rfl
theorem q1659 : (Jvm.Cond.instanceMethod ({ cls := "TreeDiffer", name := "removeNode", desc := "(II)I" } : Jvm.MethodName)) ∈ lw_all := lw_g (lw_at lw_m7 156 rfl) rfl
theorem q1660 : (Jvm.Cond.selects "TreeDiffer" ({ cls := "TreeDiffer", name := "removeNode", desc := "(II)I" } : Jvm.MethodName) ({ cls := "TreeDiffer", name := "removeNode", desc := "(II)I" } : Jvm.MethodName)) ∈ lw_all := lw_g (lw_at lw_m7 157 rfl) rfl
theorem q1661 : (Jvm.Cond.code ({ cls := "TreeDiffer", name := "removeNode", desc := "(II)I" } : Jvm.MethodName) prog_1_method_18_code (5 : Nat) (Option.some Jvm.ClassFile.FieldType.int)) ∈ lw_all := lw_g (lw_at lw_m7 158 rfl) rfl
theorem q1662 : (Jvm.Cond.methodLink "TreeDiffer" (173 : Nat) ({ cls := "TreeDiffer", name := "requireSupport", desc := "(Z)V" } : Jvm.MethodName)) ∈ lw_all := lw_g (lw_at lw_m7 159 rfl) rfl
theorem q1663 : (Jvm.Cond.static ({ cls := "TreeDiffer", name := "requireSupport", desc := "(Z)V" } : Jvm.MethodName)) ∈ lw_all := lw_g (lw_at lw_m7 160 rfl) rfl
theorem q1664 : (Jvm.Cond.code ({ cls := "TreeDiffer", name := "requireSupport", desc := "(Z)V" } : Jvm.MethodName) prog_1_method_7_code (1 : Nat) (Option.none : Option Jvm.ClassFile.FieldType)) ∈ lw_all := lw_g (lw_at lw_m7 161 rfl) rfl
theorem q1665 : (Jvm.Cond.classLink "TreeDiffer" (49 : Nat) "java/lang/UnsupportedOperationException") ∈ lw_all := lw_g (lw_at lw_m7 162 rfl) rfl
theorem q1674 : (Jvm.Cond.methodLink "TreeDiffer" (51 : Nat) ({ cls := "java/lang/UnsupportedOperationException", name := "<init>", desc := "()V" } : Jvm.MethodName)) ∈ lw_all := lw_g (lw_at lw_m7 171 rfl) rfl
theorem q1680 : (Jvm.Cond.methodLink "TreeDiffer" (176 : Nat) ({ cls := "TreeDiffer$Node", name := "detach", desc := "()V" } : Jvm.MethodName)) ∈ lw_all := lw_g (lw_at lw_m7 177 rfl) rfl
theorem q1685 : (Jvm.Cond.instanceMethod ({ cls := "TreeDiffer", name := "setLabel", desc := "(IIC)I" } : Jvm.MethodName)) ∈ lw_all := lw_g (lw_at lw_m7 182 rfl) rfl
theorem q1686 : (Jvm.Cond.selects "TreeDiffer" ({ cls := "TreeDiffer", name := "setLabel", desc := "(IIC)I" } : Jvm.MethodName) ({ cls := "TreeDiffer", name := "setLabel", desc := "(IIC)I" } : Jvm.MethodName)) ∈ lw_all := lw_g (lw_at lw_m7 183 rfl) rfl
theorem q1687 : (Jvm.Cond.code ({ cls := "TreeDiffer", name := "setLabel", desc := "(IIC)I" } : Jvm.MethodName) prog_1_method_19_code (9 : Nat) (Option.some Jvm.ClassFile.FieldType.int)) ∈ lw_all := lw_g (lw_at lw_m7 184 rfl) rfl
theorem q1688 : (Jvm.Cond.methodLink "TreeDiffer" (182 : Nat) ({ cls := "TreeDiffer$Tree", name := "iterator", desc := "()Ljava/util/Iterator;" } : Jvm.MethodName)) ∈ lw_all := lw_g (lw_at lw_m7 185 rfl) rfl
theorem q1693 : (Jvm.Cond.instanceMethod ({ cls := "TreeDiffer", name := "setKey", desc := "(III)I" } : Jvm.MethodName)) ∈ lw_all := lw_g (lw_at lw_m7 190 rfl) rfl
theorem q1694 : (Jvm.Cond.selects "TreeDiffer" ({ cls := "TreeDiffer", name := "setKey", desc := "(III)I" } : Jvm.MethodName) ({ cls := "TreeDiffer", name := "setKey", desc := "(III)I" } : Jvm.MethodName)) ∈ lw_all := lw_g (lw_at lw_m7 191 rfl) rfl
theorem q1695 : (Jvm.Cond.code ({ cls := "TreeDiffer", name := "setKey", desc := "(III)I" } : Jvm.MethodName) prog_1_method_20_code (6 : Nat) (Option.some Jvm.ClassFile.FieldType.int)) ∈ lw_all := lw_g (lw_at lw_m7 192 rfl) rfl
theorem q1696 : (Jvm.Cond.methodLink "TreeDiffer" (183 : Nat) ({ cls := "TreeDiffer", name := "nodeOf", desc := "(II)LTreeDiffer$Node;" } : Jvm.MethodName)) ∈ lw_all := lw_g (lw_at lw_m7 193 rfl) rfl
theorem q1697 : (Jvm.Cond.privateMethod ({ cls := "TreeDiffer", name := "nodeOf", desc := "(II)LTreeDiffer$Node;" } : Jvm.MethodName)) ∈ lw_tbl := lw_at lw_m7 194 rfl
theorem q1698 : (Jvm.Cond.instanceMethod ({ cls := "TreeDiffer", name := "nodeOf", desc := "(II)LTreeDiffer$Node;" } : Jvm.MethodName)) ∈ lw_all := lw_g (lw_at lw_m7 195 rfl) rfl
theorem q1699 : (Jvm.Cond.code ({ cls := "TreeDiffer", name := "nodeOf", desc := "(II)LTreeDiffer$Node;" } : Jvm.MethodName) prog_1_method_9_code (3 : Nat) (Option.some (Jvm.ClassFile.FieldType.object "TreeDiffer$Node"))) ∈ lw_all := lw_g (lw_at lw_m7 196 rfl) rfl
theorem q1700 : (Jvm.Cond.methodLink "TreeDiffer" (193 : Nat) ({ cls := "TreeDiffer$Node", name := "hasChildWithKey", desc := "(I)Z" } : Jvm.MethodName)) ∈ lw_all := lw_g (lw_at lw_m7 197 rfl) rfl
theorem q1705 : (Jvm.Cond.instanceMethod ({ cls := "TreeDiffer", name := "setValue", desc := "(III)I" } : Jvm.MethodName)) ∈ lw_all := lw_g (lw_at lw_m7 202 rfl) rfl
theorem q1706 : (Jvm.Cond.selects "TreeDiffer" ({ cls := "TreeDiffer", name := "setValue", desc := "(III)I" } : Jvm.MethodName) ({ cls := "TreeDiffer", name := "setValue", desc := "(III)I" } : Jvm.MethodName)) ∈ lw_all := lw_g (lw_at lw_m7 203 rfl) rfl
theorem q1707 : (Jvm.Cond.code ({ cls := "TreeDiffer", name := "setValue", desc := "(III)I" } : Jvm.MethodName) prog_1_method_21_code (6 : Nat) (Option.some Jvm.ClassFile.FieldType.int)) ∈ lw_all := lw_g (lw_at lw_m7 204 rfl) rfl
theorem q1712 : (Jvm.Cond.instanceMethod ({ cls := "TreeDiffer", name := "copyTree", desc := "(II)I" } : Jvm.MethodName)) ∈ lw_all := lw_g (lw_at lw_m7 209 rfl) rfl
theorem q1713 : (Jvm.Cond.selects "TreeDiffer" ({ cls := "TreeDiffer", name := "copyTree", desc := "(II)I" } : Jvm.MethodName) ({ cls := "TreeDiffer", name := "copyTree", desc := "(II)I" } : Jvm.MethodName)) ∈ lw_all := lw_g (lw_at lw_m7 210 rfl) rfl
theorem q1714 : (Jvm.Cond.code ({ cls := "TreeDiffer", name := "copyTree", desc := "(II)I" } : Jvm.MethodName) prog_1_method_22_code (4 : Nat) (Option.some Jvm.ClassFile.FieldType.int)) ∈ lw_all := lw_g (lw_at lw_m7 211 rfl) rfl
theorem q1715 : (Jvm.Cond.methodLink "TreeDiffer" (200 : Nat) ({ cls := "TreeDiffer$Tree", name := "copy", desc := "()LTreeDiffer$Tree;" } : Jvm.MethodName)) ∈ lw_all := lw_g (lw_at lw_m7 212 rfl) rfl
theorem q1720 : (Jvm.Cond.instanceMethod ({ cls := "TreeDiffer", name := "size", desc := "(I)I" } : Jvm.MethodName)) ∈ lw_all := lw_g (lw_at lw_m7 217 rfl) rfl
theorem q1721 : (Jvm.Cond.selects "TreeDiffer" ({ cls := "TreeDiffer", name := "size", desc := "(I)I" } : Jvm.MethodName) ({ cls := "TreeDiffer", name := "size", desc := "(I)I" } : Jvm.MethodName)) ∈ lw_all := lw_g (lw_at lw_m7 218 rfl) rfl
theorem q1722 : (Jvm.Cond.code ({ cls := "TreeDiffer", name := "size", desc := "(I)I" } : Jvm.MethodName) prog_1_method_23_code (2 : Nat) (Option.some Jvm.ClassFile.FieldType.int)) ∈ lw_all := lw_g (lw_at lw_m7 219 rfl) rfl
theorem q1727 : (Jvm.Cond.instanceMethod ({ cls := "TreeDiffer", name := "label", desc := "(II)C" } : Jvm.MethodName)) ∈ lw_all := lw_g (lw_at lw_m7 224 rfl) rfl
theorem q1728 : (Jvm.Cond.selects "TreeDiffer" ({ cls := "TreeDiffer", name := "label", desc := "(II)C" } : Jvm.MethodName) ({ cls := "TreeDiffer", name := "label", desc := "(II)C" } : Jvm.MethodName)) ∈ lw_all := lw_g (lw_at lw_m7 225 rfl) rfl
theorem q1729 : (Jvm.Cond.code ({ cls := "TreeDiffer", name := "label", desc := "(II)C" } : Jvm.MethodName) prog_1_method_24_code (3 : Nat) (Option.some Jvm.ClassFile.FieldType.char)) ∈ lw_all := lw_g (lw_at lw_m7 226 rfl) rfl
theorem q1734 : (Jvm.Cond.instanceMethod ({ cls := "TreeDiffer", name := "key", desc := "(II)I" } : Jvm.MethodName)) ∈ lw_all := lw_g (lw_at lw_m7 231 rfl) rfl
theorem q1735 : (Jvm.Cond.selects "TreeDiffer" ({ cls := "TreeDiffer", name := "key", desc := "(II)I" } : Jvm.MethodName) ({ cls := "TreeDiffer", name := "key", desc := "(II)I" } : Jvm.MethodName)) ∈ lw_all := lw_g (lw_at lw_m7 232 rfl) rfl
theorem q1736 : (Jvm.Cond.code ({ cls := "TreeDiffer", name := "key", desc := "(II)I" } : Jvm.MethodName) prog_1_method_25_code (3 : Nat) (Option.some Jvm.ClassFile.FieldType.int)) ∈ lw_all := lw_g (lw_at lw_m7 233 rfl) rfl
theorem q1741 : (Jvm.Cond.instanceMethod ({ cls := "TreeDiffer", name := "value", desc := "(II)I" } : Jvm.MethodName)) ∈ lw_all := lw_g (lw_at lw_m7 238 rfl) rfl
theorem q1742 : (Jvm.Cond.selects "TreeDiffer" ({ cls := "TreeDiffer", name := "value", desc := "(II)I" } : Jvm.MethodName) ({ cls := "TreeDiffer", name := "value", desc := "(II)I" } : Jvm.MethodName)) ∈ lw_all := lw_g (lw_at lw_m7 239 rfl) rfl
theorem q1743 : (Jvm.Cond.code ({ cls := "TreeDiffer", name := "value", desc := "(II)I" } : Jvm.MethodName) prog_1_method_26_code (3 : Nat) (Option.some Jvm.ClassFile.FieldType.int)) ∈ lw_all := lw_g (lw_at lw_m8 0 rfl) rfl
theorem q1748 : (Jvm.Cond.instanceMethod ({ cls := "TreeDiffer", name := "children", desc := "(II)I" } : Jvm.MethodName)) ∈ lw_all := lw_g (lw_at lw_m8 5 rfl) rfl
theorem q1749 : (Jvm.Cond.selects "TreeDiffer" ({ cls := "TreeDiffer", name := "children", desc := "(II)I" } : Jvm.MethodName) ({ cls := "TreeDiffer", name := "children", desc := "(II)I" } : Jvm.MethodName)) ∈ lw_all := lw_g (lw_at lw_m8 6 rfl) rfl
theorem q1750 : (Jvm.Cond.code ({ cls := "TreeDiffer", name := "children", desc := "(II)I" } : Jvm.MethodName) prog_1_method_27_code (3 : Nat) (Option.some Jvm.ClassFile.FieldType.int)) ∈ lw_all := lw_g (lw_at lw_m8 7 rfl) rfl
theorem q1755 : (Jvm.Cond.instanceMethod ({ cls := "TreeDiffer", name := "parent", desc := "(II)I" } : Jvm.MethodName)) ∈ lw_all := lw_g (lw_at lw_m8 12 rfl) rfl
theorem q1756 : (Jvm.Cond.selects "TreeDiffer" ({ cls := "TreeDiffer", name := "parent", desc := "(II)I" } : Jvm.MethodName) ({ cls := "TreeDiffer", name := "parent", desc := "(II)I" } : Jvm.MethodName)) ∈ lw_all := lw_g (lw_at lw_m8 13 rfl) rfl
theorem q1757 : (Jvm.Cond.code ({ cls := "TreeDiffer", name := "parent", desc := "(II)I" } : Jvm.MethodName) prog_1_method_28_code (5 : Nat) (Option.some Jvm.ClassFile.FieldType.int)) ∈ lw_all := lw_g (lw_at lw_m8 14 rfl) rfl
theorem q1762 : (Jvm.Cond.instanceMethod ({ cls := "TreeDiffer", name := "subtreeSize", desc := "(II)I" } : Jvm.MethodName)) ∈ lw_all := lw_g (lw_at lw_m8 19 rfl) rfl
theorem q1763 : (Jvm.Cond.selects "TreeDiffer" ({ cls := "TreeDiffer", name := "subtreeSize", desc := "(II)I" } : Jvm.MethodName) ({ cls := "TreeDiffer", name := "subtreeSize", desc := "(II)I" } : Jvm.MethodName)) ∈ lw_all := lw_g (lw_at lw_m8 20 rfl) rfl
theorem q1764 : (Jvm.Cond.code ({ cls := "TreeDiffer", name := "subtreeSize", desc := "(II)I" } : Jvm.MethodName) prog_1_method_29_code (3 : Nat) (Option.some Jvm.ClassFile.FieldType.int)) ∈ lw_all := lw_g (lw_at lw_m8 21 rfl) rfl
theorem q1769 : (Jvm.Cond.instanceMethod ({ cls := "TreeDiffer", name := "subtreeHash", desc := "(II)I" } : Jvm.MethodName)) ∈ lw_all := lw_g (lw_at lw_m8 26 rfl) rfl
theorem q1770 : (Jvm.Cond.selects "TreeDiffer" ({ cls := "TreeDiffer", name := "subtreeHash", desc := "(II)I" } : Jvm.MethodName) ({ cls := "TreeDiffer", name := "subtreeHash", desc := "(II)I" } : Jvm.MethodName)) ∈ lw_all := lw_g (lw_at lw_m8 27 rfl) rfl
theorem q1771 : (Jvm.Cond.code ({ cls := "TreeDiffer", name := "subtreeHash", desc := "(II)I" } : Jvm.MethodName) prog_1_method_30_code (3 : Nat) (Option.some Jvm.ClassFile.FieldType.int)) ∈ lw_all := lw_g (lw_at lw_m8 28 rfl) rfl
theorem q1772 : (Jvm.Cond.methodLink "TreeDiffer" (203 : Nat) ({ cls := "TreeDiffer$Node", name := "hash", desc := "()I" } : Jvm.MethodName)) ∈ lw_all := lw_g (lw_at lw_m8 29 rfl) rfl
theorem q1781 : (Jvm.Cond.instanceMethod ({ cls := "TreeDiffer", name := "areEqual", desc := "(IIII)Z" } : Jvm.MethodName)) ∈ lw_all := lw_g (lw_at lw_m8 38 rfl) rfl
theorem q1782 : (Jvm.Cond.selects "TreeDiffer" ({ cls := "TreeDiffer", name := "areEqual", desc := "(IIII)Z" } : Jvm.MethodName) ({ cls := "TreeDiffer", name := "areEqual", desc := "(IIII)Z" } : Jvm.MethodName)) ∈ lw_all := lw_g (lw_at lw_m8 39 rfl) rfl
theorem q1783 : (Jvm.Cond.code ({ cls := "TreeDiffer", name := "areEqual", desc := "(IIII)Z" } : Jvm.MethodName) prog_1_method_31_code (6 : Nat) (Option.some Jvm.ClassFile.FieldType.boolean)) ∈ lw_all := lw_g (lw_at lw_m8 40 rfl) rfl
theorem q1788 : (Jvm.Cond.instanceMethod ({ cls := "TreeDiffer", name := "twin", desc := "(III)I" } : Jvm.MethodName)) ∈ lw_all := lw_g (lw_at lw_m8 45 rfl) rfl
theorem q1789 : (Jvm.Cond.selects "TreeDiffer" ({ cls := "TreeDiffer", name := "twin", desc := "(III)I" } : Jvm.MethodName) ({ cls := "TreeDiffer", name := "twin", desc := "(III)I" } : Jvm.MethodName)) ∈ lw_all := lw_g (lw_at lw_m8 46 rfl) rfl
theorem q1790 : (Jvm.Cond.code ({ cls := "TreeDiffer", name := "twin", desc := "(III)I" } : Jvm.MethodName) prog_1_method_32_code (9 : Nat) (Option.some Jvm.ClassFile.FieldType.int)) ∈ lw_all := lw_g (lw_at lw_m8 47 rfl) rfl
theorem q1795 : (Jvm.Cond.instanceMethod ({ cls := "TreeDiffer", name := "shapeTwin", desc := "(III)I" } : Jvm.MethodName)) ∈ lw_all := lw_g (lw_at lw_m8 52 rfl) rfl
theorem q1796 : (Jvm.Cond.selects "TreeDiffer" ({ cls := "TreeDiffer", name := "shapeTwin", desc := "(III)I" } : Jvm.MethodName) ({ cls := "TreeDiffer", name := "shapeTwin", desc := "(III)I" } : Jvm.MethodName)) ∈ lw_all := lw_g (lw_at lw_m8 53 rfl) rfl
theorem q1797 : (Jvm.Cond.code ({ cls := "TreeDiffer", name := "shapeTwin", desc := "(III)I" } : Jvm.MethodName) prog_1_method_33_code (8 : Nat) (Option.some Jvm.ClassFile.FieldType.int)) ∈ lw_all := lw_g (lw_at lw_m8 54 rfl) rfl
theorem q1802 : (Jvm.Cond.instanceMethod ({ cls := "TreeDiffer", name := "distance", desc := "(II)I" } : Jvm.MethodName)) ∈ lw_all := lw_g (lw_at lw_m8 59 rfl) rfl
theorem q1803 : (Jvm.Cond.selects "TreeDiffer" ({ cls := "TreeDiffer", name := "distance", desc := "(II)I" } : Jvm.MethodName) ({ cls := "TreeDiffer", name := "distance", desc := "(II)I" } : Jvm.MethodName)) ∈ lw_all := lw_g (lw_at lw_m8 60 rfl) rfl
theorem q1804 : (Jvm.Cond.code ({ cls := "TreeDiffer", name := "distance", desc := "(II)I" } : Jvm.MethodName) prog_1_method_37_code (4 : Nat) (Option.some Jvm.ClassFile.FieldType.int)) ∈ lw_all := lw_g (lw_at lw_m8 61 rfl) rfl
theorem q1809 : (Jvm.Cond.instanceMethod ({ cls := "TreeDiffer", name := "distanceByMatchings", desc := "(II)I" } : Jvm.MethodName)) ∈ lw_all := lw_g (lw_at lw_m8 66 rfl) rfl
theorem q1810 : (Jvm.Cond.selects "TreeDiffer" ({ cls := "TreeDiffer", name := "distanceByMatchings", desc := "(II)I" } : Jvm.MethodName) ({ cls := "TreeDiffer", name := "distanceByMatchings", desc := "(II)I" } : Jvm.MethodName)) ∈ lw_all := lw_g (lw_at lw_m8 67 rfl) rfl
theorem q1811 : (Jvm.Cond.code ({ cls := "TreeDiffer", name := "distanceByMatchings", desc := "(II)I" } : Jvm.MethodName) prog_1_method_39_code (5 : Nat) (Option.some Jvm.ClassFile.FieldType.int)) ∈ lw_all := lw_g (lw_at lw_m8 68 rfl) rfl
theorem q1816 : (Jvm.Cond.instanceMethod ({ cls := "TreeDiffer", name := "similarity", desc := "(II)D" } : Jvm.MethodName)) ∈ lw_all := lw_g (lw_at lw_m8 73 rfl) rfl
theorem q1817 : (Jvm.Cond.selects "TreeDiffer" ({ cls := "TreeDiffer", name := "similarity", desc := "(II)D" } : Jvm.MethodName) ({ cls := "TreeDiffer", name := "similarity", desc := "(II)D" } : Jvm.MethodName)) ∈ lw_all := lw_g (lw_at lw_m8 74 rfl) rfl
theorem q1818 : (Jvm.Cond.code ({ cls := "TreeDiffer", name := "similarity", desc := "(II)D" } : Jvm.MethodName) prog_1_method_40_code (5 : Nat) (Option.some Jvm.ClassFile.FieldType.double)) ∈ lw_all := lw_g (lw_at lw_m8 75 rfl) rfl
theorem q1823 : (Jvm.Cond.instanceMethod ({ cls := "TreeDiffer", name := "diff", desc := "(II)I" } : Jvm.MethodName)) ∈ lw_all := lw_g (lw_at lw_m8 80 rfl) rfl
theorem q1824 : (Jvm.Cond.selects "TreeDiffer" ({ cls := "TreeDiffer", name := "diff", desc := "(II)I" } : Jvm.MethodName) ({ cls := "TreeDiffer", name := "diff", desc := "(II)I" } : Jvm.MethodName)) ∈ lw_all := lw_g (lw_at lw_m8 81 rfl) rfl
theorem q1825 : (Jvm.Cond.code ({ cls := "TreeDiffer", name := "diff", desc := "(II)I" } : Jvm.MethodName) prog_1_method_44_code (5 : Nat) (Option.some Jvm.ClassFile.FieldType.int)) ∈ lw_all := lw_g (lw_at lw_m8 82 rfl) rfl
theorem q1826 : (Jvm.Cond.classLink "TreeDiffer" (116 : Nat) "TreeDiffer$Script") ∈ lw_all := lw_g (lw_at lw_m8 83 rfl) rfl
theorem q1828 : (Jvm.Cond.methodLink "TreeDiffer" (275 : Nat) ({ cls := "TreeDiffer$Script", name := "<init>", desc := "(LTreeDiffer$Tree;LTreeDiffer$Tree;)V" } : Jvm.MethodName)) ∈ lw_all := lw_g (lw_at lw_m8 85 rfl) rfl
theorem q1892 : (Jvm.Cond.fieldLinkNest "TreeDiffer" (289 : Nat) "TreeDiffer$Script" "oldTree" "LTreeDiffer$Tree;" "TreeDiffer") ∈ lw_tbl := lw_at lw_m8 149 rfl
theorem q1895 : (Jvm.Cond.fieldLinkNest "TreeDiffer" (285 : Nat) "TreeDiffer$Script" "newTree" "LTreeDiffer$Tree;" "TreeDiffer") ∈ lw_tbl := lw_at lw_m8 152 rfl
theorem q1899 : (Jvm.Cond.fieldLinkNest "TreeDiffer" (115 : Nat) "TreeDiffer$Script" "operations" "Ljava/util/List;" "TreeDiffer") ∈ lw_tbl := lw_at lw_m8 156 rfl
theorem q1911 : (Jvm.Cond.instanceMethod ({ cls := "TreeDiffer", name := "operations", desc := "()I" } : Jvm.MethodName)) ∈ lw_all := lw_g (lw_at lw_m8 168 rfl) rfl
theorem q1912 : (Jvm.Cond.selects "TreeDiffer" ({ cls := "TreeDiffer", name := "operations", desc := "()I" } : Jvm.MethodName) ({ cls := "TreeDiffer", name := "operations", desc := "()I" } : Jvm.MethodName)) ∈ lw_all := lw_g (lw_at lw_m8 169 rfl) rfl
theorem q1913 : (Jvm.Cond.code ({ cls := "TreeDiffer", name := "operations", desc := "()I" } : Jvm.MethodName) prog_1_method_45_code (1 : Nat) (Option.some Jvm.ClassFile.FieldType.int)) ∈ lw_all := lw_g (lw_at lw_m8 170 rfl) rfl
theorem q1918 : (Jvm.Cond.instanceMethod ({ cls := "TreeDiffer", name := "opKind", desc := "(I)C" } : Jvm.MethodName)) ∈ lw_all := lw_g (lw_at lw_m8 175 rfl) rfl
theorem q1919 : (Jvm.Cond.selects "TreeDiffer" ({ cls := "TreeDiffer", name := "opKind", desc := "(I)C" } : Jvm.MethodName) ({ cls := "TreeDiffer", name := "opKind", desc := "(I)C" } : Jvm.MethodName)) ∈ lw_all := lw_g (lw_at lw_m8 176 rfl) rfl
theorem q1920 : (Jvm.Cond.code ({ cls := "TreeDiffer", name := "opKind", desc := "(I)C" } : Jvm.MethodName) prog_1_method_46_code (2 : Nat) (Option.some Jvm.ClassFile.FieldType.char)) ∈ lw_all := lw_g (lw_at lw_m8 177 rfl) rfl
theorem q1921 : (Jvm.Cond.methodLink "TreeDiffer" (278 : Nat) ({ cls := "TreeDiffer", name := "operationOf", desc := "(I)LTreeDiffer$Operation;" } : Jvm.MethodName)) ∈ lw_all := lw_g (lw_at lw_m8 178 rfl) rfl
theorem q1922 : (Jvm.Cond.privateMethod ({ cls := "TreeDiffer", name := "operationOf", desc := "(I)LTreeDiffer$Operation;" } : Jvm.MethodName)) ∈ lw_tbl := lw_at lw_m8 179 rfl
theorem q1923 : (Jvm.Cond.instanceMethod ({ cls := "TreeDiffer", name := "operationOf", desc := "(I)LTreeDiffer$Operation;" } : Jvm.MethodName)) ∈ lw_all := lw_g (lw_at lw_m8 180 rfl) rfl
theorem q1924 : (Jvm.Cond.code ({ cls := "TreeDiffer", name := "operationOf", desc := "(I)LTreeDiffer$Operation;" } : Jvm.MethodName) prog_1_method_43_code (3 : Nat) (Option.some (Jvm.ClassFile.FieldType.object "TreeDiffer$Operation"))) ∈ lw_all := lw_g (lw_at lw_m8 181 rfl) rfl
theorem q1929 : (Jvm.Cond.instanceMethod ({ cls := "TreeDiffer", name := "opNode", desc := "(I)I" } : Jvm.MethodName)) ∈ lw_all := lw_g (lw_at lw_m8 186 rfl) rfl
theorem q1930 : (Jvm.Cond.selects "TreeDiffer" ({ cls := "TreeDiffer", name := "opNode", desc := "(I)I" } : Jvm.MethodName) ({ cls := "TreeDiffer", name := "opNode", desc := "(I)I" } : Jvm.MethodName)) ∈ lw_all := lw_g (lw_at lw_m8 187 rfl) rfl
theorem q1931 : (Jvm.Cond.code ({ cls := "TreeDiffer", name := "opNode", desc := "(I)I" } : Jvm.MethodName) prog_1_method_47_code (3 : Nat) (Option.some Jvm.ClassFile.FieldType.int)) ∈ lw_all := lw_g (lw_at lw_m8 188 rfl) rfl
theorem q1936 : (Jvm.Cond.instanceMethod ({ cls := "TreeDiffer", name := "opTarget", desc := "(I)I" } : Jvm.MethodName)) ∈ lw_all := lw_g (lw_at lw_m8 193 rfl) rfl
theorem q1937 : (Jvm.Cond.selects "TreeDiffer" ({ cls := "TreeDiffer", name := "opTarget", desc := "(I)I" } : Jvm.MethodName) ({ cls := "TreeDiffer", name := "opTarget", desc := "(I)I" } : Jvm.MethodName)) ∈ lw_all := lw_g (lw_at lw_m8 194 rfl) rfl
theorem q1938 : (Jvm.Cond.code ({ cls := "TreeDiffer", name := "opTarget", desc := "(I)I" } : Jvm.MethodName) prog_1_method_48_code (3 : Nat) (Option.some Jvm.ClassFile.FieldType.int)) ∈ lw_all := lw_g (lw_at lw_m8 195 rfl) rfl
theorem q1943 : (Jvm.Cond.instanceMethod ({ cls := "TreeDiffer", name := "partner", desc := "(I)I" } : Jvm.MethodName)) ∈ lw_all := lw_g (lw_at lw_m8 200 rfl) rfl
theorem q1944 : (Jvm.Cond.selects "TreeDiffer" ({ cls := "TreeDiffer", name := "partner", desc := "(I)I" } : Jvm.MethodName) ({ cls := "TreeDiffer", name := "partner", desc := "(I)I" } : Jvm.MethodName)) ∈ lw_all := lw_g (lw_at lw_m8 201 rfl) rfl
theorem q1945 : (Jvm.Cond.code ({ cls := "TreeDiffer", name := "partner", desc := "(I)I" } : Jvm.MethodName) prog_1_method_49_code (3 : Nat) (Option.some Jvm.ClassFile.FieldType.int)) ∈ lw_all := lw_g (lw_at lw_m8 202 rfl) rfl
theorem q1950 : (Jvm.Cond.instanceMethod ({ cls := "TreeDiffer", name := "moves", desc := "()I" } : Jvm.MethodName)) ∈ lw_all := lw_g (lw_at lw_m8 207 rfl) rfl
theorem q1951 : (Jvm.Cond.selects "TreeDiffer" ({ cls := "TreeDiffer", name := "moves", desc := "()I" } : Jvm.MethodName) ({ cls := "TreeDiffer", name := "moves", desc := "()I" } : Jvm.MethodName)) ∈ lw_all := lw_g (lw_at lw_m8 208 rfl) rfl
theorem q1952 : (Jvm.Cond.code ({ cls := "TreeDiffer", name := "moves", desc := "()I" } : Jvm.MethodName) prog_1_method_50_code (4 : Nat) (Option.some Jvm.ClassFile.FieldType.int)) ∈ lw_all := lw_g (lw_at lw_m8 209 rfl) rfl
theorem q1957 : (Jvm.Cond.instanceMethod ({ cls := "TreeDiffer", name := "scriptCost", desc := "()I" } : Jvm.MethodName)) ∈ lw_all := lw_g (lw_at lw_m8 214 rfl) rfl
theorem q1958 : (Jvm.Cond.selects "TreeDiffer" ({ cls := "TreeDiffer", name := "scriptCost", desc := "()I" } : Jvm.MethodName) ({ cls := "TreeDiffer", name := "scriptCost", desc := "()I" } : Jvm.MethodName)) ∈ lw_all := lw_g (lw_at lw_m8 215 rfl) rfl
theorem q1959 : (Jvm.Cond.code ({ cls := "TreeDiffer", name := "scriptCost", desc := "()I" } : Jvm.MethodName) prog_1_method_51_code (1 : Nat) (Option.some Jvm.ClassFile.FieldType.int)) ∈ lw_all := lw_g (lw_at lw_m8 216 rfl) rfl
theorem q1964 : (Jvm.Cond.instanceMethod ({ cls := "TreeDiffer", name := "givesTarget", desc := "()Z" } : Jvm.MethodName)) ∈ lw_all := lw_g (lw_at lw_m8 221 rfl) rfl
theorem q1965 : (Jvm.Cond.selects "TreeDiffer" ({ cls := "TreeDiffer", name := "givesTarget", desc := "()Z" } : Jvm.MethodName) ({ cls := "TreeDiffer", name := "givesTarget", desc := "()Z" } : Jvm.MethodName)) ∈ lw_all := lw_g (lw_at lw_m8 222 rfl) rfl
theorem q1966 : (Jvm.Cond.code ({ cls := "TreeDiffer", name := "givesTarget", desc := "()Z" } : Jvm.MethodName) prog_1_method_52_code (1 : Nat) (Option.some Jvm.ClassFile.FieldType.boolean)) ∈ lw_all := lw_g (lw_at lw_m8 223 rfl) rfl
theorem q1971 : (Jvm.Cond.instanceMethod ({ cls := "TreeDiffer", name := "patch", desc := "(I)I" } : Jvm.MethodName)) ∈ lw_all := lw_g (lw_at lw_m8 228 rfl) rfl
theorem q1972 : (Jvm.Cond.selects "TreeDiffer" ({ cls := "TreeDiffer", name := "patch", desc := "(I)I" } : Jvm.MethodName) ({ cls := "TreeDiffer", name := "patch", desc := "(I)I" } : Jvm.MethodName)) ∈ lw_all := lw_g (lw_at lw_m8 229 rfl) rfl
theorem q1973 : (Jvm.Cond.codeWith ({ cls := "TreeDiffer", name := "patch", desc := "(I)I" } : Jvm.MethodName) prog_1_method_53_code (5 : Nat) (Option.some Jvm.ClassFile.FieldType.int) [((22 : Nat), (26 : Nat), (29 : Nat), (308 : Nat))]) ∈ lw_all := lw_g (lw_at lw_m8 230 rfl) rfl
theorem q1974 : (Jvm.Cond.classLink "TreeDiffer" (308 : Nat) "TreeDiffer$Conflict") ∈ lw_all := lw_g (lw_at lw_m8 231 rfl) rfl
theorem q1975 : (Jvm.Cond.classLink "TreeDiffer" (300 : Nat) "TreeDiffer$Patch") ∈ lw_all := lw_g (lw_at lw_m8 232 rfl) rfl
theorem q1976 : (Jvm.Cond.methodLink "TreeDiffer" (302 : Nat) ({ cls := "TreeDiffer$Patch", name := "<init>", desc := "(LTreeDiffer$Script;LTreeDiffer$Tree;)V" } : Jvm.MethodName)) ∈ lw_all := lw_g (lw_at lw_m8 233 rfl) rfl
theorem q1977 : (Jvm.Cond.methodLink "TreeDiffer" (305 : Nat) ({ cls := "TreeDiffer$Patch", name := "apply", desc := "()V" } : Jvm.MethodName)) ∈ lw_all := lw_g (lw_at lw_m8 234 rfl) rfl
theorem q1982 : (Jvm.Cond.instanceMethod ({ cls := "TreeDiffer", name := "conflictOperation", desc := "()I" } : Jvm.MethodName)) ∈ lw_all := lw_g (lw_at lw_m8 239 rfl) rfl
theorem q1983 : (Jvm.Cond.selects "TreeDiffer" ({ cls := "TreeDiffer", name := "conflictOperation", desc := "()I" } : Jvm.MethodName) ({ cls := "TreeDiffer", name := "conflictOperation", desc := "()I" } : Jvm.MethodName)) ∈ lw_all := lw_g (lw_at lw_m9 0 rfl) rfl
theorem q1984 : (Jvm.Cond.code ({ cls := "TreeDiffer", name := "conflictOperation", desc := "()I" } : Jvm.MethodName) prog_1_method_54_code (1 : Nat) (Option.some Jvm.ClassFile.FieldType.int)) ∈ lw_all := lw_g (lw_at lw_m9 1 rfl) rfl
theorem q1989 : (Jvm.Cond.instanceMethod ({ cls := "TreeDiffer", name := "conflictReason", desc := "()C" } : Jvm.MethodName)) ∈ lw_all := lw_g (lw_at lw_m9 6 rfl) rfl
theorem q1990 : (Jvm.Cond.selects "TreeDiffer" ({ cls := "TreeDiffer", name := "conflictReason", desc := "()C" } : Jvm.MethodName) ({ cls := "TreeDiffer", name := "conflictReason", desc := "()C" } : Jvm.MethodName)) ∈ lw_all := lw_g (lw_at lw_m9 7 rfl) rfl
theorem q1991 : (Jvm.Cond.code ({ cls := "TreeDiffer", name := "conflictReason", desc := "()C" } : Jvm.MethodName) prog_1_method_55_code (1 : Nat) (Option.some Jvm.ClassFile.FieldType.char)) ∈ lw_all := lw_g (lw_at lw_m9 8 rfl) rfl
theorem q1992 : (Jvm.Cond.methodLink "TreeDiffer" (317 : Nat) ({ cls := "TreeDiffer$Conflict", name := "reason", desc := "()C" } : Jvm.MethodName)) ∈ lw_all := lw_g (lw_at lw_m9 9 rfl) rfl
theorem q2557 : (Jvm.Cond.castable "TreeDiffer" "java/lang/Object") ∈ lw_tbl := lw_at lw_m11 94 rfl
theorem in_X1 : ∀ w ∈ wsX10, w ∈ lw_all := lw_in wsX10 [253, 255, 257, 259, 261, 263] (by decide +kernel) (by decide +kernel)

/-! TreeDiffer$Script -/
set_option maxRecDepth 100000
def RX10 : String := "TreeDiffer$Script"
def TX10 : u_T := fun k => match k with
  | 0 => ("TreeDiffer$Script", "oldTree", "LTreeDiffer$Tree;", true)
  | 1 => ("TreeDiffer$Script", "newTree", "LTreeDiffer$Tree;", true)
  | _ => ("TreeDiffer$Script", "operations", "Ljava/util/List;", true)
def tyX10 : Nat → FieldType := fun k => match k with
  | 0 => .object "TreeDiffer$Tree"
  | 1 => .object "TreeDiffer$Tree"
  | _ => .object "java/util/List"
abbrev wsX100 : List Cond := u_ws RX10 TX10 3
theorem nmX10 : ∀ a, a < 3 → ∀ b, b < 3 → a ≠ b → (TX10 a).2.1 ≠ (TX10 b).2.1 := by decide +kernel
theorem tyX10_ok : ∀ k, k < 3 → parseFieldDescriptor (TX10 k).2.2.1 = some (tyX10 k) := by decide +kernel
abbrev cX10_givesTarget : ByteArray := prog_12_method_6_code
def yX10_givesTarget : MethodName := ⟨RX10, "givesTarget", "()Z"⟩
def dkwX10_givesTarget_1 : List UInt8 := [3, 172, 43, 180, 0, 23, 42, 180, 0, 20, 180, 0, 23, 3, 182, 0, 78, 172]
abbrev dktX10_givesTarget_1 : List UInt8 := dkwX10_givesTarget_1 ++ []
def dkwX10_givesTarget_0 : List UInt8 := [42, 180, 0, 16, 182, 0, 92, 76, 187, 0, 96, 89, 42, 43, 183, 0, 98, 182, 0, 101, 167, 0, 6, 77]
abbrev dktX10_givesTarget_0 : List UInt8 := dkwX10_givesTarget_0 ++ dktX10_givesTarget_1
theorem dksX10_givesTarget_0 : cX10_givesTarget.data.toList.drop 0 = dktX10_givesTarget_0 := by decide +kernel
theorem dksX10_givesTarget_1 : cX10_givesTarget.data.toList.drop 24 = dktX10_givesTarget_1 := dk_seg dksX10_givesTarget_0 24 rfl rfl
theorem dX10_givesTarget_0 : decode cX10_givesTarget 0 = .ok (.aload_n 0, 1) := dk_42 (dk_at dksX10_givesTarget_0 0 rfl rfl)
theorem dX10_givesTarget_1 : decode cX10_givesTarget 1 = .ok (.getfield 16, 3) := dk_180 0 16 (dk_at dksX10_givesTarget_0 1 rfl rfl)
theorem dX10_givesTarget_4 : decode cX10_givesTarget 4 = .ok (.invokevirtual 92, 3) := dk_182 0 92 (dk_at dksX10_givesTarget_0 4 rfl rfl)
theorem dX10_givesTarget_7 : decode cX10_givesTarget 7 = .ok (.astore_n 1, 1) := dk_76 (dk_at dksX10_givesTarget_0 7 rfl rfl)
theorem dX10_givesTarget_8 : decode cX10_givesTarget 8 = .ok (.new 96, 3) := dk_187 0 96 (dk_at dksX10_givesTarget_0 8 rfl rfl)
theorem dX10_givesTarget_11 : decode cX10_givesTarget 11 = .ok (.dup, 1) := dk_89 (dk_at dksX10_givesTarget_0 11 rfl rfl)
theorem dX10_givesTarget_12 : decode cX10_givesTarget 12 = .ok (.aload_n 0, 1) := dk_42 (dk_at dksX10_givesTarget_0 12 rfl rfl)
theorem dX10_givesTarget_13 : decode cX10_givesTarget 13 = .ok (.aload_n 1, 1) := dk_43 (dk_at dksX10_givesTarget_0 13 rfl rfl)
theorem dX10_givesTarget_14 : decode cX10_givesTarget 14 = .ok (.invokespecial 98, 3) := dk_183 0 98 (dk_at dksX10_givesTarget_0 14 rfl rfl)
theorem dX10_givesTarget_17 : decode cX10_givesTarget 17 = .ok (.invokevirtual 101, 3) := dk_182 0 101 (dk_at dksX10_givesTarget_0 17 rfl rfl)
theorem dX10_givesTarget_20 : decode cX10_givesTarget 20 = .ok (.goto 6, 3) := dk_167 0 6 (dk_at dksX10_givesTarget_0 20 rfl rfl)
theorem dX10_givesTarget_23 : decode cX10_givesTarget 23 = .ok (.astore_n 2, 1) := dk_77 (dk_at dksX10_givesTarget_0 23 rfl rfl)
theorem dX10_givesTarget_24 : decode cX10_givesTarget 24 = .ok (.iconst 0, 1) := dk_3 (dk_at dksX10_givesTarget_1 0 rfl rfl)
theorem dX10_givesTarget_25 : decode cX10_givesTarget 25 = .ok (.ireturn, 1) := dk_172 (dk_at dksX10_givesTarget_1 1 rfl rfl)
theorem dX10_givesTarget_26 : decode cX10_givesTarget 26 = .ok (.aload_n 1, 1) := dk_43 (dk_at dksX10_givesTarget_1 2 rfl rfl)
theorem dX10_givesTarget_27 : decode cX10_givesTarget 27 = .ok (.getfield 23, 3) := dk_180 0 23 (dk_at dksX10_givesTarget_1 3 rfl rfl)
theorem dX10_givesTarget_30 : decode cX10_givesTarget 30 = .ok (.aload_n 0, 1) := dk_42 (dk_at dksX10_givesTarget_1 6 rfl rfl)
theorem dX10_givesTarget_31 : decode cX10_givesTarget 31 = .ok (.getfield 20, 3) := dk_180 0 20 (dk_at dksX10_givesTarget_1 7 rfl rfl)
theorem dX10_givesTarget_34 : decode cX10_givesTarget 34 = .ok (.getfield 23, 3) := dk_180 0 23 (dk_at dksX10_givesTarget_1 10 rfl rfl)
theorem dX10_givesTarget_37 : decode cX10_givesTarget 37 = .ok (.iconst 0, 1) := dk_3 (dk_at dksX10_givesTarget_1 13 rfl rfl)
theorem dX10_givesTarget_38 : decode cX10_givesTarget 38 = .ok (.invokevirtual 78, 3) := dk_182 0 78 (dk_at dksX10_givesTarget_1 14 rfl rfl)
theorem dX10_givesTarget_41 : decode cX10_givesTarget 41 = .ok (.ireturn, 1) := dk_172 (dk_at dksX10_givesTarget_1 17 rfl rfl)
abbrev cX10_cost : ByteArray := prog_12_method_5_code
def yX10_cost : MethodName := ⟨RX10, "cost", "()I"⟩
def dkwX10_cost_1 : List UInt8 := [185, 0, 55, 1, 0, 192, 0, 59, 78, 27, 45, 182, 0, 88, 96, 60, 167, 255, 230, 27, 172]
abbrev dktX10_cost_1 : List UInt8 := dkwX10_cost_1 ++ []
def dkwX10_cost_0 : List UInt8 := [3, 60, 42, 180, 0, 10, 185, 0, 43, 1, 0, 77, 44, 185, 0, 49, 1, 0, 153, 0, 23, 44]
abbrev dktX10_cost_0 : List UInt8 := dkwX10_cost_0 ++ dktX10_cost_1
theorem dksX10_cost_0 : cX10_cost.data.toList.drop 0 = dktX10_cost_0 := by decide +kernel
theorem dksX10_cost_1 : cX10_cost.data.toList.drop 22 = dktX10_cost_1 := dk_seg dksX10_cost_0 22 rfl rfl
theorem dX10_cost_0 : decode cX10_cost 0 = .ok (.iconst 0, 1) := dk_3 (dk_at dksX10_cost_0 0 rfl rfl)
theorem dX10_cost_1 : decode cX10_cost 1 = .ok (.istore_n 1, 1) := dk_60 (dk_at dksX10_cost_0 1 rfl rfl)
theorem dX10_cost_2 : decode cX10_cost 2 = .ok (.aload_n 0, 1) := dk_42 (dk_at dksX10_cost_0 2 rfl rfl)
theorem dX10_cost_3 : decode cX10_cost 3 = .ok (.getfield 10, 3) := dk_180 0 10 (dk_at dksX10_cost_0 3 rfl rfl)
theorem dX10_cost_6 : decode cX10_cost 6 = .ok (.invokeinterface 43 1, 5) := by decide +kernel
theorem dX10_cost_11 : decode cX10_cost 11 = .ok (.astore_n 2, 1) := dk_77 (dk_at dksX10_cost_0 11 rfl rfl)
theorem dX10_cost_12 : decode cX10_cost 12 = .ok (.aload_n 2, 1) := dk_44 (dk_at dksX10_cost_0 12 rfl rfl)
theorem dX10_cost_13 : decode cX10_cost 13 = .ok (.invokeinterface 49 1, 5) := by decide +kernel
theorem dX10_cost_18 : decode cX10_cost 18 = .ok (.ifCond .eq 23, 3) := dk_153 0 23 (dk_at dksX10_cost_0 18 rfl rfl)
theorem dX10_cost_21 : decode cX10_cost 21 = .ok (.aload_n 2, 1) := dk_44 (dk_at dksX10_cost_0 21 rfl rfl)
theorem dX10_cost_22 : decode cX10_cost 22 = .ok (.invokeinterface 55 1, 5) := by decide +kernel
theorem dX10_cost_27 : decode cX10_cost 27 = .ok (.checkcast 59, 3) := dk_192 0 59 (dk_at dksX10_cost_1 5 rfl rfl)
theorem dX10_cost_30 : decode cX10_cost 30 = .ok (.astore_n 3, 1) := dk_78 (dk_at dksX10_cost_1 8 rfl rfl)
theorem dX10_cost_31 : decode cX10_cost 31 = .ok (.iload_n 1, 1) := dk_27 (dk_at dksX10_cost_1 9 rfl rfl)
theorem dX10_cost_32 : decode cX10_cost 32 = .ok (.aload_n 3, 1) := dk_45 (dk_at dksX10_cost_1 10 rfl rfl)
theorem dX10_cost_33 : decode cX10_cost 33 = .ok (.invokevirtual 88, 3) := dk_182 0 88 (dk_at dksX10_cost_1 11 rfl rfl)
theorem dX10_cost_36 : decode cX10_cost 36 = .ok (.iadd, 1) := dk_96 (dk_at dksX10_cost_1 14 rfl rfl)
theorem dX10_cost_37 : decode cX10_cost 37 = .ok (.istore_n 1, 1) := dk_60 (dk_at dksX10_cost_1 15 rfl rfl)
theorem dX10_cost_38 : decode cX10_cost 38 = .ok (.goto (-26), 3) := dk_167 255 230 (dk_at dksX10_cost_1 16 rfl rfl)
theorem dX10_cost_41 : decode cX10_cost 41 = .ok (.iload_n 1, 1) := dk_27 (dk_at dksX10_cost_1 19 rfl rfl)
theorem dX10_cost_42 : decode cX10_cost 42 = .ok (.ireturn, 1) := dk_172 (dk_at dksX10_cost_1 20 rfl rfl)
abbrev cX10_nodeNumber : ByteArray := prog_12_method_4_code
def yX10_nodeNumber : MethodName := ⟨RX10, "nodeNumber", "(LTreeDiffer$Operation;)I"⟩
def dkwX10_nodeNumber_1 : List UInt8 := [180, 0, 16, 43, 180, 0, 65, 182, 0, 84, 172]
abbrev dktX10_nodeNumber_1 : List UInt8 := dkwX10_nodeNumber_1 ++ []
def dkwX10_nodeNumber_0 : List UInt8 := [43, 180, 0, 61, 16, 105, 160, 0, 17, 42, 180, 0, 20, 43, 180, 0, 75, 182, 0, 84, 167, 0, 14, 42]
abbrev dktX10_nodeNumber_0 : List UInt8 := dkwX10_nodeNumber_0 ++ dktX10_nodeNumber_1
theorem dksX10_nodeNumber_0 : cX10_nodeNumber.data.toList.drop 0 = dktX10_nodeNumber_0 := by decide +kernel
theorem dksX10_nodeNumber_1 : cX10_nodeNumber.data.toList.drop 24 = dktX10_nodeNumber_1 := dk_seg dksX10_nodeNumber_0 24 rfl rfl
theorem dX10_nodeNumber_0 : decode cX10_nodeNumber 0 = .ok (.aload_n 1, 1) := dk_43 (dk_at dksX10_nodeNumber_0 0 rfl rfl)
theorem dX10_nodeNumber_1 : decode cX10_nodeNumber 1 = .ok (.getfield 61, 3) := dk_180 0 61 (dk_at dksX10_nodeNumber_0 1 rfl rfl)
theorem dX10_nodeNumber_4 : decode cX10_nodeNumber 4 = .ok (.bipush 105, 2) := dk_16 105 (dk_at dksX10_nodeNumber_0 4 rfl rfl)
theorem dX10_nodeNumber_6 : decode cX10_nodeNumber 6 = .ok (.if_icmp .ne 17, 3) := dk_160 0 17 (dk_at dksX10_nodeNumber_0 6 rfl rfl)
theorem dX10_nodeNumber_9 : decode cX10_nodeNumber 9 = .ok (.aload_n 0, 1) := dk_42 (dk_at dksX10_nodeNumber_0 9 rfl rfl)
theorem dX10_nodeNumber_10 : decode cX10_nodeNumber 10 = .ok (.getfield 20, 3) := dk_180 0 20 (dk_at dksX10_nodeNumber_0 10 rfl rfl)
theorem dX10_nodeNumber_13 : decode cX10_nodeNumber 13 = .ok (.aload_n 1, 1) := dk_43 (dk_at dksX10_nodeNumber_0 13 rfl rfl)
theorem dX10_nodeNumber_14 : decode cX10_nodeNumber 14 = .ok (.getfield 75, 3) := dk_180 0 75 (dk_at dksX10_nodeNumber_0 14 rfl rfl)
theorem dX10_nodeNumber_17 : decode cX10_nodeNumber 17 = .ok (.invokevirtual 84, 3) := dk_182 0 84 (dk_at dksX10_nodeNumber_0 17 rfl rfl)
theorem dX10_nodeNumber_20 : decode cX10_nodeNumber 20 = .ok (.goto 14, 3) := dk_167 0 14 (dk_at dksX10_nodeNumber_0 20 rfl rfl)
theorem dX10_nodeNumber_23 : decode cX10_nodeNumber 23 = .ok (.aload_n 0, 1) := dk_42 (dk_at dksX10_nodeNumber_0 23 rfl rfl)
theorem dX10_nodeNumber_24 : decode cX10_nodeNumber 24 = .ok (.getfield 16, 3) := dk_180 0 16 (dk_at dksX10_nodeNumber_1 0 rfl rfl)
theorem dX10_nodeNumber_27 : decode cX10_nodeNumber 27 = .ok (.aload_n 1, 1) := dk_43 (dk_at dksX10_nodeNumber_1 3 rfl rfl)
theorem dX10_nodeNumber_28 : decode cX10_nodeNumber 28 = .ok (.getfield 65, 3) := dk_180 0 65 (dk_at dksX10_nodeNumber_1 4 rfl rfl)
theorem dX10_nodeNumber_31 : decode cX10_nodeNumber 31 = .ok (.invokevirtual 84, 3) := dk_182 0 84 (dk_at dksX10_nodeNumber_1 7 rfl rfl)
theorem dX10_nodeNumber_34 : decode cX10_nodeNumber 34 = .ok (.ireturn, 1) := dk_172 (dk_at dksX10_nodeNumber_1 10 rfl rfl)
abbrev cX10_init : ByteArray := prog_12_method_1_code
def yX10_init : MethodName := ⟨RX10, "<init>", "(LTreeDiffer$Tree;LTreeDiffer$Tree;)V"⟩
def dkwX10_init_2 : List UInt8 := [182, 0, 40, 177]
abbrev dktX10_init_2 : List UInt8 := dkwX10_init_2 ++ []
def dkwX10_init_1 : List UInt8 := [181, 0, 20, 43, 180, 0, 23, 44, 180, 0, 23, 187, 0, 29, 89, 42, 183, 0, 31, 184, 0, 34, 42]
abbrev dktX10_init_1 : List UInt8 := dkwX10_init_1 ++ dktX10_init_2
def dkwX10_init_0 : List UInt8 := [42, 183, 0, 1, 42, 187, 0, 7, 89, 183, 0, 9, 181, 0, 10, 42, 43, 181, 0, 16, 42, 44]
abbrev dktX10_init_0 : List UInt8 := dkwX10_init_0 ++ dktX10_init_1
theorem dksX10_init_0 : cX10_init.data.toList.drop 0 = dktX10_init_0 := by decide +kernel
theorem dksX10_init_1 : cX10_init.data.toList.drop 22 = dktX10_init_1 := dk_seg dksX10_init_0 22 rfl rfl
theorem dksX10_init_2 : cX10_init.data.toList.drop 45 = dktX10_init_2 := dk_seg dksX10_init_1 23 rfl rfl
theorem dX10_init_0 : decode cX10_init 0 = .ok (.aload_n 0, 1) := dk_42 (dk_at dksX10_init_0 0 rfl rfl)
theorem dX10_init_1 : decode cX10_init 1 = .ok (.invokespecial 1, 3) := dk_183 0 1 (dk_at dksX10_init_0 1 rfl rfl)
theorem dX10_init_4 : decode cX10_init 4 = .ok (.aload_n 0, 1) := dk_42 (dk_at dksX10_init_0 4 rfl rfl)
theorem dX10_init_5 : decode cX10_init 5 = .ok (.new 7, 3) := dk_187 0 7 (dk_at dksX10_init_0 5 rfl rfl)
theorem dX10_init_8 : decode cX10_init 8 = .ok (.dup, 1) := dk_89 (dk_at dksX10_init_0 8 rfl rfl)
theorem dX10_init_9 : decode cX10_init 9 = .ok (.invokespecial 9, 3) := dk_183 0 9 (dk_at dksX10_init_0 9 rfl rfl)
theorem dX10_init_12 : decode cX10_init 12 = .ok (.putfield 10, 3) := dk_181 0 10 (dk_at dksX10_init_0 12 rfl rfl)
theorem dX10_init_15 : decode cX10_init 15 = .ok (.aload_n 0, 1) := dk_42 (dk_at dksX10_init_0 15 rfl rfl)
theorem dX10_init_16 : decode cX10_init 16 = .ok (.aload_n 1, 1) := dk_43 (dk_at dksX10_init_0 16 rfl rfl)
theorem dX10_init_17 : decode cX10_init 17 = .ok (.putfield 16, 3) := dk_181 0 16 (dk_at dksX10_init_0 17 rfl rfl)
theorem dX10_init_20 : decode cX10_init 20 = .ok (.aload_n 0, 1) := dk_42 (dk_at dksX10_init_0 20 rfl rfl)
theorem dX10_init_21 : decode cX10_init 21 = .ok (.aload_n 2, 1) := dk_44 (dk_at dksX10_init_0 21 rfl rfl)
theorem dX10_init_22 : decode cX10_init 22 = .ok (.putfield 20, 3) := dk_181 0 20 (dk_at dksX10_init_1 0 rfl rfl)
theorem dX10_init_25 : decode cX10_init 25 = .ok (.aload_n 1, 1) := dk_43 (dk_at dksX10_init_1 3 rfl rfl)
theorem dX10_init_26 : decode cX10_init 26 = .ok (.getfield 23, 3) := dk_180 0 23 (dk_at dksX10_init_1 4 rfl rfl)
theorem dX10_init_29 : decode cX10_init 29 = .ok (.aload_n 2, 1) := dk_44 (dk_at dksX10_init_1 7 rfl rfl)
theorem dX10_init_30 : decode cX10_init 30 = .ok (.getfield 23, 3) := dk_180 0 23 (dk_at dksX10_init_1 8 rfl rfl)
theorem dX10_init_33 : decode cX10_init 33 = .ok (.new 29, 3) := dk_187 0 29 (dk_at dksX10_init_1 11 rfl rfl)
theorem dX10_init_36 : decode cX10_init 36 = .ok (.dup, 1) := dk_89 (dk_at dksX10_init_1 14 rfl rfl)
theorem dX10_init_37 : decode cX10_init 37 = .ok (.aload_n 0, 1) := dk_42 (dk_at dksX10_init_1 15 rfl rfl)
theorem dX10_init_38 : decode cX10_init 38 = .ok (.invokespecial 31, 3) := dk_183 0 31 (dk_at dksX10_init_1 16 rfl rfl)
theorem dX10_init_41 : decode cX10_init 41 = .ok (.invokestatic 34, 3) := dk_184 0 34 (dk_at dksX10_init_1 19 rfl rfl)
theorem dX10_init_44 : decode cX10_init 44 = .ok (.aload_n 0, 1) := dk_42 (dk_at dksX10_init_1 22 rfl rfl)
theorem dX10_init_45 : decode cX10_init 45 = .ok (.invokevirtual 40, 3) := dk_182 0 40 (dk_at dksX10_init_2 0 rfl rfl)
theorem dX10_init_48 : decode cX10_init 48 = .ok (.return_, 1) := dk_177 (dk_at dksX10_init_2 3 rfl rfl)
abbrev cX10_recognizeMoves : ByteArray := prog_12_method_2_code
def yX10_recognizeMoves : MethodName := ⟨RX10, "recognizeMoves", "()V"⟩
def dkwX10_recognizeMoves_3 : List UInt8 := [181, 0, 65, 43, 185, 0, 72, 1, 0, 167, 255, 191, 177]
abbrev dktX10_recognizeMoves_3 : List UInt8 := dkwX10_recognizeMoves_3 ++ []
def dkwX10_recognizeMoves_2 : List UInt8 := [182, 0, 68, 167, 0, 4, 1, 78, 45, 198, 0, 23, 45, 16, 109, 181, 0, 61, 45, 44, 180, 0, 65]
abbrev dktX10_recognizeMoves_2 : List UInt8 := dkwX10_recognizeMoves_2 ++ dktX10_recognizeMoves_3
def dkwX10_recognizeMoves_1 : List UInt8 := [185, 0, 55, 1, 0, 192, 0, 59, 77, 44, 180, 0, 61, 16, 100, 160, 0, 14, 42, 44, 180, 0, 65]
abbrev dktX10_recognizeMoves_1 : List UInt8 := dkwX10_recognizeMoves_1 ++ dktX10_recognizeMoves_2
def dkwX10_recognizeMoves_0 : List UInt8 := [42, 180, 0, 10, 185, 0, 43, 1, 0, 76, 43, 185, 0, 49, 1, 0, 153, 0, 62, 43]
abbrev dktX10_recognizeMoves_0 : List UInt8 := dkwX10_recognizeMoves_0 ++ dktX10_recognizeMoves_1
theorem dksX10_recognizeMoves_0 : cX10_recognizeMoves.data.toList.drop 0 = dktX10_recognizeMoves_0 := by decide +kernel
theorem dksX10_recognizeMoves_1 : cX10_recognizeMoves.data.toList.drop 20 = dktX10_recognizeMoves_1 := dk_seg dksX10_recognizeMoves_0 20 rfl rfl
theorem dksX10_recognizeMoves_2 : cX10_recognizeMoves.data.toList.drop 43 = dktX10_recognizeMoves_2 := dk_seg dksX10_recognizeMoves_1 23 rfl rfl
theorem dksX10_recognizeMoves_3 : cX10_recognizeMoves.data.toList.drop 66 = dktX10_recognizeMoves_3 := dk_seg dksX10_recognizeMoves_2 23 rfl rfl
theorem dX10_recognizeMoves_0 : decode cX10_recognizeMoves 0 = .ok (.aload_n 0, 1) := dk_42 (dk_at dksX10_recognizeMoves_0 0 rfl rfl)
theorem dX10_recognizeMoves_1 : decode cX10_recognizeMoves 1 = .ok (.getfield 10, 3) := dk_180 0 10 (dk_at dksX10_recognizeMoves_0 1 rfl rfl)
theorem dX10_recognizeMoves_4 : decode cX10_recognizeMoves 4 = .ok (.invokeinterface 43 1, 5) := by decide +kernel
theorem dX10_recognizeMoves_9 : decode cX10_recognizeMoves 9 = .ok (.astore_n 1, 1) := dk_76 (dk_at dksX10_recognizeMoves_0 9 rfl rfl)
theorem dX10_recognizeMoves_10 : decode cX10_recognizeMoves 10 = .ok (.aload_n 1, 1) := dk_43 (dk_at dksX10_recognizeMoves_0 10 rfl rfl)
theorem dX10_recognizeMoves_11 : decode cX10_recognizeMoves 11 = .ok (.invokeinterface 49 1, 5) := by decide +kernel
theorem dX10_recognizeMoves_16 : decode cX10_recognizeMoves 16 = .ok (.ifCond .eq 62, 3) := dk_153 0 62 (dk_at dksX10_recognizeMoves_0 16 rfl rfl)
theorem dX10_recognizeMoves_19 : decode cX10_recognizeMoves 19 = .ok (.aload_n 1, 1) := dk_43 (dk_at dksX10_recognizeMoves_0 19 rfl rfl)
theorem dX10_recognizeMoves_20 : decode cX10_recognizeMoves 20 = .ok (.invokeinterface 55 1, 5) := by decide +kernel
theorem dX10_recognizeMoves_25 : decode cX10_recognizeMoves 25 = .ok (.checkcast 59, 3) := dk_192 0 59 (dk_at dksX10_recognizeMoves_1 5 rfl rfl)
theorem dX10_recognizeMoves_28 : decode cX10_recognizeMoves 28 = .ok (.astore_n 2, 1) := dk_77 (dk_at dksX10_recognizeMoves_1 8 rfl rfl)
theorem dX10_recognizeMoves_29 : decode cX10_recognizeMoves 29 = .ok (.aload_n 2, 1) := dk_44 (dk_at dksX10_recognizeMoves_1 9 rfl rfl)
theorem dX10_recognizeMoves_30 : decode cX10_recognizeMoves 30 = .ok (.getfield 61, 3) := dk_180 0 61 (dk_at dksX10_recognizeMoves_1 10 rfl rfl)
theorem dX10_recognizeMoves_33 : decode cX10_recognizeMoves 33 = .ok (.bipush 100, 2) := dk_16 100 (dk_at dksX10_recognizeMoves_1 13 rfl rfl)
theorem dX10_recognizeMoves_35 : decode cX10_recognizeMoves 35 = .ok (.if_icmp .ne 14, 3) := dk_160 0 14 (dk_at dksX10_recognizeMoves_1 15 rfl rfl)
theorem dX10_recognizeMoves_38 : decode cX10_recognizeMoves 38 = .ok (.aload_n 0, 1) := dk_42 (dk_at dksX10_recognizeMoves_1 18 rfl rfl)
theorem dX10_recognizeMoves_39 : decode cX10_recognizeMoves 39 = .ok (.aload_n 2, 1) := dk_44 (dk_at dksX10_recognizeMoves_1 19 rfl rfl)
theorem dX10_recognizeMoves_40 : decode cX10_recognizeMoves 40 = .ok (.getfield 65, 3) := dk_180 0 65 (dk_at dksX10_recognizeMoves_1 20 rfl rfl)
theorem dX10_recognizeMoves_43 : decode cX10_recognizeMoves 43 = .ok (.invokevirtual 68, 3) := dk_182 0 68 (dk_at dksX10_recognizeMoves_2 0 rfl rfl)
theorem dX10_recognizeMoves_46 : decode cX10_recognizeMoves 46 = .ok (.goto 4, 3) := dk_167 0 4 (dk_at dksX10_recognizeMoves_2 3 rfl rfl)
theorem dX10_recognizeMoves_49 : decode cX10_recognizeMoves 49 = .ok (.aconst_null, 1) := dk_1 (dk_at dksX10_recognizeMoves_2 6 rfl rfl)
theorem dX10_recognizeMoves_50 : decode cX10_recognizeMoves 50 = .ok (.astore_n 3, 1) := dk_78 (dk_at dksX10_recognizeMoves_2 7 rfl rfl)
theorem dX10_recognizeMoves_51 : decode cX10_recognizeMoves 51 = .ok (.aload_n 3, 1) := dk_45 (dk_at dksX10_recognizeMoves_2 8 rfl rfl)
theorem dX10_recognizeMoves_52 : decode cX10_recognizeMoves 52 = .ok (.ifnull 23, 3) := dk_198 0 23 (dk_at dksX10_recognizeMoves_2 9 rfl rfl)
theorem dX10_recognizeMoves_55 : decode cX10_recognizeMoves 55 = .ok (.aload_n 3, 1) := dk_45 (dk_at dksX10_recognizeMoves_2 12 rfl rfl)
theorem dX10_recognizeMoves_56 : decode cX10_recognizeMoves 56 = .ok (.bipush 109, 2) := dk_16 109 (dk_at dksX10_recognizeMoves_2 13 rfl rfl)
theorem dX10_recognizeMoves_58 : decode cX10_recognizeMoves 58 = .ok (.putfield 61, 3) := dk_181 0 61 (dk_at dksX10_recognizeMoves_2 15 rfl rfl)
theorem dX10_recognizeMoves_61 : decode cX10_recognizeMoves 61 = .ok (.aload_n 3, 1) := dk_45 (dk_at dksX10_recognizeMoves_2 18 rfl rfl)
theorem dX10_recognizeMoves_62 : decode cX10_recognizeMoves 62 = .ok (.aload_n 2, 1) := dk_44 (dk_at dksX10_recognizeMoves_2 19 rfl rfl)
theorem dX10_recognizeMoves_63 : decode cX10_recognizeMoves 63 = .ok (.getfield 65, 3) := dk_180 0 65 (dk_at dksX10_recognizeMoves_2 20 rfl rfl)
theorem dX10_recognizeMoves_66 : decode cX10_recognizeMoves 66 = .ok (.putfield 65, 3) := dk_181 0 65 (dk_at dksX10_recognizeMoves_3 0 rfl rfl)
theorem dX10_recognizeMoves_69 : decode cX10_recognizeMoves 69 = .ok (.aload_n 1, 1) := dk_43 (dk_at dksX10_recognizeMoves_3 3 rfl rfl)
theorem dX10_recognizeMoves_70 : decode cX10_recognizeMoves 70 = .ok (.invokeinterface 72 1, 5) := by decide +kernel
theorem dX10_recognizeMoves_75 : decode cX10_recognizeMoves 75 = .ok (.goto (-65), 3) := dk_167 255 191 (dk_at dksX10_recognizeMoves_3 9 rfl rfl)
theorem dX10_recognizeMoves_78 : decode cX10_recognizeMoves 78 = .ok (.return_, 1) := dk_177 (dk_at dksX10_recognizeMoves_3 12 rfl rfl)
abbrev cX10_insertionOf : ByteArray := prog_12_method_3_code
def yX10_insertionOf : MethodName := ⟨RX10, "insertionOf", "(LTreeDiffer$Node;)LTreeDiffer$Operation;"⟩
def dkwX10_insertionOf_2 : List UInt8 := [182, 0, 78, 153, 0, 5, 45, 176, 167, 255, 214, 1, 176]
abbrev dktX10_insertionOf_2 : List UInt8 := dkwX10_insertionOf_2 ++ []
def dkwX10_insertionOf_1 : List UInt8 := [185, 0, 55, 1, 0, 192, 0, 59, 78, 45, 180, 0, 61, 16, 105, 160, 0, 17, 45, 180, 0, 75, 43, 3]
abbrev dktX10_insertionOf_1 : List UInt8 := dkwX10_insertionOf_1 ++ dktX10_insertionOf_2
def dkwX10_insertionOf_0 : List UInt8 := [42, 180, 0, 10, 185, 0, 43, 1, 0, 77, 44, 185, 0, 49, 1, 0, 153, 0, 39, 44]
abbrev dktX10_insertionOf_0 : List UInt8 := dkwX10_insertionOf_0 ++ dktX10_insertionOf_1
theorem dksX10_insertionOf_0 : cX10_insertionOf.data.toList.drop 0 = dktX10_insertionOf_0 := by decide +kernel
theorem dksX10_insertionOf_1 : cX10_insertionOf.data.toList.drop 20 = dktX10_insertionOf_1 := dk_seg dksX10_insertionOf_0 20 rfl rfl
theorem dksX10_insertionOf_2 : cX10_insertionOf.data.toList.drop 44 = dktX10_insertionOf_2 := dk_seg dksX10_insertionOf_1 24 rfl rfl
theorem dX10_insertionOf_0 : decode cX10_insertionOf 0 = .ok (.aload_n 0, 1) := dk_42 (dk_at dksX10_insertionOf_0 0 rfl rfl)
theorem dX10_insertionOf_1 : decode cX10_insertionOf 1 = .ok (.getfield 10, 3) := dk_180 0 10 (dk_at dksX10_insertionOf_0 1 rfl rfl)
theorem dX10_insertionOf_4 : decode cX10_insertionOf 4 = .ok (.invokeinterface 43 1, 5) := by decide +kernel
theorem dX10_insertionOf_9 : decode cX10_insertionOf 9 = .ok (.astore_n 2, 1) := dk_77 (dk_at dksX10_insertionOf_0 9 rfl rfl)
theorem dX10_insertionOf_10 : decode cX10_insertionOf 10 = .ok (.aload_n 2, 1) := dk_44 (dk_at dksX10_insertionOf_0 10 rfl rfl)
theorem dX10_insertionOf_11 : decode cX10_insertionOf 11 = .ok (.invokeinterface 49 1, 5) := by decide +kernel
theorem dX10_insertionOf_16 : decode cX10_insertionOf 16 = .ok (.ifCond .eq 39, 3) := dk_153 0 39 (dk_at dksX10_insertionOf_0 16 rfl rfl)
theorem dX10_insertionOf_19 : decode cX10_insertionOf 19 = .ok (.aload_n 2, 1) := dk_44 (dk_at dksX10_insertionOf_0 19 rfl rfl)
theorem dX10_insertionOf_20 : decode cX10_insertionOf 20 = .ok (.invokeinterface 55 1, 5) := by decide +kernel
theorem dX10_insertionOf_25 : decode cX10_insertionOf 25 = .ok (.checkcast 59, 3) := dk_192 0 59 (dk_at dksX10_insertionOf_1 5 rfl rfl)
theorem dX10_insertionOf_28 : decode cX10_insertionOf 28 = .ok (.astore_n 3, 1) := dk_78 (dk_at dksX10_insertionOf_1 8 rfl rfl)
theorem dX10_insertionOf_29 : decode cX10_insertionOf 29 = .ok (.aload_n 3, 1) := dk_45 (dk_at dksX10_insertionOf_1 9 rfl rfl)
theorem dX10_insertionOf_30 : decode cX10_insertionOf 30 = .ok (.getfield 61, 3) := dk_180 0 61 (dk_at dksX10_insertionOf_1 10 rfl rfl)
theorem dX10_insertionOf_33 : decode cX10_insertionOf 33 = .ok (.bipush 105, 2) := dk_16 105 (dk_at dksX10_insertionOf_1 13 rfl rfl)
theorem dX10_insertionOf_35 : decode cX10_insertionOf 35 = .ok (.if_icmp .ne 17, 3) := dk_160 0 17 (dk_at dksX10_insertionOf_1 15 rfl rfl)
theorem dX10_insertionOf_38 : decode cX10_insertionOf 38 = .ok (.aload_n 3, 1) := dk_45 (dk_at dksX10_insertionOf_1 18 rfl rfl)
theorem dX10_insertionOf_39 : decode cX10_insertionOf 39 = .ok (.getfield 75, 3) := dk_180 0 75 (dk_at dksX10_insertionOf_1 19 rfl rfl)
theorem dX10_insertionOf_42 : decode cX10_insertionOf 42 = .ok (.aload_n 1, 1) := dk_43 (dk_at dksX10_insertionOf_1 22 rfl rfl)
theorem dX10_insertionOf_43 : decode cX10_insertionOf 43 = .ok (.iconst 0, 1) := dk_3 (dk_at dksX10_insertionOf_1 23 rfl rfl)
theorem dX10_insertionOf_44 : decode cX10_insertionOf 44 = .ok (.invokevirtual 78, 3) := dk_182 0 78 (dk_at dksX10_insertionOf_2 0 rfl rfl)
theorem dX10_insertionOf_47 : decode cX10_insertionOf 47 = .ok (.ifCond .eq 5, 3) := dk_153 0 5 (dk_at dksX10_insertionOf_2 3 rfl rfl)
theorem dX10_insertionOf_50 : decode cX10_insertionOf 50 = .ok (.aload_n 3, 1) := dk_45 (dk_at dksX10_insertionOf_2 6 rfl rfl)
theorem dX10_insertionOf_51 : decode cX10_insertionOf 51 = .ok (.areturn, 1) := dk_176 (dk_at dksX10_insertionOf_2 7 rfl rfl)
theorem dX10_insertionOf_52 : decode cX10_insertionOf 52 = .ok (.goto (-42), 3) := dk_167 255 214 (dk_at dksX10_insertionOf_2 8 rfl rfl)
theorem dX10_insertionOf_55 : decode cX10_insertionOf 55 = .ok (.aconst_null, 1) := dk_1 (dk_at dksX10_insertionOf_2 11 rfl rfl)
theorem dX10_insertionOf_56 : decode cX10_insertionOf 56 = .ok (.areturn, 1) := dk_176 (dk_at dksX10_insertionOf_2 12 rfl rfl)
theorem q101 : (Jvm.Cond.initialized "TreeDiffer$Script") ∈ lw_all := lw_g (lw_at lw_m1 38 rfl) rfl
theorem q240 : (Jvm.Cond.fieldLinkNest "TreeDiffer$Script" (23 : Nat) "TreeDiffer$Tree" "root" "LTreeDiffer$Node;" "TreeDiffer") ∈ lw_tbl := lw_at lw_m1 177 rfl
theorem q530 : (Jvm.Cond.selects "TreeDiffer$Script" ({ cls := "java/lang/Object", name := "getClass", desc := "()Ljava/lang/Class;" } : Jvm.MethodName) ({ cls := "java/lang/Object", name := "getClass", desc := "()Ljava/lang/Class;" } : Jvm.MethodName)) ∈ lw_all := lw_g (lw_at lw_m2 227 rfl) rfl
theorem q653 : (Jvm.Cond.instanceMethod ({ cls := "TreeDiffer$Script", name := "givesTarget", desc := "()Z" } : Jvm.MethodName)) ∈ lw_all := lw_g (lw_at lw_m3 110 rfl) rfl
theorem q654 : (Jvm.Cond.selects "TreeDiffer$Script" ({ cls := "TreeDiffer$Script", name := "givesTarget", desc := "()Z" } : Jvm.MethodName) ({ cls := "TreeDiffer$Script", name := "givesTarget", desc := "()Z" } : Jvm.MethodName)) ∈ lw_all := lw_g (lw_at lw_m3 111 rfl) rfl
theorem q655 : (Jvm.Cond.codeWith ({ cls := "TreeDiffer$Script", name := "givesTarget", desc := "()Z" } : Jvm.MethodName) prog_12_method_6_code (3 : Nat) (Option.some Jvm.ClassFile.FieldType.boolean) [((8 : Nat), (20 : Nat), (23 : Nat), (104 : Nat))]) ∈ lw_all := lw_g (lw_at lw_m3 112 rfl) rfl
theorem q656 : (Jvm.Cond.classLink "TreeDiffer$Script" (104 : Nat) "TreeDiffer$Conflict") ∈ lw_all := lw_g (lw_at lw_m3 113 rfl) rfl
theorem q657 : (Jvm.Cond.methodLink "TreeDiffer$Script" (92 : Nat) ({ cls := "TreeDiffer$Tree", name := "copy", desc := "()LTreeDiffer$Tree;" } : Jvm.MethodName)) ∈ lw_all := lw_g (lw_at lw_m3 114 rfl) rfl
theorem q944 : (Jvm.Cond.classLink "TreeDiffer$Script" (96 : Nat) "TreeDiffer$Patch") ∈ lw_all := lw_g (lw_at lw_m4 161 rfl) rfl
theorem q946 : (Jvm.Cond.methodLink "TreeDiffer$Script" (98 : Nat) ({ cls := "TreeDiffer$Patch", name := "<init>", desc := "(LTreeDiffer$Script;LTreeDiffer$Tree;)V" } : Jvm.MethodName)) ∈ lw_all := lw_g (lw_at lw_m4 163 rfl) rfl
theorem q1025 : (Jvm.Cond.fieldLinkNest "TreeDiffer$Script" (61 : Nat) "TreeDiffer$Operation" "kind" "C" "TreeDiffer") ∈ lw_tbl := lw_at lw_m5 2 rfl
theorem q1029 : (Jvm.Cond.fieldLinkNest "TreeDiffer$Script" (65 : Nat) "TreeDiffer$Operation" "node" "LTreeDiffer$Node;" "TreeDiffer") ∈ lw_tbl := lw_at lw_m5 6 rfl
theorem q1032 : (Jvm.Cond.fieldLinkNest "TreeDiffer$Script" (75 : Nat) "TreeDiffer$Operation" "target" "LTreeDiffer$Node;" "TreeDiffer") ∈ lw_tbl := lw_at lw_m5 9 rfl
theorem q1094 : (Jvm.Cond.methodLink "TreeDiffer$Script" (101 : Nat) ({ cls := "TreeDiffer$Patch", name := "apply", desc := "()V" } : Jvm.MethodName)) ∈ lw_all := lw_g (lw_at lw_m5 71 rfl) rfl
theorem q1300 : (Jvm.Cond.selects "TreeDiffer$Script" ({ cls := "java/lang/Object", name := "toString", desc := "()Ljava/lang/String;" } : Jvm.MethodName) ({ cls := "java/lang/Object", name := "toString", desc := "()Ljava/lang/String;" } : Jvm.MethodName)) ∈ lw_all := lw_g (lw_at lw_m6 37 rfl) rfl
theorem q1337 : (Jvm.Cond.methodLink "TreeDiffer$Script" (78 : Nat) ({ cls := "TreeDiffer$Node", name := "isLike", desc := "(LTreeDiffer$Node;Z)Z" } : Jvm.MethodName)) ∈ lw_all := lw_g (lw_at lw_m6 74 rfl) rfl
theorem q1339 : (Jvm.Cond.instanceMethod ({ cls := "TreeDiffer$Script", name := "cost", desc := "()I" } : Jvm.MethodName)) ∈ lw_all := lw_g (lw_at lw_m6 76 rfl) rfl
theorem q1340 : (Jvm.Cond.selects "TreeDiffer$Script" ({ cls := "TreeDiffer$Script", name := "cost", desc := "()I" } : Jvm.MethodName) ({ cls := "TreeDiffer$Script", name := "cost", desc := "()I" } : Jvm.MethodName)) ∈ lw_all := lw_g (lw_at lw_m6 77 rfl) rfl
theorem q1341 : (Jvm.Cond.code ({ cls := "TreeDiffer$Script", name := "cost", desc := "()I" } : Jvm.MethodName) prog_12_method_5_code (4 : Nat) (Option.some Jvm.ClassFile.FieldType.int)) ∈ lw_all := lw_g (lw_at lw_m6 78 rfl) rfl
theorem q1342 : (Jvm.Cond.interfaceEntry "TreeDiffer$Script" (43 : Nat)) ∈ lw_tbl := lw_at lw_m6 79 rfl
theorem q1343 : (Jvm.Cond.methodLink "TreeDiffer$Script" (43 : Nat) ({ cls := "java/util/List", name := "iterator", desc := "()Ljava/util/Iterator;" } : Jvm.MethodName)) ∈ lw_all := lw_g (lw_at lw_m6 80 rfl) rfl
theorem q1344 : (Jvm.Cond.interfaceEntry "TreeDiffer$Script" (49 : Nat)) ∈ lw_tbl := lw_at lw_m6 81 rfl
theorem q1345 : (Jvm.Cond.methodLink "TreeDiffer$Script" (49 : Nat) ({ cls := "java/util/Iterator", name := "hasNext", desc := "()Z" } : Jvm.MethodName)) ∈ lw_all := lw_g (lw_at lw_m6 82 rfl) rfl
theorem q1346 : (Jvm.Cond.interfaceEntry "TreeDiffer$Script" (55 : Nat)) ∈ lw_tbl := lw_at lw_m6 83 rfl
theorem q1347 : (Jvm.Cond.methodLink "TreeDiffer$Script" (55 : Nat) ({ cls := "java/util/Iterator", name := "next", desc := "()Ljava/lang/Object;" } : Jvm.MethodName)) ∈ lw_all := lw_g (lw_at lw_m6 84 rfl) rfl
theorem q1348 : (Jvm.Cond.classLink "TreeDiffer$Script" (59 : Nat) "TreeDiffer$Operation") ∈ lw_all := lw_g (lw_at lw_m6 85 rfl) rfl
theorem q1349 : (Jvm.Cond.methodLink "TreeDiffer$Script" (88 : Nat) ({ cls := "TreeDiffer$Operation", name := "cost", desc := "()I" } : Jvm.MethodName)) ∈ lw_all := lw_g (lw_at lw_m6 86 rfl) rfl
theorem q1613 : (Jvm.Cond.instanceMethod ({ cls := "TreeDiffer$Script", name := "nodeNumber", desc := "(LTreeDiffer$Operation;)I" } : Jvm.MethodName)) ∈ lw_all := lw_g (lw_at lw_m7 110 rfl) rfl
theorem q1614 : (Jvm.Cond.selects "TreeDiffer$Script" ({ cls := "TreeDiffer$Script", name := "nodeNumber", desc := "(LTreeDiffer$Operation;)I" } : Jvm.MethodName) ({ cls := "TreeDiffer$Script", name := "nodeNumber", desc := "(LTreeDiffer$Operation;)I" } : Jvm.MethodName)) ∈ lw_all := lw_g (lw_at lw_m7 111 rfl) rfl
theorem q1615 : (Jvm.Cond.code ({ cls := "TreeDiffer$Script", name := "nodeNumber", desc := "(LTreeDiffer$Operation;)I" } : Jvm.MethodName) prog_12_method_4_code (2 : Nat) (Option.some Jvm.ClassFile.FieldType.int)) ∈ lw_all := lw_g (lw_at lw_m7 112 rfl) rfl
theorem q1616 : (Jvm.Cond.methodLink "TreeDiffer$Script" (84 : Nat) ({ cls := "TreeDiffer$Tree", name := "number", desc := "(LTreeDiffer$Node;)I" } : Jvm.MethodName)) ∈ lw_all := lw_g (lw_at lw_m7 113 rfl) rfl
theorem q1827 : (Jvm.Cond.instantiable "TreeDiffer$Script" (3 : Nat)) ∈ lw_all := lw_g (lw_at lw_m8 84 rfl) rfl
theorem q1829 : (Jvm.Cond.instanceMethod ({ cls := "TreeDiffer$Script", name := "<init>", desc := "(LTreeDiffer$Tree;LTreeDiffer$Tree;)V" } : Jvm.MethodName)) ∈ lw_all := lw_g (lw_at lw_m8 86 rfl) rfl
theorem q1830 : (Jvm.Cond.code ({ cls := "TreeDiffer$Script", name := "<init>", desc := "(LTreeDiffer$Tree;LTreeDiffer$Tree;)V" } : Jvm.MethodName) prog_12_method_1_code (3 : Nat) (Option.none : Option Jvm.ClassFile.FieldType)) ∈ lw_all := lw_g (lw_at lw_m8 87 rfl) rfl
theorem q1831 : (Jvm.Cond.methodLink "TreeDiffer$Script" (1 : Nat) ({ cls := "java/lang/Object", name := "<init>", desc := "()V" } : Jvm.MethodName)) ∈ lw_all := lw_g (lw_at lw_m8 88 rfl) rfl
theorem q1832 : (Jvm.Cond.classLink "TreeDiffer$Script" (7 : Nat) "java/util/ArrayList") ∈ lw_all := lw_g (lw_at lw_m8 89 rfl) rfl
theorem q1833 : (Jvm.Cond.methodLink "TreeDiffer$Script" (9 : Nat) ({ cls := "java/util/ArrayList", name := "<init>", desc := "()V" } : Jvm.MethodName)) ∈ lw_all := lw_g (lw_at lw_m8 90 rfl) rfl
theorem q1834 : (Jvm.Cond.classLink "TreeDiffer$Script" (29 : Nat) "TreeDiffer$Script$1") ∈ lw_all := lw_g (lw_at lw_m8 91 rfl) rfl
theorem q1836 : (Jvm.Cond.methodLink "TreeDiffer$Script" (31 : Nat) ({ cls := "TreeDiffer$Script$1", name := "<init>", desc := "(LTreeDiffer$Script;)V" } : Jvm.MethodName)) ∈ lw_all := lw_g (lw_at lw_m8 93 rfl) rfl
theorem q1844 : (Jvm.Cond.methodLinkNest "TreeDiffer$Script" (34 : Nat) ({ cls := "TreeDiffer", name := "visit", desc := "(LTreeDiffer$Node;LTreeDiffer$Node;LTreeDiffer$Visitor;)V" } : Jvm.MethodName) "TreeDiffer") ∈ lw_tbl := lw_at lw_m8 101 rfl
theorem q1845 : (Jvm.Cond.methodLink "TreeDiffer$Script" (40 : Nat) ({ cls := "TreeDiffer$Script", name := "recognizeMoves", desc := "()V" } : Jvm.MethodName)) ∈ lw_all := lw_g (lw_at lw_m8 102 rfl) rfl
theorem q1846 : (Jvm.Cond.privateMethod ({ cls := "TreeDiffer$Script", name := "recognizeMoves", desc := "()V" } : Jvm.MethodName)) ∈ lw_tbl := lw_at lw_m8 103 rfl
theorem q1847 : (Jvm.Cond.instanceMethod ({ cls := "TreeDiffer$Script", name := "recognizeMoves", desc := "()V" } : Jvm.MethodName)) ∈ lw_all := lw_g (lw_at lw_m8 104 rfl) rfl
theorem q1848 : (Jvm.Cond.code ({ cls := "TreeDiffer$Script", name := "recognizeMoves", desc := "()V" } : Jvm.MethodName) prog_12_method_2_code (4 : Nat) (Option.none : Option Jvm.ClassFile.FieldType)) ∈ lw_all := lw_g (lw_at lw_m8 105 rfl) rfl
theorem q1849 : (Jvm.Cond.methodLink "TreeDiffer$Script" (68 : Nat) ({ cls := "TreeDiffer$Script", name := "insertionOf", desc := "(LTreeDiffer$Node;)LTreeDiffer$Operation;" } : Jvm.MethodName)) ∈ lw_all := lw_g (lw_at lw_m8 106 rfl) rfl
theorem q1850 : (Jvm.Cond.privateMethod ({ cls := "TreeDiffer$Script", name := "insertionOf", desc := "(LTreeDiffer$Node;)LTreeDiffer$Operation;" } : Jvm.MethodName)) ∈ lw_tbl := lw_at lw_m8 107 rfl
theorem q1851 : (Jvm.Cond.instanceMethod ({ cls := "TreeDiffer$Script", name := "insertionOf", desc := "(LTreeDiffer$Node;)LTreeDiffer$Operation;" } : Jvm.MethodName)) ∈ lw_all := lw_g (lw_at lw_m8 108 rfl) rfl
theorem q1852 : (Jvm.Cond.code ({ cls := "TreeDiffer$Script", name := "insertionOf", desc := "(LTreeDiffer$Node;)LTreeDiffer$Operation;" } : Jvm.MethodName) prog_12_method_3_code (4 : Nat) (Option.some (Jvm.ClassFile.FieldType.object "TreeDiffer$Operation"))) ∈ lw_all := lw_g (lw_at lw_m8 109 rfl) rfl
theorem q1853 : (Jvm.Cond.interfaceEntry "TreeDiffer$Script" (72 : Nat)) ∈ lw_tbl := lw_at lw_m8 110 rfl
theorem q1854 : (Jvm.Cond.methodLink "TreeDiffer$Script" (72 : Nat) ({ cls := "java/util/Iterator", name := "remove", desc := "()V" } : Jvm.MethodName)) ∈ lw_all := lw_g (lw_at lw_m8 111 rfl) rfl
theorem q1891 : (Jvm.Cond.fieldLink "TreeDiffer$Script" (16 : Nat) "TreeDiffer$Script" "oldTree" "LTreeDiffer$Tree;") ∈ lw_all := lw_g (lw_at lw_m8 148 rfl) rfl
theorem q1893 : (Jvm.Cond.fieldLink "TreeDiffer$Script" (20 : Nat) "TreeDiffer$Script" "newTree" "LTreeDiffer$Tree;") ∈ lw_all := lw_g (lw_at lw_m8 150 rfl) rfl
theorem q1896 : (Jvm.Cond.fieldLink "TreeDiffer$Script" (10 : Nat) "TreeDiffer$Script" "operations" "Ljava/util/List;") ∈ lw_all := lw_g (lw_at lw_m8 153 rfl) rfl
theorem q1900 : (Jvm.Cond.laysFinal "TreeDiffer$Script" "TreeDiffer$Script" "oldTree" "LTreeDiffer$Tree;") ∈ lw_all := lw_g (lw_at lw_m8 157 rfl) rfl
theorem q1901 : (Jvm.Cond.soleField "TreeDiffer$Script" "oldTree") ∈ lw_all := lw_g (lw_at lw_m8 158 rfl) rfl
theorem q1902 : (Jvm.Cond.laysFinal "TreeDiffer$Script" "TreeDiffer$Script" "newTree" "LTreeDiffer$Tree;") ∈ lw_all := lw_g (lw_at lw_m8 159 rfl) rfl
theorem q1903 : (Jvm.Cond.soleField "TreeDiffer$Script" "newTree") ∈ lw_all := lw_g (lw_at lw_m8 160 rfl) rfl
theorem q1904 : (Jvm.Cond.laysFinal "TreeDiffer$Script" "TreeDiffer$Script" "operations" "Ljava/util/List;") ∈ lw_all := lw_g (lw_at lw_m8 161 rfl) rfl
theorem q1905 : (Jvm.Cond.soleField "TreeDiffer$Script" "operations") ∈ lw_all := lw_g (lw_at lw_m8 162 rfl) rfl
theorem q1906 : (Jvm.Cond.superclass "TreeDiffer$Script" "java/lang/Object") ∈ lw_all := lw_g (lw_at lw_m8 163 rfl) rfl
theorem q2576 : (Jvm.Cond.castable "TreeDiffer$Script" "java/lang/Object") ∈ lw_tbl := lw_at lw_m11 113 rfl
theorem in_X10 : ∀ w ∈ wsX100, w ∈ lw_all := lw_in wsX100 [1900, 1902, 1904] (by decide +kernel) (by decide +kernel)

/-! TreeDiffer$Script$1 -/
set_option maxRecDepth 100000
def RX11 : String := "TreeDiffer$Script$1"
def TX11 : u_T := fun k => match k with
  | _ => ("TreeDiffer$Script$1", "this$0", "LTreeDiffer$Script;", true)
def tyX11 : Nat → FieldType := fun k => match k with
  | _ => .object "TreeDiffer$Script"
abbrev wsX110 : List Cond := u_ws RX11 TX11 1
theorem nmX11 : ∀ a, a < 1 → ∀ b, b < 1 → a ≠ b → (TX11 a).2.1 ≠ (TX11 b).2.1 := by decide +kernel
theorem tyX11_ok : ∀ k, k < 1 → parseFieldDescriptor (TX11 k).2.2.1 = some (tyX11 k) := by decide +kernel
abbrev cX11_pair : ByteArray := prog_13_method_2_code
def yX11_pair : MethodName := ⟨RX11, "pair", "(LTreeDiffer$Node;LTreeDiffer$Node;)V"⟩
def dkwX11_pair_3 : List UInt8 := [44, 183, 0, 31, 185, 0, 34, 2, 0, 87, 177]
abbrev dktX11_pair_3 : List UInt8 := dkwX11_pair_3 ++ []
def dkwX11_pair_2 : List UInt8 := [180, 0, 40, 44, 180, 0, 40, 159, 0, 27, 42, 180, 0, 1, 180, 0, 23, 187, 0, 29, 89, 16, 118, 43]
abbrev dktX11_pair_2 : List UInt8 := dkwX11_pair_2 ++ dktX11_pair_3
def dkwX11_pair_1 : List UInt8 := [180, 0, 1, 180, 0, 23, 187, 0, 29, 89, 16, 108, 43, 44, 183, 0, 31, 185, 0, 34, 2, 0, 87, 43]
abbrev dktX11_pair_1 : List UInt8 := dkwX11_pair_1 ++ dktX11_pair_2
def dkwX11_pair_0 : List UInt8 := [43, 44, 181, 0, 13, 44, 43, 181, 0, 13, 43, 180, 0, 19, 44, 180, 0, 19, 159, 0, 27, 42]
abbrev dktX11_pair_0 : List UInt8 := dkwX11_pair_0 ++ dktX11_pair_1
theorem dksX11_pair_0 : cX11_pair.data.toList.drop 0 = dktX11_pair_0 := by decide +kernel
theorem dksX11_pair_1 : cX11_pair.data.toList.drop 22 = dktX11_pair_1 := dk_seg dksX11_pair_0 22 rfl rfl
theorem dksX11_pair_2 : cX11_pair.data.toList.drop 46 = dktX11_pair_2 := dk_seg dksX11_pair_1 24 rfl rfl
theorem dksX11_pair_3 : cX11_pair.data.toList.drop 70 = dktX11_pair_3 := dk_seg dksX11_pair_2 24 rfl rfl
theorem dX11_pair_0 : decode cX11_pair 0 = .ok (.aload_n 1, 1) := dk_43 (dk_at dksX11_pair_0 0 rfl rfl)
theorem dX11_pair_1 : decode cX11_pair 1 = .ok (.aload_n 2, 1) := dk_44 (dk_at dksX11_pair_0 1 rfl rfl)
theorem dX11_pair_2 : decode cX11_pair 2 = .ok (.putfield 13, 3) := dk_181 0 13 (dk_at dksX11_pair_0 2 rfl rfl)
theorem dX11_pair_5 : decode cX11_pair 5 = .ok (.aload_n 2, 1) := dk_44 (dk_at dksX11_pair_0 5 rfl rfl)
theorem dX11_pair_6 : decode cX11_pair 6 = .ok (.aload_n 1, 1) := dk_43 (dk_at dksX11_pair_0 6 rfl rfl)
theorem dX11_pair_7 : decode cX11_pair 7 = .ok (.putfield 13, 3) := dk_181 0 13 (dk_at dksX11_pair_0 7 rfl rfl)
theorem dX11_pair_10 : decode cX11_pair 10 = .ok (.aload_n 1, 1) := dk_43 (dk_at dksX11_pair_0 10 rfl rfl)
theorem dX11_pair_11 : decode cX11_pair 11 = .ok (.getfield 19, 3) := dk_180 0 19 (dk_at dksX11_pair_0 11 rfl rfl)
theorem dX11_pair_14 : decode cX11_pair 14 = .ok (.aload_n 2, 1) := dk_44 (dk_at dksX11_pair_0 14 rfl rfl)
theorem dX11_pair_15 : decode cX11_pair 15 = .ok (.getfield 19, 3) := dk_180 0 19 (dk_at dksX11_pair_0 15 rfl rfl)
theorem dX11_pair_18 : decode cX11_pair 18 = .ok (.if_icmp .eq 27, 3) := dk_159 0 27 (dk_at dksX11_pair_0 18 rfl rfl)
theorem dX11_pair_21 : decode cX11_pair 21 = .ok (.aload_n 0, 1) := dk_42 (dk_at dksX11_pair_0 21 rfl rfl)
theorem dX11_pair_22 : decode cX11_pair 22 = .ok (.getfield 1, 3) := dk_180 0 1 (dk_at dksX11_pair_1 0 rfl rfl)
theorem dX11_pair_25 : decode cX11_pair 25 = .ok (.getfield 23, 3) := dk_180 0 23 (dk_at dksX11_pair_1 3 rfl rfl)
theorem dX11_pair_28 : decode cX11_pair 28 = .ok (.new 29, 3) := dk_187 0 29 (dk_at dksX11_pair_1 6 rfl rfl)
theorem dX11_pair_31 : decode cX11_pair 31 = .ok (.dup, 1) := dk_89 (dk_at dksX11_pair_1 9 rfl rfl)
theorem dX11_pair_32 : decode cX11_pair 32 = .ok (.bipush 108, 2) := dk_16 108 (dk_at dksX11_pair_1 10 rfl rfl)
theorem dX11_pair_34 : decode cX11_pair 34 = .ok (.aload_n 1, 1) := dk_43 (dk_at dksX11_pair_1 12 rfl rfl)
theorem dX11_pair_35 : decode cX11_pair 35 = .ok (.aload_n 2, 1) := dk_44 (dk_at dksX11_pair_1 13 rfl rfl)
theorem dX11_pair_36 : decode cX11_pair 36 = .ok (.invokespecial 31, 3) := dk_183 0 31 (dk_at dksX11_pair_1 14 rfl rfl)
theorem dX11_pair_39 : decode cX11_pair 39 = .ok (.invokeinterface 34 2, 5) := by decide +kernel
theorem dX11_pair_44 : decode cX11_pair 44 = .ok (.pop, 1) := dk_87 (dk_at dksX11_pair_1 22 rfl rfl)
theorem dX11_pair_45 : decode cX11_pair 45 = .ok (.aload_n 1, 1) := dk_43 (dk_at dksX11_pair_1 23 rfl rfl)
theorem dX11_pair_46 : decode cX11_pair 46 = .ok (.getfield 40, 3) := dk_180 0 40 (dk_at dksX11_pair_2 0 rfl rfl)
theorem dX11_pair_49 : decode cX11_pair 49 = .ok (.aload_n 2, 1) := dk_44 (dk_at dksX11_pair_2 3 rfl rfl)
theorem dX11_pair_50 : decode cX11_pair 50 = .ok (.getfield 40, 3) := dk_180 0 40 (dk_at dksX11_pair_2 4 rfl rfl)
theorem dX11_pair_53 : decode cX11_pair 53 = .ok (.if_icmp .eq 27, 3) := dk_159 0 27 (dk_at dksX11_pair_2 7 rfl rfl)
theorem dX11_pair_56 : decode cX11_pair 56 = .ok (.aload_n 0, 1) := dk_42 (dk_at dksX11_pair_2 10 rfl rfl)
theorem dX11_pair_57 : decode cX11_pair 57 = .ok (.getfield 1, 3) := dk_180 0 1 (dk_at dksX11_pair_2 11 rfl rfl)
theorem dX11_pair_60 : decode cX11_pair 60 = .ok (.getfield 23, 3) := dk_180 0 23 (dk_at dksX11_pair_2 14 rfl rfl)
theorem dX11_pair_63 : decode cX11_pair 63 = .ok (.new 29, 3) := dk_187 0 29 (dk_at dksX11_pair_2 17 rfl rfl)
theorem dX11_pair_66 : decode cX11_pair 66 = .ok (.dup, 1) := dk_89 (dk_at dksX11_pair_2 20 rfl rfl)
theorem dX11_pair_67 : decode cX11_pair 67 = .ok (.bipush 118, 2) := dk_16 118 (dk_at dksX11_pair_2 21 rfl rfl)
theorem dX11_pair_69 : decode cX11_pair 69 = .ok (.aload_n 1, 1) := dk_43 (dk_at dksX11_pair_2 23 rfl rfl)
theorem dX11_pair_70 : decode cX11_pair 70 = .ok (.aload_n 2, 1) := dk_44 (dk_at dksX11_pair_3 0 rfl rfl)
theorem dX11_pair_71 : decode cX11_pair 71 = .ok (.invokespecial 31, 3) := dk_183 0 31 (dk_at dksX11_pair_3 1 rfl rfl)
theorem dX11_pair_74 : decode cX11_pair 74 = .ok (.invokeinterface 34 2, 5) := by decide +kernel
theorem dX11_pair_79 : decode cX11_pair 79 = .ok (.pop, 1) := dk_87 (dk_at dksX11_pair_3 9 rfl rfl)
theorem dX11_pair_80 : decode cX11_pair 80 = .ok (.return_, 1) := dk_177 (dk_at dksX11_pair_3 10 rfl rfl)
abbrev cX11_deletion : ByteArray := prog_13_method_3_code
def yX11_deletion : MethodName := ⟨RX11, "deletion", "(LTreeDiffer$Node;)V"⟩
def dkwX11_deletion_1 : List UInt8 := [177]
abbrev dktX11_deletion_1 : List UInt8 := dkwX11_deletion_1 ++ []
def dkwX11_deletion_0 : List UInt8 := [42, 180, 0, 1, 180, 0, 23, 187, 0, 29, 89, 16, 100, 43, 1, 183, 0, 31, 185, 0, 34, 2, 0, 87]
abbrev dktX11_deletion_0 : List UInt8 := dkwX11_deletion_0 ++ dktX11_deletion_1
theorem dksX11_deletion_0 : cX11_deletion.data.toList.drop 0 = dktX11_deletion_0 := by decide +kernel
theorem dksX11_deletion_1 : cX11_deletion.data.toList.drop 24 = dktX11_deletion_1 := dk_seg dksX11_deletion_0 24 rfl rfl
theorem dX11_deletion_0 : decode cX11_deletion 0 = .ok (.aload_n 0, 1) := dk_42 (dk_at dksX11_deletion_0 0 rfl rfl)
theorem dX11_deletion_1 : decode cX11_deletion 1 = .ok (.getfield 1, 3) := dk_180 0 1 (dk_at dksX11_deletion_0 1 rfl rfl)
theorem dX11_deletion_4 : decode cX11_deletion 4 = .ok (.getfield 23, 3) := dk_180 0 23 (dk_at dksX11_deletion_0 4 rfl rfl)
theorem dX11_deletion_7 : decode cX11_deletion 7 = .ok (.new 29, 3) := dk_187 0 29 (dk_at dksX11_deletion_0 7 rfl rfl)
theorem dX11_deletion_10 : decode cX11_deletion 10 = .ok (.dup, 1) := dk_89 (dk_at dksX11_deletion_0 10 rfl rfl)
theorem dX11_deletion_11 : decode cX11_deletion 11 = .ok (.bipush 100, 2) := dk_16 100 (dk_at dksX11_deletion_0 11 rfl rfl)
theorem dX11_deletion_13 : decode cX11_deletion 13 = .ok (.aload_n 1, 1) := dk_43 (dk_at dksX11_deletion_0 13 rfl rfl)
theorem dX11_deletion_14 : decode cX11_deletion 14 = .ok (.aconst_null, 1) := dk_1 (dk_at dksX11_deletion_0 14 rfl rfl)
theorem dX11_deletion_15 : decode cX11_deletion 15 = .ok (.invokespecial 31, 3) := dk_183 0 31 (dk_at dksX11_deletion_0 15 rfl rfl)
theorem dX11_deletion_18 : decode cX11_deletion 18 = .ok (.invokeinterface 34 2, 5) := by decide +kernel
theorem dX11_deletion_23 : decode cX11_deletion 23 = .ok (.pop, 1) := dk_87 (dk_at dksX11_deletion_0 23 rfl rfl)
theorem dX11_deletion_24 : decode cX11_deletion 24 = .ok (.return_, 1) := dk_177 (dk_at dksX11_deletion_1 0 rfl rfl)
abbrev cX11_insertion : ByteArray := prog_13_method_4_code
def yX11_insertion : MethodName := ⟨RX11, "insertion", "(LTreeDiffer$Node;)V"⟩
def dkwX11_insertion_1 : List UInt8 := [177]
abbrev dktX11_insertion_1 : List UInt8 := dkwX11_insertion_1 ++ []
def dkwX11_insertion_0 : List UInt8 := [42, 180, 0, 1, 180, 0, 23, 187, 0, 29, 89, 16, 105, 1, 43, 183, 0, 31, 185, 0, 34, 2, 0, 87]
abbrev dktX11_insertion_0 : List UInt8 := dkwX11_insertion_0 ++ dktX11_insertion_1
theorem dksX11_insertion_0 : cX11_insertion.data.toList.drop 0 = dktX11_insertion_0 := by decide +kernel
theorem dksX11_insertion_1 : cX11_insertion.data.toList.drop 24 = dktX11_insertion_1 := dk_seg dksX11_insertion_0 24 rfl rfl
theorem dX11_insertion_0 : decode cX11_insertion 0 = .ok (.aload_n 0, 1) := dk_42 (dk_at dksX11_insertion_0 0 rfl rfl)
theorem dX11_insertion_1 : decode cX11_insertion 1 = .ok (.getfield 1, 3) := dk_180 0 1 (dk_at dksX11_insertion_0 1 rfl rfl)
theorem dX11_insertion_4 : decode cX11_insertion 4 = .ok (.getfield 23, 3) := dk_180 0 23 (dk_at dksX11_insertion_0 4 rfl rfl)
theorem dX11_insertion_7 : decode cX11_insertion 7 = .ok (.new 29, 3) := dk_187 0 29 (dk_at dksX11_insertion_0 7 rfl rfl)
theorem dX11_insertion_10 : decode cX11_insertion 10 = .ok (.dup, 1) := dk_89 (dk_at dksX11_insertion_0 10 rfl rfl)
theorem dX11_insertion_11 : decode cX11_insertion 11 = .ok (.bipush 105, 2) := dk_16 105 (dk_at dksX11_insertion_0 11 rfl rfl)
theorem dX11_insertion_13 : decode cX11_insertion 13 = .ok (.aconst_null, 1) := dk_1 (dk_at dksX11_insertion_0 13 rfl rfl)
theorem dX11_insertion_14 : decode cX11_insertion 14 = .ok (.aload_n 1, 1) := dk_43 (dk_at dksX11_insertion_0 14 rfl rfl)
theorem dX11_insertion_15 : decode cX11_insertion 15 = .ok (.invokespecial 31, 3) := dk_183 0 31 (dk_at dksX11_insertion_0 15 rfl rfl)
theorem dX11_insertion_18 : decode cX11_insertion 18 = .ok (.invokeinterface 34 2, 5) := by decide +kernel
theorem dX11_insertion_23 : decode cX11_insertion 23 = .ok (.pop, 1) := dk_87 (dk_at dksX11_insertion_0 23 rfl rfl)
theorem dX11_insertion_24 : decode cX11_insertion 24 = .ok (.return_, 1) := dk_177 (dk_at dksX11_insertion_1 0 rfl rfl)
abbrev cX11_init : ByteArray := prog_13_method_1_code
def yX11_init : MethodName := ⟨RX11, "<init>", "(LTreeDiffer$Script;)V"⟩
def dkwX11_init_0 : List UInt8 := [42, 43, 181, 0, 1, 42, 183, 0, 7, 177]
abbrev dktX11_init_0 : List UInt8 := dkwX11_init_0 ++ []
theorem dksX11_init_0 : cX11_init.data.toList.drop 0 = dktX11_init_0 := by decide +kernel
theorem dX11_init_0 : decode cX11_init 0 = .ok (.aload_n 0, 1) := dk_42 (dk_at dksX11_init_0 0 rfl rfl)
theorem dX11_init_1 : decode cX11_init 1 = .ok (.aload_n 1, 1) := dk_43 (dk_at dksX11_init_0 1 rfl rfl)
theorem dX11_init_2 : decode cX11_init 2 = .ok (.putfield 1, 3) := dk_181 0 1 (dk_at dksX11_init_0 2 rfl rfl)
theorem dX11_init_5 : decode cX11_init 5 = .ok (.aload_n 0, 1) := dk_42 (dk_at dksX11_init_0 5 rfl rfl)
theorem dX11_init_6 : decode cX11_init 6 = .ok (.invokespecial 7, 3) := dk_183 0 7 (dk_at dksX11_init_0 6 rfl rfl)
theorem dX11_init_9 : decode cX11_init 9 = .ok (.return_, 1) := dk_177 (dk_at dksX11_init_0 9 rfl rfl)
theorem q102 : (Jvm.Cond.initialized "TreeDiffer$Script$1") ∈ lw_all := lw_g (lw_at lw_m1 39 rfl) rfl
theorem q193 : (Jvm.Cond.fieldLinkNest "TreeDiffer$Script$1" (19 : Nat) "TreeDiffer$Node" "label" "C" "TreeDiffer") ∈ lw_tbl := lw_at lw_m1 130 rfl
theorem q202 : (Jvm.Cond.fieldLinkNest "TreeDiffer$Script$1" (40 : Nat) "TreeDiffer$Node" "value" "I" "TreeDiffer") ∈ lw_tbl := lw_at lw_m1 139 rfl
theorem q215 : (Jvm.Cond.fieldLinkNest "TreeDiffer$Script$1" (13 : Nat) "TreeDiffer$Node" "partner" "LTreeDiffer$Node;" "TreeDiffer") ∈ lw_tbl := lw_at lw_m1 152 rfl
theorem q531 : (Jvm.Cond.selects "TreeDiffer$Script$1" ({ cls := "java/lang/Object", name := "getClass", desc := "()Ljava/lang/Class;" } : Jvm.MethodName) ({ cls := "java/lang/Object", name := "getClass", desc := "()Ljava/lang/Class;" } : Jvm.MethodName)) ∈ lw_all := lw_g (lw_at lw_m2 228 rfl) rfl
theorem q1012 : (Jvm.Cond.castable "TreeDiffer$Script$1" "TreeDiffer$Visitor") ∈ lw_tbl := lw_at lw_m4 229 rfl
theorem q1013 : (Jvm.Cond.selects "TreeDiffer$Script$1" ({ cls := "TreeDiffer$Visitor", name := "pair", desc := "(LTreeDiffer$Node;LTreeDiffer$Node;)V" } : Jvm.MethodName) ({ cls := "TreeDiffer$Script$1", name := "pair", desc := "(LTreeDiffer$Node;LTreeDiffer$Node;)V" } : Jvm.MethodName)) ∈ lw_all := lw_g (lw_at lw_m4 230 rfl) rfl
theorem q1014 : (Jvm.Cond.unhidden "TreeDiffer$Script$1" "pair" "(LTreeDiffer$Node;LTreeDiffer$Node;)V") ∈ lw_tbl := lw_at lw_m4 231 rfl
theorem q1015 : (Jvm.Cond.instanceMethod ({ cls := "TreeDiffer$Script$1", name := "pair", desc := "(LTreeDiffer$Node;LTreeDiffer$Node;)V" } : Jvm.MethodName)) ∈ lw_all := lw_g (lw_at lw_m4 232 rfl) rfl
theorem q1016 : (Jvm.Cond.publicMethod ({ cls := "TreeDiffer$Script$1", name := "pair", desc := "(LTreeDiffer$Node;LTreeDiffer$Node;)V" } : Jvm.MethodName)) ∈ lw_tbl := lw_at lw_m4 233 rfl
theorem q1017 : (Jvm.Cond.code ({ cls := "TreeDiffer$Script$1", name := "pair", desc := "(LTreeDiffer$Node;LTreeDiffer$Node;)V" } : Jvm.MethodName) prog_13_method_2_code (3 : Nat) (Option.none : Option Jvm.ClassFile.FieldType)) ∈ lw_all := lw_g (lw_at lw_m4 234 rfl) rfl
theorem q1018 : (Jvm.Cond.classLink "TreeDiffer$Script$1" (29 : Nat) "TreeDiffer$Operation") ∈ lw_all := lw_g (lw_at lw_m4 235 rfl) rfl
theorem q1020 : (Jvm.Cond.methodLink "TreeDiffer$Script$1" (31 : Nat) ({ cls := "TreeDiffer$Operation", name := "<init>", desc := "(CLTreeDiffer$Node;LTreeDiffer$Node;)V" } : Jvm.MethodName)) ∈ lw_all := lw_g (lw_at lw_m4 237 rfl) rfl
theorem q1042 : (Jvm.Cond.interfaceEntry "TreeDiffer$Script$1" (34 : Nat)) ∈ lw_tbl := lw_at lw_m5 19 rfl
theorem q1043 : (Jvm.Cond.methodLink "TreeDiffer$Script$1" (34 : Nat) ({ cls := "java/util/List", name := "add", desc := "(Ljava/lang/Object;)Z" } : Jvm.MethodName)) ∈ lw_all := lw_g (lw_at lw_m5 20 rfl) rfl
theorem q1068 : (Jvm.Cond.selects "TreeDiffer$Script$1" ({ cls := "TreeDiffer$Visitor", name := "deletion", desc := "(LTreeDiffer$Node;)V" } : Jvm.MethodName) ({ cls := "TreeDiffer$Script$1", name := "deletion", desc := "(LTreeDiffer$Node;)V" } : Jvm.MethodName)) ∈ lw_all := lw_g (lw_at lw_m5 45 rfl) rfl
theorem q1069 : (Jvm.Cond.unhidden "TreeDiffer$Script$1" "deletion" "(LTreeDiffer$Node;)V") ∈ lw_tbl := lw_at lw_m5 46 rfl
theorem q1070 : (Jvm.Cond.instanceMethod ({ cls := "TreeDiffer$Script$1", name := "deletion", desc := "(LTreeDiffer$Node;)V" } : Jvm.MethodName)) ∈ lw_all := lw_g (lw_at lw_m5 47 rfl) rfl
theorem q1071 : (Jvm.Cond.publicMethod ({ cls := "TreeDiffer$Script$1", name := "deletion", desc := "(LTreeDiffer$Node;)V" } : Jvm.MethodName)) ∈ lw_tbl := lw_at lw_m5 48 rfl
theorem q1072 : (Jvm.Cond.code ({ cls := "TreeDiffer$Script$1", name := "deletion", desc := "(LTreeDiffer$Node;)V" } : Jvm.MethodName) prog_13_method_3_code (2 : Nat) (Option.none : Option Jvm.ClassFile.FieldType)) ∈ lw_all := lw_g (lw_at lw_m5 49 rfl) rfl
theorem q1082 : (Jvm.Cond.selects "TreeDiffer$Script$1" ({ cls := "TreeDiffer$Visitor", name := "insertion", desc := "(LTreeDiffer$Node;)V" } : Jvm.MethodName) ({ cls := "TreeDiffer$Script$1", name := "insertion", desc := "(LTreeDiffer$Node;)V" } : Jvm.MethodName)) ∈ lw_all := lw_g (lw_at lw_m5 59 rfl) rfl
theorem q1083 : (Jvm.Cond.unhidden "TreeDiffer$Script$1" "insertion" "(LTreeDiffer$Node;)V") ∈ lw_tbl := lw_at lw_m5 60 rfl
theorem q1084 : (Jvm.Cond.instanceMethod ({ cls := "TreeDiffer$Script$1", name := "insertion", desc := "(LTreeDiffer$Node;)V" } : Jvm.MethodName)) ∈ lw_all := lw_g (lw_at lw_m5 61 rfl) rfl
theorem q1085 : (Jvm.Cond.publicMethod ({ cls := "TreeDiffer$Script$1", name := "insertion", desc := "(LTreeDiffer$Node;)V" } : Jvm.MethodName)) ∈ lw_tbl := lw_at lw_m5 62 rfl
theorem q1086 : (Jvm.Cond.code ({ cls := "TreeDiffer$Script$1", name := "insertion", desc := "(LTreeDiffer$Node;)V" } : Jvm.MethodName) prog_13_method_4_code (2 : Nat) (Option.none : Option Jvm.ClassFile.FieldType)) ∈ lw_all := lw_g (lw_at lw_m5 63 rfl) rfl
theorem q1301 : (Jvm.Cond.selects "TreeDiffer$Script$1" ({ cls := "java/lang/Object", name := "toString", desc := "()Ljava/lang/String;" } : Jvm.MethodName) ({ cls := "java/lang/Object", name := "toString", desc := "()Ljava/lang/String;" } : Jvm.MethodName)) ∈ lw_all := lw_g (lw_at lw_m6 38 rfl) rfl
theorem q1835 : (Jvm.Cond.instantiable "TreeDiffer$Script$1" (1 : Nat)) ∈ lw_all := lw_g (lw_at lw_m8 92 rfl) rfl
theorem q1837 : (Jvm.Cond.instanceMethod ({ cls := "TreeDiffer$Script$1", name := "<init>", desc := "(LTreeDiffer$Script;)V" } : Jvm.MethodName)) ∈ lw_all := lw_g (lw_at lw_m8 94 rfl) rfl
theorem q1838 : (Jvm.Cond.code ({ cls := "TreeDiffer$Script$1", name := "<init>", desc := "(LTreeDiffer$Script;)V" } : Jvm.MethodName) prog_13_method_1_code (2 : Nat) (Option.none : Option Jvm.ClassFile.FieldType)) ∈ lw_all := lw_g (lw_at lw_m8 95 rfl) rfl
theorem q1839 : (Jvm.Cond.methodLink "TreeDiffer$Script$1" (7 : Nat) ({ cls := "java/lang/Object", name := "<init>", desc := "()V" } : Jvm.MethodName)) ∈ lw_all := lw_g (lw_at lw_m8 96 rfl) rfl
theorem q1840 : (Jvm.Cond.fieldLink "TreeDiffer$Script$1" (1 : Nat) "TreeDiffer$Script$1" "this$0" "LTreeDiffer$Script;") ∈ lw_all := lw_g (lw_at lw_m8 97 rfl) rfl
theorem q1841 : (Jvm.Cond.laysFinal "TreeDiffer$Script$1" "TreeDiffer$Script$1" "this$0" "LTreeDiffer$Script;") ∈ lw_all := lw_g (lw_at lw_m8 98 rfl) rfl
theorem q1842 : (Jvm.Cond.soleField "TreeDiffer$Script$1" "this$0") ∈ lw_all := lw_g (lw_at lw_m8 99 rfl) rfl
theorem q1843 : (Jvm.Cond.superclass "TreeDiffer$Script$1" "java/lang/Object") ∈ lw_all := lw_g (lw_at lw_m8 100 rfl) rfl
theorem q1898 : (Jvm.Cond.fieldLinkNest "TreeDiffer$Script$1" (23 : Nat) "TreeDiffer$Script" "operations" "Ljava/util/List;" "TreeDiffer") ∈ lw_tbl := lw_at lw_m8 155 rfl
theorem q2577 : (Jvm.Cond.castable "TreeDiffer$Script$1" "java/lang/Object") ∈ lw_tbl := lw_at lw_m11 114 rfl
theorem in_X11 : ∀ w ∈ wsX110, w ∈ lw_all := lw_in wsX110 [1841] (by decide +kernel) (by decide +kernel)

/-! TreeDiffer$Operation -/
set_option maxRecDepth 100000
def RX12 : String := "TreeDiffer$Operation"
def TX12 : u_T := fun k => match k with
  | 0 => ("TreeDiffer$Operation", "kind", "C", false)
  | 1 => ("TreeDiffer$Operation", "node", "LTreeDiffer$Node;", false)
  | _ => ("TreeDiffer$Operation", "target", "LTreeDiffer$Node;", true)
def tyX12 : Nat → FieldType := fun k => match k with
  | 0 => .char
  | 1 => .object "TreeDiffer$Node"
  | _ => .object "TreeDiffer$Node"
abbrev wsX120 : List Cond := u_ws RX12 TX12 3
theorem nmX12 : ∀ a, a < 3 → ∀ b, b < 3 → a ≠ b → (TX12 a).2.1 ≠ (TX12 b).2.1 := by decide +kernel
theorem tyX12_ok : ∀ k, k < 3 → parseFieldDescriptor (TX12 k).2.2.1 = some (tyX12 k) := by decide +kernel
abbrev cX12_init : ByteArray := prog_8_method_1_code
def yX12_init : MethodName := ⟨RX12, "<init>", "(CLTreeDiffer$Node;LTreeDiffer$Node;)V"⟩
def dkwX12_init_0 : List UInt8 := [42, 183, 0, 3, 42, 27, 181, 0, 9, 42, 44, 181, 0, 15, 42, 45, 181, 0, 19, 177]
abbrev dktX12_init_0 : List UInt8 := dkwX12_init_0 ++ []
theorem dksX12_init_0 : cX12_init.data.toList.drop 0 = dktX12_init_0 := by decide +kernel
theorem dX12_init_0 : decode cX12_init 0 = .ok (.aload_n 0, 1) := dk_42 (dk_at dksX12_init_0 0 rfl rfl)
theorem dX12_init_1 : decode cX12_init 1 = .ok (.invokespecial 3, 3) := dk_183 0 3 (dk_at dksX12_init_0 1 rfl rfl)
theorem dX12_init_4 : decode cX12_init 4 = .ok (.aload_n 0, 1) := dk_42 (dk_at dksX12_init_0 4 rfl rfl)
theorem dX12_init_5 : decode cX12_init 5 = .ok (.iload_n 1, 1) := dk_27 (dk_at dksX12_init_0 5 rfl rfl)
theorem dX12_init_6 : decode cX12_init 6 = .ok (.putfield 9, 3) := dk_181 0 9 (dk_at dksX12_init_0 6 rfl rfl)
theorem dX12_init_9 : decode cX12_init 9 = .ok (.aload_n 0, 1) := dk_42 (dk_at dksX12_init_0 9 rfl rfl)
theorem dX12_init_10 : decode cX12_init 10 = .ok (.aload_n 2, 1) := dk_44 (dk_at dksX12_init_0 10 rfl rfl)
theorem dX12_init_11 : decode cX12_init 11 = .ok (.putfield 15, 3) := dk_181 0 15 (dk_at dksX12_init_0 11 rfl rfl)
theorem dX12_init_14 : decode cX12_init 14 = .ok (.aload_n 0, 1) := dk_42 (dk_at dksX12_init_0 14 rfl rfl)
theorem dX12_init_15 : decode cX12_init 15 = .ok (.aload_n 3, 1) := dk_45 (dk_at dksX12_init_0 15 rfl rfl)
theorem dX12_init_16 : decode cX12_init 16 = .ok (.putfield 19, 3) := dk_181 0 19 (dk_at dksX12_init_0 16 rfl rfl)
theorem dX12_init_19 : decode cX12_init 19 = .ok (.return_, 1) := dk_177 (dk_at dksX12_init_0 19 rfl rfl)
abbrev cX12_cost : ByteArray := prog_8_method_2_code
def yX12_cost : MethodName := ⟨RX12, "cost", "()I"⟩
def dkwX12_cost_3 : List UInt8 := [104, 172]
abbrev dktX12_cost_3 : List UInt8 := dkwX12_cost_3 ++ []
def dkwX12_cost_2 : List UInt8 := [6, 172, 4, 172, 4, 172, 5, 42, 180, 0, 15, 182, 0, 22, 104, 172, 5, 42, 180, 0, 19, 182, 0, 22]
abbrev dktX12_cost_2 : List UInt8 := dkwX12_cost_2 ++ dktX12_cost_3
def dkwX12_cost_1 : List UInt8 := [171, 0, 0, 0, 0, 0, 0, 60, 0, 0, 0, 4, 0, 0, 0, 100, 0, 0, 0, 50, 0, 0, 0, 108, 0, 0, 0, 44, 0, 0, 0, 109, 0, 0, 0, 48, 0, 0, 0, 118, 0, 0, 0, 46]
abbrev dktX12_cost_1 : List UInt8 := dkwX12_cost_1 ++ dktX12_cost_2
def dkwX12_cost_0 : List UInt8 := [42, 180, 0, 9]
abbrev dktX12_cost_0 : List UInt8 := dkwX12_cost_0 ++ dktX12_cost_1
theorem dksX12_cost_0 : cX12_cost.data.toList.drop 0 = dktX12_cost_0 := by decide +kernel
theorem dksX12_cost_1 : cX12_cost.data.toList.drop 4 = dktX12_cost_1 := dk_seg dksX12_cost_0 4 rfl rfl
theorem dksX12_cost_2 : cX12_cost.data.toList.drop 48 = dktX12_cost_2 := dk_seg dksX12_cost_1 44 rfl rfl
theorem dksX12_cost_3 : cX12_cost.data.toList.drop 72 = dktX12_cost_3 := dk_seg dksX12_cost_2 24 rfl rfl
theorem dX12_cost_0 : decode cX12_cost 0 = .ok (.aload_n 0, 1) := dk_42 (dk_at dksX12_cost_0 0 rfl rfl)
theorem dX12_cost_1 : decode cX12_cost 1 = .ok (.getfield 9, 3) := dk_180 0 9 (dk_at dksX12_cost_0 1 rfl rfl)
theorem dX12_cost_4 : decode cX12_cost 4 = .ok (.lookupswitch 60 #[(100, 50), (108, 44), (109, 48), (118, 46)], 44) := by decide +kernel
theorem dX12_cost_48 : decode cX12_cost 48 = .ok (.iconst 3, 1) := dk_6 (dk_at dksX12_cost_2 0 rfl rfl)
theorem dX12_cost_49 : decode cX12_cost 49 = .ok (.ireturn, 1) := dk_172 (dk_at dksX12_cost_2 1 rfl rfl)
theorem dX12_cost_50 : decode cX12_cost 50 = .ok (.iconst 1, 1) := dk_4 (dk_at dksX12_cost_2 2 rfl rfl)
theorem dX12_cost_51 : decode cX12_cost 51 = .ok (.ireturn, 1) := dk_172 (dk_at dksX12_cost_2 3 rfl rfl)
theorem dX12_cost_52 : decode cX12_cost 52 = .ok (.iconst 1, 1) := dk_4 (dk_at dksX12_cost_2 4 rfl rfl)
theorem dX12_cost_53 : decode cX12_cost 53 = .ok (.ireturn, 1) := dk_172 (dk_at dksX12_cost_2 5 rfl rfl)
theorem dX12_cost_54 : decode cX12_cost 54 = .ok (.iconst 2, 1) := dk_5 (dk_at dksX12_cost_2 6 rfl rfl)
theorem dX12_cost_55 : decode cX12_cost 55 = .ok (.aload_n 0, 1) := dk_42 (dk_at dksX12_cost_2 7 rfl rfl)
theorem dX12_cost_56 : decode cX12_cost 56 = .ok (.getfield 15, 3) := dk_180 0 15 (dk_at dksX12_cost_2 8 rfl rfl)
theorem dX12_cost_59 : decode cX12_cost 59 = .ok (.invokevirtual 22, 3) := dk_182 0 22 (dk_at dksX12_cost_2 11 rfl rfl)
theorem dX12_cost_62 : decode cX12_cost 62 = .ok (.imul, 1) := dk_104 (dk_at dksX12_cost_2 14 rfl rfl)
theorem dX12_cost_63 : decode cX12_cost 63 = .ok (.ireturn, 1) := dk_172 (dk_at dksX12_cost_2 15 rfl rfl)
theorem dX12_cost_64 : decode cX12_cost 64 = .ok (.iconst 2, 1) := dk_5 (dk_at dksX12_cost_2 16 rfl rfl)
theorem dX12_cost_65 : decode cX12_cost 65 = .ok (.aload_n 0, 1) := dk_42 (dk_at dksX12_cost_2 17 rfl rfl)
theorem dX12_cost_66 : decode cX12_cost 66 = .ok (.getfield 19, 3) := dk_180 0 19 (dk_at dksX12_cost_2 18 rfl rfl)
theorem dX12_cost_69 : decode cX12_cost 69 = .ok (.invokevirtual 22, 3) := dk_182 0 22 (dk_at dksX12_cost_2 21 rfl rfl)
theorem dX12_cost_72 : decode cX12_cost 72 = .ok (.imul, 1) := dk_104 (dk_at dksX12_cost_3 0 rfl rfl)
theorem dX12_cost_73 : decode cX12_cost 73 = .ok (.ireturn, 1) := dk_172 (dk_at dksX12_cost_3 1 rfl rfl)
theorem q103 : (Jvm.Cond.initialized "TreeDiffer$Operation") ∈ lw_all := lw_g (lw_at lw_m1 40 rfl) rfl
theorem q526 : (Jvm.Cond.selects "TreeDiffer$Operation" ({ cls := "java/lang/Object", name := "getClass", desc := "()Ljava/lang/Class;" } : Jvm.MethodName) ({ cls := "java/lang/Object", name := "getClass", desc := "()Ljava/lang/Class;" } : Jvm.MethodName)) ∈ lw_all := lw_g (lw_at lw_m2 223 rfl) rfl
theorem q1019 : (Jvm.Cond.instantiable "TreeDiffer$Operation" (3 : Nat)) ∈ lw_all := lw_g (lw_at lw_m4 236 rfl) rfl
theorem q1021 : (Jvm.Cond.instanceMethod ({ cls := "TreeDiffer$Operation", name := "<init>", desc := "(CLTreeDiffer$Node;LTreeDiffer$Node;)V" } : Jvm.MethodName)) ∈ lw_all := lw_g (lw_at lw_m4 238 rfl) rfl
theorem q1022 : (Jvm.Cond.code ({ cls := "TreeDiffer$Operation", name := "<init>", desc := "(CLTreeDiffer$Node;LTreeDiffer$Node;)V" } : Jvm.MethodName) prog_8_method_1_code (4 : Nat) (Option.none : Option Jvm.ClassFile.FieldType)) ∈ lw_all := lw_g (lw_at lw_m4 239 rfl) rfl
theorem q1023 : (Jvm.Cond.methodLink "TreeDiffer$Operation" (3 : Nat) ({ cls := "java/lang/Object", name := "<init>", desc := "()V" } : Jvm.MethodName)) ∈ lw_all := lw_g (lw_at lw_m5 0 rfl) rfl
theorem q1024 : (Jvm.Cond.fieldLink "TreeDiffer$Operation" (9 : Nat) "TreeDiffer$Operation" "kind" "C") ∈ lw_all := lw_g (lw_at lw_m5 1 rfl) rfl
theorem q1028 : (Jvm.Cond.fieldLink "TreeDiffer$Operation" (15 : Nat) "TreeDiffer$Operation" "node" "LTreeDiffer$Node;") ∈ lw_all := lw_g (lw_at lw_m5 5 rfl) rfl
theorem q1031 : (Jvm.Cond.fieldLink "TreeDiffer$Operation" (19 : Nat) "TreeDiffer$Operation" "target" "LTreeDiffer$Node;") ∈ lw_all := lw_g (lw_at lw_m5 8 rfl) rfl
theorem q1035 : (Jvm.Cond.lays "TreeDiffer$Operation" "TreeDiffer$Operation" "kind" "C") ∈ lw_all := lw_g (lw_at lw_m5 12 rfl) rfl
theorem q1036 : (Jvm.Cond.soleField "TreeDiffer$Operation" "kind") ∈ lw_all := lw_g (lw_at lw_m5 13 rfl) rfl
theorem q1037 : (Jvm.Cond.lays "TreeDiffer$Operation" "TreeDiffer$Operation" "node" "LTreeDiffer$Node;") ∈ lw_all := lw_g (lw_at lw_m5 14 rfl) rfl
theorem q1038 : (Jvm.Cond.soleField "TreeDiffer$Operation" "node") ∈ lw_all := lw_g (lw_at lw_m5 15 rfl) rfl
theorem q1039 : (Jvm.Cond.laysFinal "TreeDiffer$Operation" "TreeDiffer$Operation" "target" "LTreeDiffer$Node;") ∈ lw_all := lw_g (lw_at lw_m5 16 rfl) rfl
theorem q1040 : (Jvm.Cond.soleField "TreeDiffer$Operation" "target") ∈ lw_all := lw_g (lw_at lw_m5 17 rfl) rfl
theorem q1041 : (Jvm.Cond.superclass "TreeDiffer$Operation" "java/lang/Object") ∈ lw_all := lw_g (lw_at lw_m5 18 rfl) rfl
theorem q1296 : (Jvm.Cond.selects "TreeDiffer$Operation" ({ cls := "java/lang/Object", name := "toString", desc := "()Ljava/lang/String;" } : Jvm.MethodName) ({ cls := "java/lang/Object", name := "toString", desc := "()Ljava/lang/String;" } : Jvm.MethodName)) ∈ lw_all := lw_g (lw_at lw_m6 33 rfl) rfl
theorem q1350 : (Jvm.Cond.instanceMethod ({ cls := "TreeDiffer$Operation", name := "cost", desc := "()I" } : Jvm.MethodName)) ∈ lw_all := lw_g (lw_at lw_m6 87 rfl) rfl
theorem q1351 : (Jvm.Cond.selects "TreeDiffer$Operation" ({ cls := "TreeDiffer$Operation", name := "cost", desc := "()I" } : Jvm.MethodName) ({ cls := "TreeDiffer$Operation", name := "cost", desc := "()I" } : Jvm.MethodName)) ∈ lw_all := lw_g (lw_at lw_m6 88 rfl) rfl
theorem q1352 : (Jvm.Cond.code ({ cls := "TreeDiffer$Operation", name := "cost", desc := "()I" } : Jvm.MethodName) prog_8_method_2_code (1 : Nat) (Option.some Jvm.ClassFile.FieldType.int)) ∈ lw_all := lw_g (lw_at lw_m6 89 rfl) rfl
theorem q1353 : (Jvm.Cond.methodLink "TreeDiffer$Operation" (22 : Nat) ({ cls := "TreeDiffer$Node", name := "size", desc := "()I" } : Jvm.MethodName)) ∈ lw_all := lw_g (lw_at lw_m6 90 rfl) rfl
theorem q2578 : (Jvm.Cond.castable "TreeDiffer$Operation" "java/lang/Object") ∈ lw_tbl := lw_at lw_m11 115 rfl
theorem in_X12 : ∀ w ∈ wsX120, w ∈ lw_all := lw_in wsX120 [1035, 1037, 1039] (by decide +kernel) (by decide +kernel)

/-! TreeDiffer$Patch -/
set_option maxRecDepth 100000
def RX13 : String := "TreeDiffer$Patch"
def TX13 : u_T := fun k => match k with
  | 0 => ("TreeDiffer$Patch", "script", "LTreeDiffer$Script;", true)
  | _ => ("TreeDiffer$Patch", "tree", "LTreeDiffer$Tree;", true)
def tyX13 : Nat → FieldType := fun k => match k with
  | 0 => .object "TreeDiffer$Script"
  | _ => .object "TreeDiffer$Tree"
abbrev wsX130 : List Cond := u_ws RX13 TX13 2
theorem nmX13 : ∀ a, a < 2 → ∀ b, b < 2 → a ≠ b → (TX13 a).2.1 ≠ (TX13 b).2.1 := by decide +kernel
theorem tyX13_ok : ∀ k, k < 2 → parseFieldDescriptor (TX13 k).2.2.1 = some (tyX13 k) := by decide +kernel
abbrev cX13_init : ByteArray := prog_9_method_1_code
def yX13_init : MethodName := ⟨RX13, "<init>", "(LTreeDiffer$Script;LTreeDiffer$Tree;)V"⟩
def dkwX13_init_4 : List UInt8 := [180, 0, 49, 44, 180, 0, 49, 187, 0, 52, 89, 42, 183, 0, 54, 184, 0, 57, 177]
abbrev dktX13_init_4 : List UInt8 := dkwX13_init_4 ++ []
def dkwX13_init_3 : List UInt8 := [185, 0, 36, 1, 0, 192, 0, 40, 58, 4, 25, 4, 1, 181, 0, 42, 167, 255, 230, 43, 180, 0, 19]
abbrev dktX13_init_3 : List UInt8 := dkwX13_init_3 ++ dktX13_init_4
def dkwX13_init_2 : List UInt8 := [181, 0, 42, 167, 255, 230, 43, 180, 0, 46, 182, 0, 24, 78, 45, 185, 0, 30, 1, 0, 153, 0, 23, 45]
abbrev dktX13_init_2 : List UInt8 := dkwX13_init_2 ++ dktX13_init_3
def dkwX13_init_1 : List UInt8 := [185, 0, 30, 1, 0, 153, 0, 23, 45, 185, 0, 36, 1, 0, 192, 0, 40, 58, 4, 25, 4, 1]
abbrev dktX13_init_1 : List UInt8 := dkwX13_init_1 ++ dktX13_init_2
def dkwX13_init_0 : List UInt8 := [42, 183, 0, 3, 42, 43, 181, 0, 9, 42, 44, 181, 0, 15, 43, 180, 0, 19, 182, 0, 24, 78, 45]
abbrev dktX13_init_0 : List UInt8 := dkwX13_init_0 ++ dktX13_init_1
theorem dksX13_init_0 : cX13_init.data.toList.drop 0 = dktX13_init_0 := by decide +kernel
theorem dksX13_init_1 : cX13_init.data.toList.drop 23 = dktX13_init_1 := dk_seg dksX13_init_0 23 rfl rfl
theorem dksX13_init_2 : cX13_init.data.toList.drop 45 = dktX13_init_2 := dk_seg dksX13_init_1 22 rfl rfl
theorem dksX13_init_3 : cX13_init.data.toList.drop 69 = dktX13_init_3 := dk_seg dksX13_init_2 24 rfl rfl
theorem dksX13_init_4 : cX13_init.data.toList.drop 92 = dktX13_init_4 := dk_seg dksX13_init_3 23 rfl rfl
theorem dX13_init_0 : decode cX13_init 0 = .ok (.aload_n 0, 1) := dk_42 (dk_at dksX13_init_0 0 rfl rfl)
theorem dX13_init_1 : decode cX13_init 1 = .ok (.invokespecial 3, 3) := dk_183 0 3 (dk_at dksX13_init_0 1 rfl rfl)
theorem dX13_init_4 : decode cX13_init 4 = .ok (.aload_n 0, 1) := dk_42 (dk_at dksX13_init_0 4 rfl rfl)
theorem dX13_init_5 : decode cX13_init 5 = .ok (.aload_n 1, 1) := dk_43 (dk_at dksX13_init_0 5 rfl rfl)
theorem dX13_init_6 : decode cX13_init 6 = .ok (.putfield 9, 3) := dk_181 0 9 (dk_at dksX13_init_0 6 rfl rfl)
theorem dX13_init_9 : decode cX13_init 9 = .ok (.aload_n 0, 1) := dk_42 (dk_at dksX13_init_0 9 rfl rfl)
theorem dX13_init_10 : decode cX13_init 10 = .ok (.aload_n 2, 1) := dk_44 (dk_at dksX13_init_0 10 rfl rfl)
theorem dX13_init_11 : decode cX13_init 11 = .ok (.putfield 15, 3) := dk_181 0 15 (dk_at dksX13_init_0 11 rfl rfl)
theorem dX13_init_14 : decode cX13_init 14 = .ok (.aload_n 1, 1) := dk_43 (dk_at dksX13_init_0 14 rfl rfl)
theorem dX13_init_15 : decode cX13_init 15 = .ok (.getfield 19, 3) := dk_180 0 19 (dk_at dksX13_init_0 15 rfl rfl)
theorem dX13_init_18 : decode cX13_init 18 = .ok (.invokevirtual 24, 3) := dk_182 0 24 (dk_at dksX13_init_0 18 rfl rfl)
theorem dX13_init_21 : decode cX13_init 21 = .ok (.astore_n 3, 1) := dk_78 (dk_at dksX13_init_0 21 rfl rfl)
theorem dX13_init_22 : decode cX13_init 22 = .ok (.aload_n 3, 1) := dk_45 (dk_at dksX13_init_0 22 rfl rfl)
theorem dX13_init_23 : decode cX13_init 23 = .ok (.invokeinterface 30 1, 5) := by decide +kernel
theorem dX13_init_28 : decode cX13_init 28 = .ok (.ifCond .eq 23, 3) := dk_153 0 23 (dk_at dksX13_init_1 5 rfl rfl)
theorem dX13_init_31 : decode cX13_init 31 = .ok (.aload_n 3, 1) := dk_45 (dk_at dksX13_init_1 8 rfl rfl)
theorem dX13_init_32 : decode cX13_init 32 = .ok (.invokeinterface 36 1, 5) := by decide +kernel
theorem dX13_init_37 : decode cX13_init 37 = .ok (.checkcast 40, 3) := dk_192 0 40 (dk_at dksX13_init_1 14 rfl rfl)
theorem dX13_init_40 : decode cX13_init 40 = .ok (.astore 4, 2) := dk_58 4 (dk_at dksX13_init_1 17 rfl rfl)
theorem dX13_init_42 : decode cX13_init 42 = .ok (.aload 4, 2) := dk_25 4 (dk_at dksX13_init_1 19 rfl rfl)
theorem dX13_init_44 : decode cX13_init 44 = .ok (.aconst_null, 1) := dk_1 (dk_at dksX13_init_1 21 rfl rfl)
theorem dX13_init_45 : decode cX13_init 45 = .ok (.putfield 42, 3) := dk_181 0 42 (dk_at dksX13_init_2 0 rfl rfl)
theorem dX13_init_48 : decode cX13_init 48 = .ok (.goto (-26), 3) := dk_167 255 230 (dk_at dksX13_init_2 3 rfl rfl)
theorem dX13_init_51 : decode cX13_init 51 = .ok (.aload_n 1, 1) := dk_43 (dk_at dksX13_init_2 6 rfl rfl)
theorem dX13_init_52 : decode cX13_init 52 = .ok (.getfield 46, 3) := dk_180 0 46 (dk_at dksX13_init_2 7 rfl rfl)
theorem dX13_init_55 : decode cX13_init 55 = .ok (.invokevirtual 24, 3) := dk_182 0 24 (dk_at dksX13_init_2 10 rfl rfl)
theorem dX13_init_58 : decode cX13_init 58 = .ok (.astore_n 3, 1) := dk_78 (dk_at dksX13_init_2 13 rfl rfl)
theorem dX13_init_59 : decode cX13_init 59 = .ok (.aload_n 3, 1) := dk_45 (dk_at dksX13_init_2 14 rfl rfl)
theorem dX13_init_60 : decode cX13_init 60 = .ok (.invokeinterface 30 1, 5) := by decide +kernel
theorem dX13_init_65 : decode cX13_init 65 = .ok (.ifCond .eq 23, 3) := dk_153 0 23 (dk_at dksX13_init_2 20 rfl rfl)
theorem dX13_init_68 : decode cX13_init 68 = .ok (.aload_n 3, 1) := dk_45 (dk_at dksX13_init_2 23 rfl rfl)
theorem dX13_init_69 : decode cX13_init 69 = .ok (.invokeinterface 36 1, 5) := by decide +kernel
theorem dX13_init_74 : decode cX13_init 74 = .ok (.checkcast 40, 3) := dk_192 0 40 (dk_at dksX13_init_3 5 rfl rfl)
theorem dX13_init_77 : decode cX13_init 77 = .ok (.astore 4, 2) := dk_58 4 (dk_at dksX13_init_3 8 rfl rfl)
theorem dX13_init_79 : decode cX13_init 79 = .ok (.aload 4, 2) := dk_25 4 (dk_at dksX13_init_3 10 rfl rfl)
theorem dX13_init_81 : decode cX13_init 81 = .ok (.aconst_null, 1) := dk_1 (dk_at dksX13_init_3 12 rfl rfl)
theorem dX13_init_82 : decode cX13_init 82 = .ok (.putfield 42, 3) := dk_181 0 42 (dk_at dksX13_init_3 13 rfl rfl)
theorem dX13_init_85 : decode cX13_init 85 = .ok (.goto (-26), 3) := dk_167 255 230 (dk_at dksX13_init_3 16 rfl rfl)
theorem dX13_init_88 : decode cX13_init 88 = .ok (.aload_n 1, 1) := dk_43 (dk_at dksX13_init_3 19 rfl rfl)
theorem dX13_init_89 : decode cX13_init 89 = .ok (.getfield 19, 3) := dk_180 0 19 (dk_at dksX13_init_3 20 rfl rfl)
theorem dX13_init_92 : decode cX13_init 92 = .ok (.getfield 49, 3) := dk_180 0 49 (dk_at dksX13_init_4 0 rfl rfl)
theorem dX13_init_95 : decode cX13_init 95 = .ok (.aload_n 2, 1) := dk_44 (dk_at dksX13_init_4 3 rfl rfl)
theorem dX13_init_96 : decode cX13_init 96 = .ok (.getfield 49, 3) := dk_180 0 49 (dk_at dksX13_init_4 4 rfl rfl)
theorem dX13_init_99 : decode cX13_init 99 = .ok (.new 52, 3) := dk_187 0 52 (dk_at dksX13_init_4 7 rfl rfl)
theorem dX13_init_102 : decode cX13_init 102 = .ok (.dup, 1) := dk_89 (dk_at dksX13_init_4 10 rfl rfl)
theorem dX13_init_103 : decode cX13_init 103 = .ok (.aload_n 0, 1) := dk_42 (dk_at dksX13_init_4 11 rfl rfl)
theorem dX13_init_104 : decode cX13_init 104 = .ok (.invokespecial 54, 3) := dk_183 0 54 (dk_at dksX13_init_4 12 rfl rfl)
theorem dX13_init_107 : decode cX13_init 107 = .ok (.invokestatic 57, 3) := dk_184 0 57 (dk_at dksX13_init_4 15 rfl rfl)
theorem dX13_init_110 : decode cX13_init 110 = .ok (.return_, 1) := dk_177 (dk_at dksX13_init_4 18 rfl rfl)
abbrev cX13_apply : ByteArray := prog_9_method_2_code
def yX13_apply : MethodName := ⟨RX13, "apply", "()V"⟩
def dkwX13_apply_3 : List UInt8 := [191, 132, 2, 1, 167, 255, 191, 132, 1, 1, 167, 255, 178, 177]
abbrev dktX13_apply_3 : List UInt8 := dkwX13_apply_3 ++ []
def dkwX13_apply_2 : List UInt8 := [167, 0, 25, 78, 187, 0, 89, 89, 28, 183, 0, 91, 58, 4, 25, 4, 45, 182, 0, 94, 58, 5, 25, 4]
abbrev dktX13_apply_2 : List UInt8 := dkwX13_apply_2 ++ dktX13_apply_3
def dkwX13_apply_1 : List UInt8 := [162, 0, 55, 42, 42, 180, 0, 9, 180, 0, 61, 28, 185, 0, 71, 2, 0, 192, 0, 75, 27, 182, 0, 77]
abbrev dktX13_apply_1 : List UInt8 := dkwX13_apply_1 ++ dktX13_apply_2
def dkwX13_apply_0 : List UInt8 := [3, 60, 27, 5, 163, 0, 79, 3, 61, 28, 42, 180, 0, 9, 180, 0, 61, 185, 0, 65, 1, 0]
abbrev dktX13_apply_0 : List UInt8 := dkwX13_apply_0 ++ dktX13_apply_1
theorem dksX13_apply_0 : cX13_apply.data.toList.drop 0 = dktX13_apply_0 := by decide +kernel
theorem dksX13_apply_1 : cX13_apply.data.toList.drop 22 = dktX13_apply_1 := dk_seg dksX13_apply_0 22 rfl rfl
theorem dksX13_apply_2 : cX13_apply.data.toList.drop 46 = dktX13_apply_2 := dk_seg dksX13_apply_1 24 rfl rfl
theorem dksX13_apply_3 : cX13_apply.data.toList.drop 70 = dktX13_apply_3 := dk_seg dksX13_apply_2 24 rfl rfl
theorem dX13_apply_0 : decode cX13_apply 0 = .ok (.iconst 0, 1) := dk_3 (dk_at dksX13_apply_0 0 rfl rfl)
theorem dX13_apply_1 : decode cX13_apply 1 = .ok (.istore_n 1, 1) := dk_60 (dk_at dksX13_apply_0 1 rfl rfl)
theorem dX13_apply_2 : decode cX13_apply 2 = .ok (.iload_n 1, 1) := dk_27 (dk_at dksX13_apply_0 2 rfl rfl)
theorem dX13_apply_3 : decode cX13_apply 3 = .ok (.iconst 2, 1) := dk_5 (dk_at dksX13_apply_0 3 rfl rfl)
theorem dX13_apply_4 : decode cX13_apply 4 = .ok (.if_icmp .gt 79, 3) := dk_163 0 79 (dk_at dksX13_apply_0 4 rfl rfl)
theorem dX13_apply_7 : decode cX13_apply 7 = .ok (.iconst 0, 1) := dk_3 (dk_at dksX13_apply_0 7 rfl rfl)
theorem dX13_apply_8 : decode cX13_apply 8 = .ok (.istore_n 2, 1) := dk_61 (dk_at dksX13_apply_0 8 rfl rfl)
theorem dX13_apply_9 : decode cX13_apply 9 = .ok (.iload_n 2, 1) := dk_28 (dk_at dksX13_apply_0 9 rfl rfl)
theorem dX13_apply_10 : decode cX13_apply 10 = .ok (.aload_n 0, 1) := dk_42 (dk_at dksX13_apply_0 10 rfl rfl)
theorem dX13_apply_11 : decode cX13_apply 11 = .ok (.getfield 9, 3) := dk_180 0 9 (dk_at dksX13_apply_0 11 rfl rfl)
theorem dX13_apply_14 : decode cX13_apply 14 = .ok (.getfield 61, 3) := dk_180 0 61 (dk_at dksX13_apply_0 14 rfl rfl)
theorem dX13_apply_17 : decode cX13_apply 17 = .ok (.invokeinterface 65 1, 5) := by decide +kernel
theorem dX13_apply_22 : decode cX13_apply 22 = .ok (.if_icmp .ge 55, 3) := dk_162 0 55 (dk_at dksX13_apply_1 0 rfl rfl)
theorem dX13_apply_25 : decode cX13_apply 25 = .ok (.aload_n 0, 1) := dk_42 (dk_at dksX13_apply_1 3 rfl rfl)
theorem dX13_apply_26 : decode cX13_apply 26 = .ok (.aload_n 0, 1) := dk_42 (dk_at dksX13_apply_1 4 rfl rfl)
theorem dX13_apply_27 : decode cX13_apply 27 = .ok (.getfield 9, 3) := dk_180 0 9 (dk_at dksX13_apply_1 5 rfl rfl)
theorem dX13_apply_30 : decode cX13_apply 30 = .ok (.getfield 61, 3) := dk_180 0 61 (dk_at dksX13_apply_1 8 rfl rfl)
theorem dX13_apply_33 : decode cX13_apply 33 = .ok (.iload_n 2, 1) := dk_28 (dk_at dksX13_apply_1 11 rfl rfl)
theorem dX13_apply_34 : decode cX13_apply 34 = .ok (.invokeinterface 71 2, 5) := by decide +kernel
theorem dX13_apply_39 : decode cX13_apply 39 = .ok (.checkcast 75, 3) := dk_192 0 75 (dk_at dksX13_apply_1 17 rfl rfl)
theorem dX13_apply_42 : decode cX13_apply 42 = .ok (.iload_n 1, 1) := dk_27 (dk_at dksX13_apply_1 20 rfl rfl)
theorem dX13_apply_43 : decode cX13_apply 43 = .ok (.invokevirtual 77, 3) := dk_182 0 77 (dk_at dksX13_apply_1 21 rfl rfl)
theorem dX13_apply_46 : decode cX13_apply 46 = .ok (.goto 25, 3) := dk_167 0 25 (dk_at dksX13_apply_2 0 rfl rfl)
theorem dX13_apply_49 : decode cX13_apply 49 = .ok (.astore_n 3, 1) := dk_78 (dk_at dksX13_apply_2 3 rfl rfl)
theorem dX13_apply_50 : decode cX13_apply 50 = .ok (.new 89, 3) := dk_187 0 89 (dk_at dksX13_apply_2 4 rfl rfl)
theorem dX13_apply_53 : decode cX13_apply 53 = .ok (.dup, 1) := dk_89 (dk_at dksX13_apply_2 7 rfl rfl)
theorem dX13_apply_54 : decode cX13_apply 54 = .ok (.iload_n 2, 1) := dk_28 (dk_at dksX13_apply_2 8 rfl rfl)
theorem dX13_apply_55 : decode cX13_apply 55 = .ok (.invokespecial 91, 3) := dk_183 0 91 (dk_at dksX13_apply_2 9 rfl rfl)
theorem dX13_apply_58 : decode cX13_apply 58 = .ok (.astore 4, 2) := dk_58 4 (dk_at dksX13_apply_2 12 rfl rfl)
theorem dX13_apply_60 : decode cX13_apply 60 = .ok (.aload 4, 2) := dk_25 4 (dk_at dksX13_apply_2 14 rfl rfl)
theorem dX13_apply_62 : decode cX13_apply 62 = .ok (.aload_n 3, 1) := dk_45 (dk_at dksX13_apply_2 16 rfl rfl)
theorem dX13_apply_63 : decode cX13_apply 63 = .ok (.invokevirtual 94, 3) := dk_182 0 94 (dk_at dksX13_apply_2 17 rfl rfl)
theorem dX13_apply_66 : decode cX13_apply 66 = .ok (.astore 5, 2) := dk_58 5 (dk_at dksX13_apply_2 20 rfl rfl)
theorem dX13_apply_68 : decode cX13_apply 68 = .ok (.aload 4, 2) := dk_25 4 (dk_at dksX13_apply_2 22 rfl rfl)
theorem dX13_apply_70 : decode cX13_apply 70 = .ok (.athrow, 1) := dk_191 (dk_at dksX13_apply_3 0 rfl rfl)
theorem dX13_apply_71 : decode cX13_apply 71 = .ok (.iinc 2 1, 3) := dk_132 2 1 (dk_at dksX13_apply_3 1 rfl rfl)
theorem dX13_apply_74 : decode cX13_apply 74 = .ok (.goto (-65), 3) := dk_167 255 191 (dk_at dksX13_apply_3 4 rfl rfl)
theorem dX13_apply_77 : decode cX13_apply 77 = .ok (.iinc 1 1, 3) := dk_132 1 1 (dk_at dksX13_apply_3 7 rfl rfl)
theorem dX13_apply_80 : decode cX13_apply 80 = .ok (.goto (-78), 3) := dk_167 255 178 (dk_at dksX13_apply_3 10 rfl rfl)
theorem dX13_apply_83 : decode cX13_apply 83 = .ok (.return_, 1) := dk_177 (dk_at dksX13_apply_3 13 rfl rfl)
abbrev cX13_apply_2 : ByteArray := prog_9_method_3_code
def yX13_apply_2 : MethodName := ⟨RX13, "apply", "(LTreeDiffer$Operation;I)V"⟩
def dkwX13_apply_2_6 : List UInt8 := [180, 0, 42, 184, 0, 109, 184, 0, 127, 177]
abbrev dktX13_apply_2_6 : List UInt8 := dkwX13_apply_2_6 ++ []
def dkwX13_apply_2_5 : List UInt8 := [180, 0, 116, 182, 0, 123, 182, 0, 119, 167, 0, 22, 28, 4, 160, 0, 17, 43, 43, 180, 0, 102]
abbrev dktX13_apply_2_5 : List UInt8 := dkwX13_apply_2_5 ++ dktX13_apply_2_6
def dkwX13_apply_2_4 : List UInt8 := [180, 0, 102, 180, 0, 42, 182, 0, 119, 167, 0, 45, 28, 5, 160, 0, 40, 42, 43, 180, 0, 116, 43]
abbrev dktX13_apply_2_4 : List UInt8 := dkwX13_apply_2_4 ++ dktX13_apply_2_5
def dkwX13_apply_2_3 : List UInt8 := [180, 0, 42, 184, 0, 109, 182, 0, 113, 167, 0, 68, 28, 5, 160, 0, 63, 42, 43, 180, 0, 116, 43]
abbrev dktX13_apply_2_3 : List UInt8 := dkwX13_apply_2_3 ++ dktX13_apply_2_4
def dkwX13_apply_2_2 : List UInt8 := [28, 154, 0, 98, 43, 180, 0, 102, 184, 0, 105, 167, 0, 88, 28, 154, 0, 19, 43, 180, 0, 102]
abbrev dktX13_apply_2_2 : List UInt8 := dkwX13_apply_2_2 ++ dktX13_apply_2_3
def dkwX13_apply_2_1 : List UInt8 := [171, 0, 0, 0, 0, 0, 0, 116, 0, 0, 0, 3, 0, 0, 0, 100, 0, 0, 0, 36, 0, 0, 0, 105, 0, 0, 0, 93, 0, 0, 0, 109, 0, 0, 0, 50]
abbrev dktX13_apply_2_1 : List UInt8 := dkwX13_apply_2_1 ++ dktX13_apply_2_2
def dkwX13_apply_2_0 : List UInt8 := [43, 180, 0, 98]
abbrev dktX13_apply_2_0 : List UInt8 := dkwX13_apply_2_0 ++ dktX13_apply_2_1
theorem dksX13_apply_2_0 : cX13_apply_2.data.toList.drop 0 = dktX13_apply_2_0 := by decide +kernel
theorem dksX13_apply_2_1 : cX13_apply_2.data.toList.drop 4 = dktX13_apply_2_1 := dk_seg dksX13_apply_2_0 4 rfl rfl
theorem dksX13_apply_2_2 : cX13_apply_2.data.toList.drop 40 = dktX13_apply_2_2 := dk_seg dksX13_apply_2_1 36 rfl rfl
theorem dksX13_apply_2_3 : cX13_apply_2.data.toList.drop 62 = dktX13_apply_2_3 := dk_seg dksX13_apply_2_2 22 rfl rfl
theorem dksX13_apply_2_4 : cX13_apply_2.data.toList.drop 85 = dktX13_apply_2_4 := dk_seg dksX13_apply_2_3 23 rfl rfl
theorem dksX13_apply_2_5 : cX13_apply_2.data.toList.drop 108 = dktX13_apply_2_5 := dk_seg dksX13_apply_2_4 23 rfl rfl
theorem dksX13_apply_2_6 : cX13_apply_2.data.toList.drop 130 = dktX13_apply_2_6 := dk_seg dksX13_apply_2_5 22 rfl rfl
theorem dX13_apply_2_0 : decode cX13_apply_2 0 = .ok (.aload_n 1, 1) := dk_43 (dk_at dksX13_apply_2_0 0 rfl rfl)
theorem dX13_apply_2_1 : decode cX13_apply_2 1 = .ok (.getfield 98, 3) := dk_180 0 98 (dk_at dksX13_apply_2_0 1 rfl rfl)
theorem dX13_apply_2_4 : decode cX13_apply_2 4 = .ok (.lookupswitch 116 #[(100, 36), (105, 93), (109, 50)], 36) := by decide +kernel
theorem dX13_apply_2_40 : decode cX13_apply_2 40 = .ok (.iload_n 2, 1) := dk_28 (dk_at dksX13_apply_2_2 0 rfl rfl)
theorem dX13_apply_2_41 : decode cX13_apply_2 41 = .ok (.ifCond .ne 98, 3) := dk_154 0 98 (dk_at dksX13_apply_2_2 1 rfl rfl)
theorem dX13_apply_2_44 : decode cX13_apply_2 44 = .ok (.aload_n 1, 1) := dk_43 (dk_at dksX13_apply_2_2 4 rfl rfl)
theorem dX13_apply_2_45 : decode cX13_apply_2 45 = .ok (.getfield 102, 3) := dk_180 0 102 (dk_at dksX13_apply_2_2 5 rfl rfl)
theorem dX13_apply_2_48 : decode cX13_apply_2 48 = .ok (.invokestatic 105, 3) := dk_184 0 105 (dk_at dksX13_apply_2_2 8 rfl rfl)
theorem dX13_apply_2_51 : decode cX13_apply_2 51 = .ok (.goto 88, 3) := dk_167 0 88 (dk_at dksX13_apply_2_2 11 rfl rfl)
theorem dX13_apply_2_54 : decode cX13_apply_2 54 = .ok (.iload_n 2, 1) := dk_28 (dk_at dksX13_apply_2_2 14 rfl rfl)
theorem dX13_apply_2_55 : decode cX13_apply_2 55 = .ok (.ifCond .ne 19, 3) := dk_154 0 19 (dk_at dksX13_apply_2_2 15 rfl rfl)
theorem dX13_apply_2_58 : decode cX13_apply_2 58 = .ok (.aload_n 1, 1) := dk_43 (dk_at dksX13_apply_2_2 18 rfl rfl)
theorem dX13_apply_2_59 : decode cX13_apply_2 59 = .ok (.getfield 102, 3) := dk_180 0 102 (dk_at dksX13_apply_2_2 19 rfl rfl)
theorem dX13_apply_2_62 : decode cX13_apply_2 62 = .ok (.getfield 42, 3) := dk_180 0 42 (dk_at dksX13_apply_2_3 0 rfl rfl)
theorem dX13_apply_2_65 : decode cX13_apply_2 65 = .ok (.invokestatic 109, 3) := dk_184 0 109 (dk_at dksX13_apply_2_3 3 rfl rfl)
theorem dX13_apply_2_68 : decode cX13_apply_2 68 = .ok (.invokevirtual 113, 3) := dk_182 0 113 (dk_at dksX13_apply_2_3 6 rfl rfl)
theorem dX13_apply_2_71 : decode cX13_apply_2 71 = .ok (.goto 68, 3) := dk_167 0 68 (dk_at dksX13_apply_2_3 9 rfl rfl)
theorem dX13_apply_2_74 : decode cX13_apply_2 74 = .ok (.iload_n 2, 1) := dk_28 (dk_at dksX13_apply_2_3 12 rfl rfl)
theorem dX13_apply_2_75 : decode cX13_apply_2 75 = .ok (.iconst 2, 1) := dk_5 (dk_at dksX13_apply_2_3 13 rfl rfl)
theorem dX13_apply_2_76 : decode cX13_apply_2 76 = .ok (.if_icmp .ne 63, 3) := dk_160 0 63 (dk_at dksX13_apply_2_3 14 rfl rfl)
theorem dX13_apply_2_79 : decode cX13_apply_2 79 = .ok (.aload_n 0, 1) := dk_42 (dk_at dksX13_apply_2_3 17 rfl rfl)
theorem dX13_apply_2_80 : decode cX13_apply_2 80 = .ok (.aload_n 1, 1) := dk_43 (dk_at dksX13_apply_2_3 18 rfl rfl)
theorem dX13_apply_2_81 : decode cX13_apply_2 81 = .ok (.getfield 116, 3) := dk_180 0 116 (dk_at dksX13_apply_2_3 19 rfl rfl)
theorem dX13_apply_2_84 : decode cX13_apply_2 84 = .ok (.aload_n 1, 1) := dk_43 (dk_at dksX13_apply_2_3 22 rfl rfl)
theorem dX13_apply_2_85 : decode cX13_apply_2 85 = .ok (.getfield 102, 3) := dk_180 0 102 (dk_at dksX13_apply_2_4 0 rfl rfl)
theorem dX13_apply_2_88 : decode cX13_apply_2 88 = .ok (.getfield 42, 3) := dk_180 0 42 (dk_at dksX13_apply_2_4 3 rfl rfl)
theorem dX13_apply_2_91 : decode cX13_apply_2 91 = .ok (.invokevirtual 119, 3) := dk_182 0 119 (dk_at dksX13_apply_2_4 6 rfl rfl)
theorem dX13_apply_2_94 : decode cX13_apply_2 94 = .ok (.goto 45, 3) := dk_167 0 45 (dk_at dksX13_apply_2_4 9 rfl rfl)
theorem dX13_apply_2_97 : decode cX13_apply_2 97 = .ok (.iload_n 2, 1) := dk_28 (dk_at dksX13_apply_2_4 12 rfl rfl)
theorem dX13_apply_2_98 : decode cX13_apply_2 98 = .ok (.iconst 2, 1) := dk_5 (dk_at dksX13_apply_2_4 13 rfl rfl)
theorem dX13_apply_2_99 : decode cX13_apply_2 99 = .ok (.if_icmp .ne 40, 3) := dk_160 0 40 (dk_at dksX13_apply_2_4 14 rfl rfl)
theorem dX13_apply_2_102 : decode cX13_apply_2 102 = .ok (.aload_n 0, 1) := dk_42 (dk_at dksX13_apply_2_4 17 rfl rfl)
theorem dX13_apply_2_103 : decode cX13_apply_2 103 = .ok (.aload_n 1, 1) := dk_43 (dk_at dksX13_apply_2_4 18 rfl rfl)
theorem dX13_apply_2_104 : decode cX13_apply_2 104 = .ok (.getfield 116, 3) := dk_180 0 116 (dk_at dksX13_apply_2_4 19 rfl rfl)
theorem dX13_apply_2_107 : decode cX13_apply_2 107 = .ok (.aload_n 1, 1) := dk_43 (dk_at dksX13_apply_2_4 22 rfl rfl)
theorem dX13_apply_2_108 : decode cX13_apply_2 108 = .ok (.getfield 116, 3) := dk_180 0 116 (dk_at dksX13_apply_2_5 0 rfl rfl)
theorem dX13_apply_2_111 : decode cX13_apply_2 111 = .ok (.invokevirtual 123, 3) := dk_182 0 123 (dk_at dksX13_apply_2_5 3 rfl rfl)
theorem dX13_apply_2_114 : decode cX13_apply_2 114 = .ok (.invokevirtual 119, 3) := dk_182 0 119 (dk_at dksX13_apply_2_5 6 rfl rfl)
theorem dX13_apply_2_117 : decode cX13_apply_2 117 = .ok (.goto 22, 3) := dk_167 0 22 (dk_at dksX13_apply_2_5 9 rfl rfl)
theorem dX13_apply_2_120 : decode cX13_apply_2 120 = .ok (.iload_n 2, 1) := dk_28 (dk_at dksX13_apply_2_5 12 rfl rfl)
theorem dX13_apply_2_121 : decode cX13_apply_2 121 = .ok (.iconst 1, 1) := dk_4 (dk_at dksX13_apply_2_5 13 rfl rfl)
theorem dX13_apply_2_122 : decode cX13_apply_2 122 = .ok (.if_icmp .ne 17, 3) := dk_160 0 17 (dk_at dksX13_apply_2_5 14 rfl rfl)
theorem dX13_apply_2_125 : decode cX13_apply_2 125 = .ok (.aload_n 1, 1) := dk_43 (dk_at dksX13_apply_2_5 17 rfl rfl)
theorem dX13_apply_2_126 : decode cX13_apply_2 126 = .ok (.aload_n 1, 1) := dk_43 (dk_at dksX13_apply_2_5 18 rfl rfl)
theorem dX13_apply_2_127 : decode cX13_apply_2 127 = .ok (.getfield 102, 3) := dk_180 0 102 (dk_at dksX13_apply_2_5 19 rfl rfl)
theorem dX13_apply_2_130 : decode cX13_apply_2 130 = .ok (.getfield 42, 3) := dk_180 0 42 (dk_at dksX13_apply_2_6 0 rfl rfl)
theorem dX13_apply_2_133 : decode cX13_apply_2 133 = .ok (.invokestatic 109, 3) := dk_184 0 109 (dk_at dksX13_apply_2_6 3 rfl rfl)
theorem dX13_apply_2_136 : decode cX13_apply_2 136 = .ok (.invokestatic 127, 3) := dk_184 0 127 (dk_at dksX13_apply_2_6 6 rfl rfl)
theorem dX13_apply_2_139 : decode cX13_apply_2 139 = .ok (.return_, 1) := dk_177 (dk_at dksX13_apply_2_6 9 rfl rfl)
abbrev cX13_delete : ByteArray := prog_9_method_5_code
def yX13_delete : MethodName := ⟨RX13, "delete", "(LTreeDiffer$Node;)V"⟩
def dkwX13_delete_1 : List UInt8 := [183, 0, 136, 191, 42, 180, 0, 42, 182, 0, 113, 177]
abbrev dktX13_delete_1 : List UInt8 := dkwX13_delete_1 ++ []
def dkwX13_delete_0 : List UInt8 := [42, 180, 0, 42, 198, 0, 30, 42, 180, 0, 42, 42, 3, 182, 0, 132, 154, 0, 11, 187, 0, 83, 89]
abbrev dktX13_delete_0 : List UInt8 := dkwX13_delete_0 ++ dktX13_delete_1
theorem dksX13_delete_0 : cX13_delete.data.toList.drop 0 = dktX13_delete_0 := by decide +kernel
theorem dksX13_delete_1 : cX13_delete.data.toList.drop 23 = dktX13_delete_1 := dk_seg dksX13_delete_0 23 rfl rfl
theorem dX13_delete_0 : decode cX13_delete 0 = .ok (.aload_n 0, 1) := dk_42 (dk_at dksX13_delete_0 0 rfl rfl)
theorem dX13_delete_1 : decode cX13_delete 1 = .ok (.getfield 42, 3) := dk_180 0 42 (dk_at dksX13_delete_0 1 rfl rfl)
theorem dX13_delete_4 : decode cX13_delete 4 = .ok (.ifnull 30, 3) := dk_198 0 30 (dk_at dksX13_delete_0 4 rfl rfl)
theorem dX13_delete_7 : decode cX13_delete 7 = .ok (.aload_n 0, 1) := dk_42 (dk_at dksX13_delete_0 7 rfl rfl)
theorem dX13_delete_8 : decode cX13_delete 8 = .ok (.getfield 42, 3) := dk_180 0 42 (dk_at dksX13_delete_0 8 rfl rfl)
theorem dX13_delete_11 : decode cX13_delete 11 = .ok (.aload_n 0, 1) := dk_42 (dk_at dksX13_delete_0 11 rfl rfl)
theorem dX13_delete_12 : decode cX13_delete 12 = .ok (.iconst 0, 1) := dk_3 (dk_at dksX13_delete_0 12 rfl rfl)
theorem dX13_delete_13 : decode cX13_delete 13 = .ok (.invokevirtual 132, 3) := dk_182 0 132 (dk_at dksX13_delete_0 13 rfl rfl)
theorem dX13_delete_16 : decode cX13_delete 16 = .ok (.ifCond .ne 11, 3) := dk_154 0 11 (dk_at dksX13_delete_0 16 rfl rfl)
theorem dX13_delete_19 : decode cX13_delete 19 = .ok (.new 83, 3) := dk_187 0 83 (dk_at dksX13_delete_0 19 rfl rfl)
theorem dX13_delete_22 : decode cX13_delete 22 = .ok (.dup, 1) := dk_89 (dk_at dksX13_delete_0 22 rfl rfl)
theorem dX13_delete_23 : decode cX13_delete 23 = .ok (.invokespecial 136, 3) := dk_183 0 136 (dk_at dksX13_delete_1 0 rfl rfl)
theorem dX13_delete_26 : decode cX13_delete 26 = .ok (.athrow, 1) := dk_191 (dk_at dksX13_delete_1 3 rfl rfl)
theorem dX13_delete_27 : decode cX13_delete 27 = .ok (.aload_n 0, 1) := dk_42 (dk_at dksX13_delete_1 4 rfl rfl)
theorem dX13_delete_28 : decode cX13_delete 28 = .ok (.getfield 42, 3) := dk_180 0 42 (dk_at dksX13_delete_1 5 rfl rfl)
theorem dX13_delete_31 : decode cX13_delete 31 = .ok (.invokevirtual 113, 3) := dk_182 0 113 (dk_at dksX13_delete_1 8 rfl rfl)
theorem dX13_delete_34 : decode cX13_delete 34 = .ok (.return_, 1) := dk_177 (dk_at dksX13_delete_1 11 rfl rfl)
abbrev cX13_require : ByteArray := prog_9_method_4_code
def yX13_require : MethodName := ⟨RX13, "require", "(LTreeDiffer$Node;)LTreeDiffer$Node;"⟩
def dkwX13_require_0 : List UInt8 := [42, 199, 0, 11, 187, 0, 81, 89, 183, 0, 131, 191, 42, 176]
abbrev dktX13_require_0 : List UInt8 := dkwX13_require_0 ++ []
theorem dksX13_require_0 : cX13_require.data.toList.drop 0 = dktX13_require_0 := by decide +kernel
theorem dX13_require_0 : decode cX13_require 0 = .ok (.aload_n 0, 1) := dk_42 (dk_at dksX13_require_0 0 rfl rfl)
theorem dX13_require_1 : decode cX13_require 1 = .ok (.ifnonnull 11, 3) := dk_199 0 11 (dk_at dksX13_require_0 1 rfl rfl)
theorem dX13_require_4 : decode cX13_require 4 = .ok (.new 81, 3) := dk_187 0 81 (dk_at dksX13_require_0 4 rfl rfl)
theorem dX13_require_7 : decode cX13_require 7 = .ok (.dup, 1) := dk_89 (dk_at dksX13_require_0 7 rfl rfl)
theorem dX13_require_8 : decode cX13_require 8 = .ok (.invokespecial 131, 3) := dk_183 0 131 (dk_at dksX13_require_0 8 rfl rfl)
theorem dX13_require_11 : decode cX13_require 11 = .ok (.athrow, 1) := dk_191 (dk_at dksX13_require_0 11 rfl rfl)
theorem dX13_require_12 : decode cX13_require 12 = .ok (.aload_n 0, 1) := dk_42 (dk_at dksX13_require_0 12 rfl rfl)
theorem dX13_require_13 : decode cX13_require 13 = .ok (.areturn, 1) := dk_176 (dk_at dksX13_require_0 13 rfl rfl)
abbrev cX13_put : ByteArray := prog_9_method_7_code
def yX13_put : MethodName := ⟨RX13, "put", "(LTreeDiffer$Node;LTreeDiffer$Node;)V"⟩
def dkwX13_put_7 : List UInt8 := [21, 4, 44, 182, 0, 167, 43, 44, 181, 0, 42, 177]
abbrev dktX13_put_7 : List UInt8 := dkwX13_put_7 ++ []
def dkwX13_put_6 : List UInt8 := [199, 0, 7, 3, 167, 0, 11, 45, 25, 7, 182, 0, 160, 4, 96, 54, 4, 132, 5, 255, 167, 255, 179, 45]
abbrev dktX13_put_6 : List UInt8 := dkwX13_put_6 ++ dktX13_put_7
def dkwX13_put_5 : List UInt8 := [199, 0, 11, 25, 6, 180, 0, 42, 167, 0, 11, 25, 6, 180, 0, 147, 180, 0, 42, 58, 7, 25, 7]
abbrev dktX13_put_5 : List UInt8 := dkwX13_put_5 ++ dktX13_put_6
def dkwX13_put_4 : List UInt8 := [180, 0, 144, 180, 0, 164, 21, 5, 185, 0, 71, 2, 0, 192, 0, 40, 58, 6, 25, 6, 180, 0, 147]
abbrev dktX13_put_4 : List UInt8 := dkwX13_put_4 ++ dktX13_put_5
def dkwX13_put_3 : List UInt8 := [43, 180, 0, 144, 43, 182, 0, 160, 4, 100, 54, 5, 21, 5, 155, 0, 78, 21, 4, 154, 0, 73, 43]
abbrev dktX13_put_3 : List UInt8 := dkwX13_put_3 ++ dktX13_put_4
def dkwX13_put_2 : List UInt8 := [182, 0, 158, 44, 182, 0, 158, 96, 16, 20, 164, 0, 11, 187, 0, 87, 89, 183, 0, 159, 191, 3, 54, 4]
abbrev dktX13_put_2 : List UInt8 := dkwX13_put_2 ++ dktX13_put_3
def dkwX13_put_1 : List UInt8 := [180, 0, 150, 182, 0, 153, 153, 0, 11, 187, 0, 85, 89, 183, 0, 157, 191, 42, 180, 0, 15, 180, 0, 49]
abbrev dktX13_put_1 : List UInt8 := dkwX13_put_1 ++ dktX13_put_2
def dkwX13_put_0 : List UInt8 := [43, 180, 0, 144, 180, 0, 147, 180, 0, 42, 184, 0, 109, 78, 44, 180, 0, 150, 153, 0, 22, 45, 44]
abbrev dktX13_put_0 : List UInt8 := dkwX13_put_0 ++ dktX13_put_1
theorem dksX13_put_0 : cX13_put.data.toList.drop 0 = dktX13_put_0 := by decide +kernel
theorem dksX13_put_1 : cX13_put.data.toList.drop 23 = dktX13_put_1 := dk_seg dksX13_put_0 23 rfl rfl
theorem dksX13_put_2 : cX13_put.data.toList.drop 47 = dktX13_put_2 := dk_seg dksX13_put_1 24 rfl rfl
theorem dksX13_put_3 : cX13_put.data.toList.drop 71 = dktX13_put_3 := dk_seg dksX13_put_2 24 rfl rfl
theorem dksX13_put_4 : cX13_put.data.toList.drop 94 = dktX13_put_4 := dk_seg dksX13_put_3 23 rfl rfl
theorem dksX13_put_5 : cX13_put.data.toList.drop 117 = dktX13_put_5 := dk_seg dksX13_put_4 23 rfl rfl
theorem dksX13_put_6 : cX13_put.data.toList.drop 140 = dktX13_put_6 := dk_seg dksX13_put_5 23 rfl rfl
theorem dksX13_put_7 : cX13_put.data.toList.drop 164 = dktX13_put_7 := dk_seg dksX13_put_6 24 rfl rfl
theorem dX13_put_0 : decode cX13_put 0 = .ok (.aload_n 1, 1) := dk_43 (dk_at dksX13_put_0 0 rfl rfl)
theorem dX13_put_1 : decode cX13_put 1 = .ok (.getfield 144, 3) := dk_180 0 144 (dk_at dksX13_put_0 1 rfl rfl)
theorem dX13_put_4 : decode cX13_put 4 = .ok (.getfield 147, 3) := dk_180 0 147 (dk_at dksX13_put_0 4 rfl rfl)
theorem dX13_put_7 : decode cX13_put 7 = .ok (.getfield 42, 3) := dk_180 0 42 (dk_at dksX13_put_0 7 rfl rfl)
theorem dX13_put_10 : decode cX13_put 10 = .ok (.invokestatic 109, 3) := dk_184 0 109 (dk_at dksX13_put_0 10 rfl rfl)
theorem dX13_put_13 : decode cX13_put 13 = .ok (.astore_n 3, 1) := dk_78 (dk_at dksX13_put_0 13 rfl rfl)
theorem dX13_put_14 : decode cX13_put 14 = .ok (.aload_n 2, 1) := dk_44 (dk_at dksX13_put_0 14 rfl rfl)
theorem dX13_put_15 : decode cX13_put 15 = .ok (.getfield 150, 3) := dk_180 0 150 (dk_at dksX13_put_0 15 rfl rfl)
theorem dX13_put_18 : decode cX13_put 18 = .ok (.ifCond .eq 22, 3) := dk_153 0 22 (dk_at dksX13_put_0 18 rfl rfl)
theorem dX13_put_21 : decode cX13_put 21 = .ok (.aload_n 3, 1) := dk_45 (dk_at dksX13_put_0 21 rfl rfl)
theorem dX13_put_22 : decode cX13_put 22 = .ok (.aload_n 2, 1) := dk_44 (dk_at dksX13_put_0 22 rfl rfl)
theorem dX13_put_23 : decode cX13_put 23 = .ok (.getfield 150, 3) := dk_180 0 150 (dk_at dksX13_put_1 0 rfl rfl)
theorem dX13_put_26 : decode cX13_put 26 = .ok (.invokevirtual 153, 3) := dk_182 0 153 (dk_at dksX13_put_1 3 rfl rfl)
theorem dX13_put_29 : decode cX13_put 29 = .ok (.ifCond .eq 11, 3) := dk_153 0 11 (dk_at dksX13_put_1 6 rfl rfl)
theorem dX13_put_32 : decode cX13_put 32 = .ok (.new 85, 3) := dk_187 0 85 (dk_at dksX13_put_1 9 rfl rfl)
theorem dX13_put_35 : decode cX13_put 35 = .ok (.dup, 1) := dk_89 (dk_at dksX13_put_1 12 rfl rfl)
theorem dX13_put_36 : decode cX13_put 36 = .ok (.invokespecial 157, 3) := dk_183 0 157 (dk_at dksX13_put_1 13 rfl rfl)
theorem dX13_put_39 : decode cX13_put 39 = .ok (.athrow, 1) := dk_191 (dk_at dksX13_put_1 16 rfl rfl)
theorem dX13_put_40 : decode cX13_put 40 = .ok (.aload_n 0, 1) := dk_42 (dk_at dksX13_put_1 17 rfl rfl)
theorem dX13_put_41 : decode cX13_put 41 = .ok (.getfield 15, 3) := dk_180 0 15 (dk_at dksX13_put_1 18 rfl rfl)
theorem dX13_put_44 : decode cX13_put 44 = .ok (.getfield 49, 3) := dk_180 0 49 (dk_at dksX13_put_1 21 rfl rfl)
theorem dX13_put_47 : decode cX13_put 47 = .ok (.invokevirtual 158, 3) := dk_182 0 158 (dk_at dksX13_put_2 0 rfl rfl)
theorem dX13_put_50 : decode cX13_put 50 = .ok (.aload_n 2, 1) := dk_44 (dk_at dksX13_put_2 3 rfl rfl)
theorem dX13_put_51 : decode cX13_put 51 = .ok (.invokevirtual 158, 3) := dk_182 0 158 (dk_at dksX13_put_2 4 rfl rfl)
theorem dX13_put_54 : decode cX13_put 54 = .ok (.iadd, 1) := dk_96 (dk_at dksX13_put_2 7 rfl rfl)
theorem dX13_put_55 : decode cX13_put 55 = .ok (.bipush 20, 2) := dk_16 20 (dk_at dksX13_put_2 8 rfl rfl)
theorem dX13_put_57 : decode cX13_put 57 = .ok (.if_icmp .le 11, 3) := dk_164 0 11 (dk_at dksX13_put_2 10 rfl rfl)
theorem dX13_put_60 : decode cX13_put 60 = .ok (.new 87, 3) := dk_187 0 87 (dk_at dksX13_put_2 13 rfl rfl)
theorem dX13_put_63 : decode cX13_put 63 = .ok (.dup, 1) := dk_89 (dk_at dksX13_put_2 16 rfl rfl)
theorem dX13_put_64 : decode cX13_put 64 = .ok (.invokespecial 159, 3) := dk_183 0 159 (dk_at dksX13_put_2 17 rfl rfl)
theorem dX13_put_67 : decode cX13_put 67 = .ok (.athrow, 1) := dk_191 (dk_at dksX13_put_2 20 rfl rfl)
theorem dX13_put_68 : decode cX13_put 68 = .ok (.iconst 0, 1) := dk_3 (dk_at dksX13_put_2 21 rfl rfl)
theorem dX13_put_69 : decode cX13_put 69 = .ok (.istore 4, 2) := dk_54 4 (dk_at dksX13_put_2 22 rfl rfl)
theorem dX13_put_71 : decode cX13_put 71 = .ok (.aload_n 1, 1) := dk_43 (dk_at dksX13_put_3 0 rfl rfl)
theorem dX13_put_72 : decode cX13_put 72 = .ok (.getfield 144, 3) := dk_180 0 144 (dk_at dksX13_put_3 1 rfl rfl)
theorem dX13_put_75 : decode cX13_put 75 = .ok (.aload_n 1, 1) := dk_43 (dk_at dksX13_put_3 4 rfl rfl)
theorem dX13_put_76 : decode cX13_put 76 = .ok (.invokevirtual 160, 3) := dk_182 0 160 (dk_at dksX13_put_3 5 rfl rfl)
theorem dX13_put_79 : decode cX13_put 79 = .ok (.iconst 1, 1) := dk_4 (dk_at dksX13_put_3 8 rfl rfl)
theorem dX13_put_80 : decode cX13_put 80 = .ok (.isub, 1) := dk_100 (dk_at dksX13_put_3 9 rfl rfl)
theorem dX13_put_81 : decode cX13_put 81 = .ok (.istore 5, 2) := dk_54 5 (dk_at dksX13_put_3 10 rfl rfl)
theorem dX13_put_83 : decode cX13_put 83 = .ok (.iload 5, 2) := dk_21 5 (dk_at dksX13_put_3 12 rfl rfl)
theorem dX13_put_85 : decode cX13_put 85 = .ok (.ifCond .lt 78, 3) := dk_155 0 78 (dk_at dksX13_put_3 14 rfl rfl)
theorem dX13_put_88 : decode cX13_put 88 = .ok (.iload 4, 2) := dk_21 4 (dk_at dksX13_put_3 17 rfl rfl)
theorem dX13_put_90 : decode cX13_put 90 = .ok (.ifCond .ne 73, 3) := dk_154 0 73 (dk_at dksX13_put_3 19 rfl rfl)
theorem dX13_put_93 : decode cX13_put 93 = .ok (.aload_n 1, 1) := dk_43 (dk_at dksX13_put_3 22 rfl rfl)
theorem dX13_put_94 : decode cX13_put 94 = .ok (.getfield 144, 3) := dk_180 0 144 (dk_at dksX13_put_4 0 rfl rfl)
theorem dX13_put_97 : decode cX13_put 97 = .ok (.getfield 164, 3) := dk_180 0 164 (dk_at dksX13_put_4 3 rfl rfl)
theorem dX13_put_100 : decode cX13_put 100 = .ok (.iload 5, 2) := dk_21 5 (dk_at dksX13_put_4 6 rfl rfl)
theorem dX13_put_102 : decode cX13_put 102 = .ok (.invokeinterface 71 2, 5) := by decide +kernel
theorem dX13_put_107 : decode cX13_put 107 = .ok (.checkcast 40, 3) := dk_192 0 40 (dk_at dksX13_put_4 13 rfl rfl)
theorem dX13_put_110 : decode cX13_put 110 = .ok (.astore 6, 2) := dk_58 6 (dk_at dksX13_put_4 16 rfl rfl)
theorem dX13_put_112 : decode cX13_put 112 = .ok (.aload 6, 2) := dk_25 6 (dk_at dksX13_put_4 18 rfl rfl)
theorem dX13_put_114 : decode cX13_put 114 = .ok (.getfield 147, 3) := dk_180 0 147 (dk_at dksX13_put_4 20 rfl rfl)
theorem dX13_put_117 : decode cX13_put 117 = .ok (.ifnonnull 11, 3) := dk_199 0 11 (dk_at dksX13_put_5 0 rfl rfl)
theorem dX13_put_120 : decode cX13_put 120 = .ok (.aload 6, 2) := dk_25 6 (dk_at dksX13_put_5 3 rfl rfl)
theorem dX13_put_122 : decode cX13_put 122 = .ok (.getfield 42, 3) := dk_180 0 42 (dk_at dksX13_put_5 5 rfl rfl)
theorem dX13_put_125 : decode cX13_put 125 = .ok (.goto 11, 3) := dk_167 0 11 (dk_at dksX13_put_5 8 rfl rfl)
theorem dX13_put_128 : decode cX13_put 128 = .ok (.aload 6, 2) := dk_25 6 (dk_at dksX13_put_5 11 rfl rfl)
theorem dX13_put_130 : decode cX13_put 130 = .ok (.getfield 147, 3) := dk_180 0 147 (dk_at dksX13_put_5 13 rfl rfl)
theorem dX13_put_133 : decode cX13_put 133 = .ok (.getfield 42, 3) := dk_180 0 42 (dk_at dksX13_put_5 16 rfl rfl)
theorem dX13_put_136 : decode cX13_put 136 = .ok (.astore 7, 2) := dk_58 7 (dk_at dksX13_put_5 19 rfl rfl)
theorem dX13_put_138 : decode cX13_put 138 = .ok (.aload 7, 2) := dk_25 7 (dk_at dksX13_put_5 21 rfl rfl)
theorem dX13_put_140 : decode cX13_put 140 = .ok (.ifnonnull 7, 3) := dk_199 0 7 (dk_at dksX13_put_6 0 rfl rfl)
theorem dX13_put_143 : decode cX13_put 143 = .ok (.iconst 0, 1) := dk_3 (dk_at dksX13_put_6 3 rfl rfl)
theorem dX13_put_144 : decode cX13_put 144 = .ok (.goto 11, 3) := dk_167 0 11 (dk_at dksX13_put_6 4 rfl rfl)
theorem dX13_put_147 : decode cX13_put 147 = .ok (.aload_n 3, 1) := dk_45 (dk_at dksX13_put_6 7 rfl rfl)
theorem dX13_put_148 : decode cX13_put 148 = .ok (.aload 7, 2) := dk_25 7 (dk_at dksX13_put_6 8 rfl rfl)
theorem dX13_put_150 : decode cX13_put 150 = .ok (.invokevirtual 160, 3) := dk_182 0 160 (dk_at dksX13_put_6 10 rfl rfl)
theorem dX13_put_153 : decode cX13_put 153 = .ok (.iconst 1, 1) := dk_4 (dk_at dksX13_put_6 13 rfl rfl)
theorem dX13_put_154 : decode cX13_put 154 = .ok (.iadd, 1) := dk_96 (dk_at dksX13_put_6 14 rfl rfl)
theorem dX13_put_155 : decode cX13_put 155 = .ok (.istore 4, 2) := dk_54 4 (dk_at dksX13_put_6 15 rfl rfl)
theorem dX13_put_157 : decode cX13_put 157 = .ok (.iinc 5 (-1), 3) := dk_132 5 255 (dk_at dksX13_put_6 17 rfl rfl)
theorem dX13_put_160 : decode cX13_put 160 = .ok (.goto (-77), 3) := dk_167 255 179 (dk_at dksX13_put_6 20 rfl rfl)
theorem dX13_put_163 : decode cX13_put 163 = .ok (.aload_n 3, 1) := dk_45 (dk_at dksX13_put_6 23 rfl rfl)
theorem dX13_put_164 : decode cX13_put 164 = .ok (.iload 4, 2) := dk_21 4 (dk_at dksX13_put_7 0 rfl rfl)
theorem dX13_put_166 : decode cX13_put 166 = .ok (.aload_n 2, 1) := dk_44 (dk_at dksX13_put_7 2 rfl rfl)
theorem dX13_put_167 : decode cX13_put 167 = .ok (.invokevirtual 167, 3) := dk_182 0 167 (dk_at dksX13_put_7 3 rfl rfl)
theorem dX13_put_170 : decode cX13_put 170 = .ok (.aload_n 1, 1) := dk_43 (dk_at dksX13_put_7 6 rfl rfl)
theorem dX13_put_171 : decode cX13_put 171 = .ok (.aload_n 2, 1) := dk_44 (dk_at dksX13_put_7 7 rfl rfl)
theorem dX13_put_172 : decode cX13_put 172 = .ok (.putfield 42, 3) := dk_181 0 42 (dk_at dksX13_put_7 8 rfl rfl)
theorem dX13_put_175 : decode cX13_put 175 = .ok (.return_, 1) := dk_177 (dk_at dksX13_put_7 11 rfl rfl)
abbrev cX13_change : ByteArray := prog_9_method_6_code
def yX13_change : MethodName := ⟨RX13, "change", "(LTreeDiffer$Operation;LTreeDiffer$Node;)V"⟩
def dkwX13_change_5 : List UInt8 := [177]
abbrev dktX13_change_5 : List UInt8 := dkwX13_change_5 ++ []
def dkwX13_change_4 : List UInt8 := [183, 0, 136, 191, 28, 153, 0, 13, 43, 21, 5, 146, 181, 0, 137, 167, 0, 9, 43, 21, 5, 181, 0, 140]
abbrev dktX13_change_4 : List UInt8 := dkwX13_change_4 ++ dktX13_change_5
def dkwX13_change_3 : List UInt8 := [180, 0, 116, 180, 0, 140, 54, 5, 29, 21, 4, 159, 0, 17, 29, 21, 5, 159, 0, 11, 187, 0, 83, 89]
abbrev dktX13_change_3 : List UInt8 := dkwX13_change_3 ++ dktX13_change_4
def dkwX13_change_2 : List UInt8 := [180, 0, 102, 180, 0, 140, 54, 4, 28, 153, 0, 13, 42, 180, 0, 116, 180, 0, 137, 167, 0, 10, 42]
abbrev dktX13_change_2 : List UInt8 := dkwX13_change_2 ++ dktX13_change_3
def dkwX13_change_1 : List UInt8 := [167, 0, 7, 43, 180, 0, 140, 62, 28, 153, 0, 13, 42, 180, 0, 102, 180, 0, 137, 167, 0, 10, 42]
abbrev dktX13_change_1 : List UInt8 := dkwX13_change_1 ++ dktX13_change_2
def dkwX13_change_0 : List UInt8 := [42, 180, 0, 98, 16, 108, 160, 0, 7, 4, 167, 0, 4, 3, 61, 28, 153, 0, 10, 43, 180, 0, 137]
abbrev dktX13_change_0 : List UInt8 := dkwX13_change_0 ++ dktX13_change_1
theorem dksX13_change_0 : cX13_change.data.toList.drop 0 = dktX13_change_0 := by decide +kernel
theorem dksX13_change_1 : cX13_change.data.toList.drop 23 = dktX13_change_1 := dk_seg dksX13_change_0 23 rfl rfl
theorem dksX13_change_2 : cX13_change.data.toList.drop 46 = dktX13_change_2 := dk_seg dksX13_change_1 23 rfl rfl
theorem dksX13_change_3 : cX13_change.data.toList.drop 69 = dktX13_change_3 := dk_seg dksX13_change_2 23 rfl rfl
theorem dksX13_change_4 : cX13_change.data.toList.drop 93 = dktX13_change_4 := dk_seg dksX13_change_3 24 rfl rfl
theorem dksX13_change_5 : cX13_change.data.toList.drop 117 = dktX13_change_5 := dk_seg dksX13_change_4 24 rfl rfl
theorem dX13_change_0 : decode cX13_change 0 = .ok (.aload_n 0, 1) := dk_42 (dk_at dksX13_change_0 0 rfl rfl)
theorem dX13_change_1 : decode cX13_change 1 = .ok (.getfield 98, 3) := dk_180 0 98 (dk_at dksX13_change_0 1 rfl rfl)
theorem dX13_change_4 : decode cX13_change 4 = .ok (.bipush 108, 2) := dk_16 108 (dk_at dksX13_change_0 4 rfl rfl)
theorem dX13_change_6 : decode cX13_change 6 = .ok (.if_icmp .ne 7, 3) := dk_160 0 7 (dk_at dksX13_change_0 6 rfl rfl)
theorem dX13_change_9 : decode cX13_change 9 = .ok (.iconst 1, 1) := dk_4 (dk_at dksX13_change_0 9 rfl rfl)
theorem dX13_change_10 : decode cX13_change 10 = .ok (.goto 4, 3) := dk_167 0 4 (dk_at dksX13_change_0 10 rfl rfl)
theorem dX13_change_13 : decode cX13_change 13 = .ok (.iconst 0, 1) := dk_3 (dk_at dksX13_change_0 13 rfl rfl)
theorem dX13_change_14 : decode cX13_change 14 = .ok (.istore_n 2, 1) := dk_61 (dk_at dksX13_change_0 14 rfl rfl)
theorem dX13_change_15 : decode cX13_change 15 = .ok (.iload_n 2, 1) := dk_28 (dk_at dksX13_change_0 15 rfl rfl)
theorem dX13_change_16 : decode cX13_change 16 = .ok (.ifCond .eq 10, 3) := dk_153 0 10 (dk_at dksX13_change_0 16 rfl rfl)
theorem dX13_change_19 : decode cX13_change 19 = .ok (.aload_n 1, 1) := dk_43 (dk_at dksX13_change_0 19 rfl rfl)
theorem dX13_change_20 : decode cX13_change 20 = .ok (.getfield 137, 3) := dk_180 0 137 (dk_at dksX13_change_0 20 rfl rfl)
theorem dX13_change_23 : decode cX13_change 23 = .ok (.goto 7, 3) := dk_167 0 7 (dk_at dksX13_change_1 0 rfl rfl)
theorem dX13_change_26 : decode cX13_change 26 = .ok (.aload_n 1, 1) := dk_43 (dk_at dksX13_change_1 3 rfl rfl)
theorem dX13_change_27 : decode cX13_change 27 = .ok (.getfield 140, 3) := dk_180 0 140 (dk_at dksX13_change_1 4 rfl rfl)
theorem dX13_change_30 : decode cX13_change 30 = .ok (.istore_n 3, 1) := dk_62 (dk_at dksX13_change_1 7 rfl rfl)
theorem dX13_change_31 : decode cX13_change 31 = .ok (.iload_n 2, 1) := dk_28 (dk_at dksX13_change_1 8 rfl rfl)
theorem dX13_change_32 : decode cX13_change 32 = .ok (.ifCond .eq 13, 3) := dk_153 0 13 (dk_at dksX13_change_1 9 rfl rfl)
theorem dX13_change_35 : decode cX13_change 35 = .ok (.aload_n 0, 1) := dk_42 (dk_at dksX13_change_1 12 rfl rfl)
theorem dX13_change_36 : decode cX13_change 36 = .ok (.getfield 102, 3) := dk_180 0 102 (dk_at dksX13_change_1 13 rfl rfl)
theorem dX13_change_39 : decode cX13_change 39 = .ok (.getfield 137, 3) := dk_180 0 137 (dk_at dksX13_change_1 16 rfl rfl)
theorem dX13_change_42 : decode cX13_change 42 = .ok (.goto 10, 3) := dk_167 0 10 (dk_at dksX13_change_1 19 rfl rfl)
theorem dX13_change_45 : decode cX13_change 45 = .ok (.aload_n 0, 1) := dk_42 (dk_at dksX13_change_1 22 rfl rfl)
theorem dX13_change_46 : decode cX13_change 46 = .ok (.getfield 102, 3) := dk_180 0 102 (dk_at dksX13_change_2 0 rfl rfl)
theorem dX13_change_49 : decode cX13_change 49 = .ok (.getfield 140, 3) := dk_180 0 140 (dk_at dksX13_change_2 3 rfl rfl)
theorem dX13_change_52 : decode cX13_change 52 = .ok (.istore 4, 2) := dk_54 4 (dk_at dksX13_change_2 6 rfl rfl)
theorem dX13_change_54 : decode cX13_change 54 = .ok (.iload_n 2, 1) := dk_28 (dk_at dksX13_change_2 8 rfl rfl)
theorem dX13_change_55 : decode cX13_change 55 = .ok (.ifCond .eq 13, 3) := dk_153 0 13 (dk_at dksX13_change_2 9 rfl rfl)
theorem dX13_change_58 : decode cX13_change 58 = .ok (.aload_n 0, 1) := dk_42 (dk_at dksX13_change_2 12 rfl rfl)
theorem dX13_change_59 : decode cX13_change 59 = .ok (.getfield 116, 3) := dk_180 0 116 (dk_at dksX13_change_2 13 rfl rfl)
theorem dX13_change_62 : decode cX13_change 62 = .ok (.getfield 137, 3) := dk_180 0 137 (dk_at dksX13_change_2 16 rfl rfl)
theorem dX13_change_65 : decode cX13_change 65 = .ok (.goto 10, 3) := dk_167 0 10 (dk_at dksX13_change_2 19 rfl rfl)
theorem dX13_change_68 : decode cX13_change 68 = .ok (.aload_n 0, 1) := dk_42 (dk_at dksX13_change_2 22 rfl rfl)
theorem dX13_change_69 : decode cX13_change 69 = .ok (.getfield 116, 3) := dk_180 0 116 (dk_at dksX13_change_3 0 rfl rfl)
theorem dX13_change_72 : decode cX13_change 72 = .ok (.getfield 140, 3) := dk_180 0 140 (dk_at dksX13_change_3 3 rfl rfl)
theorem dX13_change_75 : decode cX13_change 75 = .ok (.istore 5, 2) := dk_54 5 (dk_at dksX13_change_3 6 rfl rfl)
theorem dX13_change_77 : decode cX13_change 77 = .ok (.iload_n 3, 1) := dk_29 (dk_at dksX13_change_3 8 rfl rfl)
theorem dX13_change_78 : decode cX13_change 78 = .ok (.iload 4, 2) := dk_21 4 (dk_at dksX13_change_3 9 rfl rfl)
theorem dX13_change_80 : decode cX13_change 80 = .ok (.if_icmp .eq 17, 3) := dk_159 0 17 (dk_at dksX13_change_3 11 rfl rfl)
theorem dX13_change_83 : decode cX13_change 83 = .ok (.iload_n 3, 1) := dk_29 (dk_at dksX13_change_3 14 rfl rfl)
theorem dX13_change_84 : decode cX13_change 84 = .ok (.iload 5, 2) := dk_21 5 (dk_at dksX13_change_3 15 rfl rfl)
theorem dX13_change_86 : decode cX13_change 86 = .ok (.if_icmp .eq 11, 3) := dk_159 0 11 (dk_at dksX13_change_3 17 rfl rfl)
theorem dX13_change_89 : decode cX13_change 89 = .ok (.new 83, 3) := dk_187 0 83 (dk_at dksX13_change_3 20 rfl rfl)
theorem dX13_change_92 : decode cX13_change 92 = .ok (.dup, 1) := dk_89 (dk_at dksX13_change_3 23 rfl rfl)
theorem dX13_change_93 : decode cX13_change 93 = .ok (.invokespecial 136, 3) := dk_183 0 136 (dk_at dksX13_change_4 0 rfl rfl)
theorem dX13_change_96 : decode cX13_change 96 = .ok (.athrow, 1) := dk_191 (dk_at dksX13_change_4 3 rfl rfl)
theorem dX13_change_97 : decode cX13_change 97 = .ok (.iload_n 2, 1) := dk_28 (dk_at dksX13_change_4 4 rfl rfl)
theorem dX13_change_98 : decode cX13_change 98 = .ok (.ifCond .eq 13, 3) := dk_153 0 13 (dk_at dksX13_change_4 5 rfl rfl)
theorem dX13_change_101 : decode cX13_change 101 = .ok (.aload_n 1, 1) := dk_43 (dk_at dksX13_change_4 8 rfl rfl)
theorem dX13_change_102 : decode cX13_change 102 = .ok (.iload 5, 2) := dk_21 5 (dk_at dksX13_change_4 9 rfl rfl)
theorem dX13_change_104 : decode cX13_change 104 = .ok (.i2c, 1) := dk_146 (dk_at dksX13_change_4 11 rfl rfl)
theorem dX13_change_105 : decode cX13_change 105 = .ok (.putfield 137, 3) := dk_181 0 137 (dk_at dksX13_change_4 12 rfl rfl)
theorem dX13_change_108 : decode cX13_change 108 = .ok (.goto 9, 3) := dk_167 0 9 (dk_at dksX13_change_4 15 rfl rfl)
theorem dX13_change_111 : decode cX13_change 111 = .ok (.aload_n 1, 1) := dk_43 (dk_at dksX13_change_4 18 rfl rfl)
theorem dX13_change_112 : decode cX13_change 112 = .ok (.iload 5, 2) := dk_21 5 (dk_at dksX13_change_4 19 rfl rfl)
theorem dX13_change_114 : decode cX13_change 114 = .ok (.putfield 140, 3) := dk_181 0 140 (dk_at dksX13_change_4 21 rfl rfl)
theorem dX13_change_117 : decode cX13_change 117 = .ok (.return_, 1) := dk_177 (dk_at dksX13_change_5 0 rfl rfl)
theorem q105 : (Jvm.Cond.initialized "TreeDiffer$Patch") ∈ lw_all := lw_g (lw_at lw_m1 42 rfl) rfl
theorem q194 : (Jvm.Cond.fieldLinkNest "TreeDiffer$Patch" (137 : Nat) "TreeDiffer$Node" "label" "C" "TreeDiffer") ∈ lw_tbl := lw_at lw_m1 131 rfl
theorem q199 : (Jvm.Cond.fieldLinkNest "TreeDiffer$Patch" (150 : Nat) "TreeDiffer$Node" "key" "I" "TreeDiffer") ∈ lw_tbl := lw_at lw_m1 136 rfl
theorem q204 : (Jvm.Cond.fieldLinkNest "TreeDiffer$Patch" (140 : Nat) "TreeDiffer$Node" "value" "I" "TreeDiffer") ∈ lw_tbl := lw_at lw_m1 141 rfl
theorem q207 : (Jvm.Cond.fieldLinkNest "TreeDiffer$Patch" (144 : Nat) "TreeDiffer$Node" "parent" "LTreeDiffer$Node;" "TreeDiffer") ∈ lw_tbl := lw_at lw_m1 144 rfl
theorem q213 : (Jvm.Cond.fieldLinkNest "TreeDiffer$Patch" (164 : Nat) "TreeDiffer$Node" "children" "Ljava/util/List;" "TreeDiffer") ∈ lw_tbl := lw_at lw_m1 150 rfl
theorem q216 : (Jvm.Cond.fieldLinkNest "TreeDiffer$Patch" (147 : Nat) "TreeDiffer$Node" "partner" "LTreeDiffer$Node;" "TreeDiffer") ∈ lw_tbl := lw_at lw_m1 153 rfl
theorem q218 : (Jvm.Cond.fieldLinkNest "TreeDiffer$Patch" (42 : Nat) "TreeDiffer$Node" "image" "LTreeDiffer$Node;" "TreeDiffer") ∈ lw_tbl := lw_at lw_m1 155 rfl
theorem q241 : (Jvm.Cond.fieldLinkNest "TreeDiffer$Patch" (49 : Nat) "TreeDiffer$Tree" "root" "LTreeDiffer$Node;" "TreeDiffer") ∈ lw_tbl := lw_at lw_m1 178 rfl
theorem q527 : (Jvm.Cond.selects "TreeDiffer$Patch" ({ cls := "java/lang/Object", name := "getClass", desc := "()Ljava/lang/Class;" } : Jvm.MethodName) ({ cls := "java/lang/Object", name := "getClass", desc := "()Ljava/lang/Class;" } : Jvm.MethodName)) ∈ lw_all := lw_g (lw_at lw_m2 224 rfl) rfl
theorem q945 : (Jvm.Cond.instantiable "TreeDiffer$Patch" (2 : Nat)) ∈ lw_all := lw_g (lw_at lw_m4 162 rfl) rfl
theorem q947 : (Jvm.Cond.instanceMethod ({ cls := "TreeDiffer$Patch", name := "<init>", desc := "(LTreeDiffer$Script;LTreeDiffer$Tree;)V" } : Jvm.MethodName)) ∈ lw_all := lw_g (lw_at lw_m4 164 rfl) rfl
theorem q948 : (Jvm.Cond.code ({ cls := "TreeDiffer$Patch", name := "<init>", desc := "(LTreeDiffer$Script;LTreeDiffer$Tree;)V" } : Jvm.MethodName) prog_9_method_1_code (5 : Nat) (Option.none : Option Jvm.ClassFile.FieldType)) ∈ lw_all := lw_g (lw_at lw_m4 165 rfl) rfl
theorem q949 : (Jvm.Cond.methodLink "TreeDiffer$Patch" (3 : Nat) ({ cls := "java/lang/Object", name := "<init>", desc := "()V" } : Jvm.MethodName)) ∈ lw_all := lw_g (lw_at lw_m4 166 rfl) rfl
theorem q950 : (Jvm.Cond.methodLink "TreeDiffer$Patch" (24 : Nat) ({ cls := "TreeDiffer$Tree", name := "iterator", desc := "()Ljava/util/Iterator;" } : Jvm.MethodName)) ∈ lw_all := lw_g (lw_at lw_m4 167 rfl) rfl
theorem q984 : (Jvm.Cond.interfaceEntry "TreeDiffer$Patch" (30 : Nat)) ∈ lw_tbl := lw_at lw_m4 201 rfl
theorem q985 : (Jvm.Cond.methodLink "TreeDiffer$Patch" (30 : Nat) ({ cls := "java/util/Iterator", name := "hasNext", desc := "()Z" } : Jvm.MethodName)) ∈ lw_all := lw_g (lw_at lw_m4 202 rfl) rfl
theorem q986 : (Jvm.Cond.interfaceEntry "TreeDiffer$Patch" (36 : Nat)) ∈ lw_tbl := lw_at lw_m4 203 rfl
theorem q987 : (Jvm.Cond.methodLink "TreeDiffer$Patch" (36 : Nat) ({ cls := "java/util/Iterator", name := "next", desc := "()Ljava/lang/Object;" } : Jvm.MethodName)) ∈ lw_all := lw_g (lw_at lw_m4 204 rfl) rfl
theorem q988 : (Jvm.Cond.classLink "TreeDiffer$Patch" (40 : Nat) "TreeDiffer$Node") ∈ lw_all := lw_g (lw_at lw_m4 205 rfl) rfl
theorem q989 : (Jvm.Cond.classLink "TreeDiffer$Patch" (52 : Nat) "TreeDiffer$Patch$1") ∈ lw_all := lw_g (lw_at lw_m4 206 rfl) rfl
theorem q991 : (Jvm.Cond.methodLink "TreeDiffer$Patch" (54 : Nat) ({ cls := "TreeDiffer$Patch$1", name := "<init>", desc := "(LTreeDiffer$Patch;)V" } : Jvm.MethodName)) ∈ lw_all := lw_g (lw_at lw_m4 208 rfl) rfl
theorem q999 : (Jvm.Cond.methodLinkNest "TreeDiffer$Patch" (57 : Nat) ({ cls := "TreeDiffer", name := "visit", desc := "(LTreeDiffer$Node;LTreeDiffer$Node;LTreeDiffer$Visitor;)V" } : Jvm.MethodName) "TreeDiffer") ∈ lw_tbl := lw_at lw_m4 216 rfl
theorem q1026 : (Jvm.Cond.fieldLinkNest "TreeDiffer$Patch" (98 : Nat) "TreeDiffer$Operation" "kind" "C" "TreeDiffer") ∈ lw_tbl := lw_at lw_m5 3 rfl
theorem q1030 : (Jvm.Cond.fieldLinkNest "TreeDiffer$Patch" (102 : Nat) "TreeDiffer$Operation" "node" "LTreeDiffer$Node;" "TreeDiffer") ∈ lw_tbl := lw_at lw_m5 7 rfl
theorem q1033 : (Jvm.Cond.fieldLinkNest "TreeDiffer$Patch" (116 : Nat) "TreeDiffer$Operation" "target" "LTreeDiffer$Node;" "TreeDiffer") ∈ lw_tbl := lw_at lw_m5 10 rfl
theorem q1087 : (Jvm.Cond.fieldLink "TreeDiffer$Patch" (9 : Nat) "TreeDiffer$Patch" "script" "LTreeDiffer$Script;") ∈ lw_all := lw_g (lw_at lw_m5 64 rfl) rfl
theorem q1088 : (Jvm.Cond.fieldLink "TreeDiffer$Patch" (15 : Nat) "TreeDiffer$Patch" "tree" "LTreeDiffer$Tree;") ∈ lw_all := lw_g (lw_at lw_m5 65 rfl) rfl
theorem q1089 : (Jvm.Cond.laysFinal "TreeDiffer$Patch" "TreeDiffer$Patch" "script" "LTreeDiffer$Script;") ∈ lw_all := lw_g (lw_at lw_m5 66 rfl) rfl
theorem q1090 : (Jvm.Cond.soleField "TreeDiffer$Patch" "script") ∈ lw_all := lw_g (lw_at lw_m5 67 rfl) rfl
theorem q1091 : (Jvm.Cond.laysFinal "TreeDiffer$Patch" "TreeDiffer$Patch" "tree" "LTreeDiffer$Tree;") ∈ lw_all := lw_g (lw_at lw_m5 68 rfl) rfl
theorem q1092 : (Jvm.Cond.soleField "TreeDiffer$Patch" "tree") ∈ lw_all := lw_g (lw_at lw_m5 69 rfl) rfl
theorem q1093 : (Jvm.Cond.superclass "TreeDiffer$Patch" "java/lang/Object") ∈ lw_all := lw_g (lw_at lw_m5 70 rfl) rfl
theorem q1095 : (Jvm.Cond.instanceMethod ({ cls := "TreeDiffer$Patch", name := "apply", desc := "()V" } : Jvm.MethodName)) ∈ lw_all := lw_g (lw_at lw_m5 72 rfl) rfl
theorem q1096 : (Jvm.Cond.selects "TreeDiffer$Patch" ({ cls := "TreeDiffer$Patch", name := "apply", desc := "()V" } : Jvm.MethodName) ({ cls := "TreeDiffer$Patch", name := "apply", desc := "()V" } : Jvm.MethodName)) ∈ lw_all := lw_g (lw_at lw_m5 73 rfl) rfl
theorem q1097 : (Jvm.Cond.codeWith ({ cls := "TreeDiffer$Patch", name := "apply", desc := "()V" } : Jvm.MethodName) prog_9_method_2_code (6 : Nat) (Option.none : Option Jvm.ClassFile.FieldType) [((25 : Nat), (46 : Nat), (49 : Nat), (81 : Nat)), ((25 : Nat), (46 : Nat), (49 : Nat), (83 : Nat)), ((25 : Nat), (46 : Nat), (49 : Nat), (85 : Nat)), ((25 : Nat), (46 : Nat), (49 : Nat), (87 : Nat))]) ∈ lw_all := lw_g (lw_at lw_m5 74 rfl) rfl
theorem q1098 : (Jvm.Cond.classLink "TreeDiffer$Patch" (81 : Nat) "TreeDiffer$Missing") ∈ lw_all := lw_g (lw_at lw_m5 75 rfl) rfl
theorem q1099 : (Jvm.Cond.classLink "TreeDiffer$Patch" (83 : Nat) "TreeDiffer$Changed") ∈ lw_all := lw_g (lw_at lw_m5 76 rfl) rfl
theorem q1100 : (Jvm.Cond.classLink "TreeDiffer$Patch" (85 : Nat) "TreeDiffer$Clash") ∈ lw_all := lw_g (lw_at lw_m5 77 rfl) rfl
theorem q1101 : (Jvm.Cond.classLink "TreeDiffer$Patch" (87 : Nat) "TreeDiffer$Full") ∈ lw_all := lw_g (lw_at lw_m5 78 rfl) rfl
theorem q1102 : (Jvm.Cond.interfaceEntry "TreeDiffer$Patch" (65 : Nat)) ∈ lw_tbl := lw_at lw_m5 79 rfl
theorem q1103 : (Jvm.Cond.methodLink "TreeDiffer$Patch" (65 : Nat) ({ cls := "java/util/List", name := "size", desc := "()I" } : Jvm.MethodName)) ∈ lw_all := lw_g (lw_at lw_m5 80 rfl) rfl
theorem q1104 : (Jvm.Cond.interfaceEntry "TreeDiffer$Patch" (71 : Nat)) ∈ lw_tbl := lw_at lw_m5 81 rfl
theorem q1105 : (Jvm.Cond.methodLink "TreeDiffer$Patch" (71 : Nat) ({ cls := "java/util/List", name := "get", desc := "(I)Ljava/lang/Object;" } : Jvm.MethodName)) ∈ lw_all := lw_g (lw_at lw_m5 82 rfl) rfl
theorem q1106 : (Jvm.Cond.classLink "TreeDiffer$Patch" (75 : Nat) "TreeDiffer$Operation") ∈ lw_all := lw_g (lw_at lw_m5 83 rfl) rfl
theorem q1107 : (Jvm.Cond.methodLink "TreeDiffer$Patch" (77 : Nat) ({ cls := "TreeDiffer$Patch", name := "apply", desc := "(LTreeDiffer$Operation;I)V" } : Jvm.MethodName)) ∈ lw_all := lw_g (lw_at lw_m5 84 rfl) rfl
theorem q1108 : (Jvm.Cond.privateMethod ({ cls := "TreeDiffer$Patch", name := "apply", desc := "(LTreeDiffer$Operation;I)V" } : Jvm.MethodName)) ∈ lw_tbl := lw_at lw_m5 85 rfl
theorem q1109 : (Jvm.Cond.instanceMethod ({ cls := "TreeDiffer$Patch", name := "apply", desc := "(LTreeDiffer$Operation;I)V" } : Jvm.MethodName)) ∈ lw_all := lw_g (lw_at lw_m5 86 rfl) rfl
theorem q1110 : (Jvm.Cond.code ({ cls := "TreeDiffer$Patch", name := "apply", desc := "(LTreeDiffer$Operation;I)V" } : Jvm.MethodName) prog_9_method_3_code (3 : Nat) (Option.none : Option Jvm.ClassFile.FieldType)) ∈ lw_all := lw_g (lw_at lw_m5 87 rfl) rfl
theorem q1111 : (Jvm.Cond.methodLink "TreeDiffer$Patch" (105 : Nat) ({ cls := "TreeDiffer$Patch", name := "delete", desc := "(LTreeDiffer$Node;)V" } : Jvm.MethodName)) ∈ lw_all := lw_g (lw_at lw_m5 88 rfl) rfl
theorem q1112 : (Jvm.Cond.static ({ cls := "TreeDiffer$Patch", name := "delete", desc := "(LTreeDiffer$Node;)V" } : Jvm.MethodName)) ∈ lw_all := lw_g (lw_at lw_m5 89 rfl) rfl
theorem q1113 : (Jvm.Cond.code ({ cls := "TreeDiffer$Patch", name := "delete", desc := "(LTreeDiffer$Node;)V" } : Jvm.MethodName) prog_9_method_5_code (1 : Nat) (Option.none : Option Jvm.ClassFile.FieldType)) ∈ lw_all := lw_g (lw_at lw_m5 90 rfl) rfl
theorem q1114 : (Jvm.Cond.methodLink "TreeDiffer$Patch" (132 : Nat) ({ cls := "TreeDiffer$Node", name := "isLike", desc := "(LTreeDiffer$Node;Z)Z" } : Jvm.MethodName)) ∈ lw_all := lw_g (lw_at lw_m5 91 rfl) rfl
theorem q1123 : (Jvm.Cond.methodLinkNest "TreeDiffer$Patch" (136 : Nat) ({ cls := "TreeDiffer$Changed", name := "<init>", desc := "()V" } : Jvm.MethodName) "TreeDiffer") ∈ lw_tbl := lw_at lw_m5 100 rfl
theorem q1129 : (Jvm.Cond.methodLink "TreeDiffer$Patch" (113 : Nat) ({ cls := "TreeDiffer$Node", name := "detach", desc := "()V" } : Jvm.MethodName)) ∈ lw_all := lw_g (lw_at lw_m5 106 rfl) rfl
theorem q1150 : (Jvm.Cond.methodLink "TreeDiffer$Patch" (109 : Nat) ({ cls := "TreeDiffer$Patch", name := "require", desc := "(LTreeDiffer$Node;)LTreeDiffer$Node;" } : Jvm.MethodName)) ∈ lw_all := lw_g (lw_at lw_m5 127 rfl) rfl
theorem q1151 : (Jvm.Cond.static ({ cls := "TreeDiffer$Patch", name := "require", desc := "(LTreeDiffer$Node;)LTreeDiffer$Node;" } : Jvm.MethodName)) ∈ lw_all := lw_g (lw_at lw_m5 128 rfl) rfl
theorem q1152 : (Jvm.Cond.code ({ cls := "TreeDiffer$Patch", name := "require", desc := "(LTreeDiffer$Node;)LTreeDiffer$Node;" } : Jvm.MethodName) prog_9_method_4_code (1 : Nat) (Option.some (Jvm.ClassFile.FieldType.object "TreeDiffer$Node"))) ∈ lw_all := lw_g (lw_at lw_m5 129 rfl) rfl
theorem q1161 : (Jvm.Cond.methodLinkNest "TreeDiffer$Patch" (131 : Nat) ({ cls := "TreeDiffer$Missing", name := "<init>", desc := "()V" } : Jvm.MethodName) "TreeDiffer") ∈ lw_tbl := lw_at lw_m5 138 rfl
theorem q1167 : (Jvm.Cond.methodLink "TreeDiffer$Patch" (119 : Nat) ({ cls := "TreeDiffer$Patch", name := "put", desc := "(LTreeDiffer$Node;LTreeDiffer$Node;)V" } : Jvm.MethodName)) ∈ lw_all := lw_g (lw_at lw_m5 144 rfl) rfl
theorem q1168 : (Jvm.Cond.privateMethod ({ cls := "TreeDiffer$Patch", name := "put", desc := "(LTreeDiffer$Node;LTreeDiffer$Node;)V" } : Jvm.MethodName)) ∈ lw_tbl := lw_at lw_m5 145 rfl
theorem q1169 : (Jvm.Cond.instanceMethod ({ cls := "TreeDiffer$Patch", name := "put", desc := "(LTreeDiffer$Node;LTreeDiffer$Node;)V" } : Jvm.MethodName)) ∈ lw_all := lw_g (lw_at lw_m5 146 rfl) rfl
theorem q1170 : (Jvm.Cond.code ({ cls := "TreeDiffer$Patch", name := "put", desc := "(LTreeDiffer$Node;LTreeDiffer$Node;)V" } : Jvm.MethodName) prog_9_method_7_code (8 : Nat) (Option.none : Option Jvm.ClassFile.FieldType)) ∈ lw_all := lw_g (lw_at lw_m5 147 rfl) rfl
theorem q1171 : (Jvm.Cond.methodLink "TreeDiffer$Patch" (153 : Nat) ({ cls := "TreeDiffer$Node", name := "hasChildWithKey", desc := "(I)Z" } : Jvm.MethodName)) ∈ lw_all := lw_g (lw_at lw_m5 148 rfl) rfl
theorem q1183 : (Jvm.Cond.methodLinkNest "TreeDiffer$Patch" (157 : Nat) ({ cls := "TreeDiffer$Clash", name := "<init>", desc := "()V" } : Jvm.MethodName) "TreeDiffer") ∈ lw_tbl := lw_at lw_m5 160 rfl
theorem q1189 : (Jvm.Cond.methodLink "TreeDiffer$Patch" (158 : Nat) ({ cls := "TreeDiffer$Node", name := "size", desc := "()I" } : Jvm.MethodName)) ∈ lw_all := lw_g (lw_at lw_m5 166 rfl) rfl
theorem q1198 : (Jvm.Cond.methodLinkNest "TreeDiffer$Patch" (159 : Nat) ({ cls := "TreeDiffer$Full", name := "<init>", desc := "()V" } : Jvm.MethodName) "TreeDiffer") ∈ lw_tbl := lw_at lw_m5 175 rfl
theorem q1204 : (Jvm.Cond.methodLink "TreeDiffer$Patch" (160 : Nat) ({ cls := "TreeDiffer$Node", name := "place", desc := "(LTreeDiffer$Node;)I" } : Jvm.MethodName)) ∈ lw_all := lw_g (lw_at lw_m5 181 rfl) rfl
theorem q1205 : (Jvm.Cond.methodLink "TreeDiffer$Patch" (167 : Nat) ({ cls := "TreeDiffer$Node", name := "add", desc := "(ILTreeDiffer$Node;)V" } : Jvm.MethodName)) ∈ lw_all := lw_g (lw_at lw_m5 182 rfl) rfl
theorem q1206 : (Jvm.Cond.methodLink "TreeDiffer$Patch" (123 : Nat) ({ cls := "TreeDiffer$Node", name := "copy", desc := "()LTreeDiffer$Node;" } : Jvm.MethodName)) ∈ lw_all := lw_g (lw_at lw_m5 183 rfl) rfl
theorem q1207 : (Jvm.Cond.methodLink "TreeDiffer$Patch" (127 : Nat) ({ cls := "TreeDiffer$Patch", name := "change", desc := "(LTreeDiffer$Operation;LTreeDiffer$Node;)V" } : Jvm.MethodName)) ∈ lw_all := lw_g (lw_at lw_m5 184 rfl) rfl
theorem q1208 : (Jvm.Cond.static ({ cls := "TreeDiffer$Patch", name := "change", desc := "(LTreeDiffer$Operation;LTreeDiffer$Node;)V" } : Jvm.MethodName)) ∈ lw_all := lw_g (lw_at lw_m5 185 rfl) rfl
theorem q1209 : (Jvm.Cond.code ({ cls := "TreeDiffer$Patch", name := "change", desc := "(LTreeDiffer$Operation;LTreeDiffer$Node;)V" } : Jvm.MethodName) prog_9_method_6_code (6 : Nat) (Option.none : Option Jvm.ClassFile.FieldType)) ∈ lw_all := lw_g (lw_at lw_m5 186 rfl) rfl
theorem q1210 : (Jvm.Cond.classLink "TreeDiffer$Patch" (89 : Nat) "TreeDiffer$Conflict") ∈ lw_all := lw_g (lw_at lw_m5 187 rfl) rfl
theorem q1219 : (Jvm.Cond.methodLink "TreeDiffer$Patch" (91 : Nat) ({ cls := "TreeDiffer$Conflict", name := "<init>", desc := "(I)V" } : Jvm.MethodName)) ∈ lw_all := lw_g (lw_at lw_m5 196 rfl) rfl
theorem q1229 : (Jvm.Cond.methodLink "TreeDiffer$Patch" (94 : Nat) ({ cls := "TreeDiffer$Conflict", name := "initCause", desc := "(Ljava/lang/Throwable;)Ljava/lang/Throwable;" } : Jvm.MethodName)) ∈ lw_all := lw_g (lw_at lw_m5 206 rfl) rfl
theorem q1297 : (Jvm.Cond.selects "TreeDiffer$Patch" ({ cls := "java/lang/Object", name := "toString", desc := "()Ljava/lang/String;" } : Jvm.MethodName) ({ cls := "java/lang/Object", name := "toString", desc := "()Ljava/lang/String;" } : Jvm.MethodName)) ∈ lw_all := lw_g (lw_at lw_m6 34 rfl) rfl
theorem q1890 : (Jvm.Cond.fieldLinkNest "TreeDiffer$Patch" (19 : Nat) "TreeDiffer$Script" "oldTree" "LTreeDiffer$Tree;" "TreeDiffer") ∈ lw_tbl := lw_at lw_m8 147 rfl
theorem q1894 : (Jvm.Cond.fieldLinkNest "TreeDiffer$Patch" (46 : Nat) "TreeDiffer$Script" "newTree" "LTreeDiffer$Tree;" "TreeDiffer") ∈ lw_tbl := lw_at lw_m8 151 rfl
theorem q1897 : (Jvm.Cond.fieldLinkNest "TreeDiffer$Patch" (61 : Nat) "TreeDiffer$Script" "operations" "Ljava/util/List;" "TreeDiffer") ∈ lw_tbl := lw_at lw_m8 154 rfl
theorem q2580 : (Jvm.Cond.castable "TreeDiffer$Patch" "java/lang/Object") ∈ lw_tbl := lw_at lw_m11 117 rfl
theorem in_X13 : ∀ w ∈ wsX130, w ∈ lw_all := lw_in wsX130 [1089, 1091] (by decide +kernel) (by decide +kernel)

/-! TreeDiffer$Patch$1 -/
set_option maxRecDepth 100000
def RX14 : String := "TreeDiffer$Patch$1"
def TX14 : u_T := fun k => match k with
  | _ => ("TreeDiffer$Patch$1", "this$0", "LTreeDiffer$Patch;", true)
def tyX14 : Nat → FieldType := fun k => match k with
  | _ => .object "TreeDiffer$Patch"
abbrev wsX140 : List Cond := u_ws RX14 TX14 1
theorem nmX14 : ∀ a, a < 1 → ∀ b, b < 1 → a ≠ b → (TX14 a).2.1 ≠ (TX14 b).2.1 := by decide +kernel
theorem tyX14_ok : ∀ k, k < 1 → parseFieldDescriptor (TX14 k).2.2.1 = some (tyX14 k) := by decide +kernel
abbrev cX14_init : ByteArray := prog_10_method_1_code
def yX14_init : MethodName := ⟨RX14, "<init>", "(LTreeDiffer$Patch;)V"⟩
def dkwX14_init_0 : List UInt8 := [42, 43, 181, 0, 1, 42, 183, 0, 7, 177]
abbrev dktX14_init_0 : List UInt8 := dkwX14_init_0 ++ []
theorem dksX14_init_0 : cX14_init.data.toList.drop 0 = dktX14_init_0 := by decide +kernel
theorem dX14_init_0 : decode cX14_init 0 = .ok (.aload_n 0, 1) := dk_42 (dk_at dksX14_init_0 0 rfl rfl)
theorem dX14_init_1 : decode cX14_init 1 = .ok (.aload_n 1, 1) := dk_43 (dk_at dksX14_init_0 1 rfl rfl)
theorem dX14_init_2 : decode cX14_init 2 = .ok (.putfield 1, 3) := dk_181 0 1 (dk_at dksX14_init_0 2 rfl rfl)
theorem dX14_init_5 : decode cX14_init 5 = .ok (.aload_n 0, 1) := dk_42 (dk_at dksX14_init_0 5 rfl rfl)
theorem dX14_init_6 : decode cX14_init 6 = .ok (.invokespecial 7, 3) := dk_183 0 7 (dk_at dksX14_init_0 6 rfl rfl)
theorem dX14_init_9 : decode cX14_init 9 = .ok (.return_, 1) := dk_177 (dk_at dksX14_init_0 9 rfl rfl)
abbrev cX14_pair : ByteArray := prog_10_method_2_code
def yX14_pair : MethodName := ⟨RX14, "pair", "(LTreeDiffer$Node;LTreeDiffer$Node;)V"⟩
def dkwX14_pair_0 : List UInt8 := [43, 44, 181, 0, 13, 177]
abbrev dktX14_pair_0 : List UInt8 := dkwX14_pair_0 ++ []
theorem dksX14_pair_0 : cX14_pair.data.toList.drop 0 = dktX14_pair_0 := by decide +kernel
theorem dX14_pair_0 : decode cX14_pair 0 = .ok (.aload_n 1, 1) := dk_43 (dk_at dksX14_pair_0 0 rfl rfl)
theorem dX14_pair_1 : decode cX14_pair 1 = .ok (.aload_n 2, 1) := dk_44 (dk_at dksX14_pair_0 1 rfl rfl)
theorem dX14_pair_2 : decode cX14_pair 2 = .ok (.putfield 13, 3) := dk_181 0 13 (dk_at dksX14_pair_0 2 rfl rfl)
theorem dX14_pair_5 : decode cX14_pair 5 = .ok (.return_, 1) := dk_177 (dk_at dksX14_pair_0 5 rfl rfl)
abbrev cX14_deletion : ByteArray := prog_10_method_3_code
def yX14_deletion : MethodName := ⟨RX14, "deletion", "(LTreeDiffer$Node;)V"⟩
theorem dX14_deletion_0 : decode cX14_deletion 0 = .ok (.return_, 1) := by decide +kernel
abbrev cX14_insertion : ByteArray := prog_10_method_4_code
def yX14_insertion : MethodName := ⟨RX14, "insertion", "(LTreeDiffer$Node;)V"⟩
theorem dX14_insertion_0 : decode cX14_insertion 0 = .ok (.return_, 1) := by decide +kernel
theorem q106 : (Jvm.Cond.initialized "TreeDiffer$Patch$1") ∈ lw_all := lw_g (lw_at lw_m1 43 rfl) rfl
theorem q219 : (Jvm.Cond.fieldLinkNest "TreeDiffer$Patch$1" (13 : Nat) "TreeDiffer$Node" "image" "LTreeDiffer$Node;" "TreeDiffer") ∈ lw_tbl := lw_at lw_m1 156 rfl
theorem q528 : (Jvm.Cond.selects "TreeDiffer$Patch$1" ({ cls := "java/lang/Object", name := "getClass", desc := "()Ljava/lang/Class;" } : Jvm.MethodName) ({ cls := "java/lang/Object", name := "getClass", desc := "()Ljava/lang/Class;" } : Jvm.MethodName)) ∈ lw_all := lw_g (lw_at lw_m2 225 rfl) rfl
theorem q990 : (Jvm.Cond.instantiable "TreeDiffer$Patch$1" (1 : Nat)) ∈ lw_all := lw_g (lw_at lw_m4 207 rfl) rfl
theorem q992 : (Jvm.Cond.instanceMethod ({ cls := "TreeDiffer$Patch$1", name := "<init>", desc := "(LTreeDiffer$Patch;)V" } : Jvm.MethodName)) ∈ lw_all := lw_g (lw_at lw_m4 209 rfl) rfl
theorem q993 : (Jvm.Cond.code ({ cls := "TreeDiffer$Patch$1", name := "<init>", desc := "(LTreeDiffer$Patch;)V" } : Jvm.MethodName) prog_10_method_1_code (2 : Nat) (Option.none : Option Jvm.ClassFile.FieldType)) ∈ lw_all := lw_g (lw_at lw_m4 210 rfl) rfl
theorem q994 : (Jvm.Cond.methodLink "TreeDiffer$Patch$1" (7 : Nat) ({ cls := "java/lang/Object", name := "<init>", desc := "()V" } : Jvm.MethodName)) ∈ lw_all := lw_g (lw_at lw_m4 211 rfl) rfl
theorem q995 : (Jvm.Cond.fieldLink "TreeDiffer$Patch$1" (1 : Nat) "TreeDiffer$Patch$1" "this$0" "LTreeDiffer$Patch;") ∈ lw_all := lw_g (lw_at lw_m4 212 rfl) rfl
theorem q996 : (Jvm.Cond.laysFinal "TreeDiffer$Patch$1" "TreeDiffer$Patch$1" "this$0" "LTreeDiffer$Patch;") ∈ lw_all := lw_g (lw_at lw_m4 213 rfl) rfl
theorem q997 : (Jvm.Cond.soleField "TreeDiffer$Patch$1" "this$0") ∈ lw_all := lw_g (lw_at lw_m4 214 rfl) rfl
theorem q998 : (Jvm.Cond.superclass "TreeDiffer$Patch$1" "java/lang/Object") ∈ lw_all := lw_g (lw_at lw_m4 215 rfl) rfl
theorem q1006 : (Jvm.Cond.castable "TreeDiffer$Patch$1" "TreeDiffer$Visitor") ∈ lw_tbl := lw_at lw_m4 223 rfl
theorem q1007 : (Jvm.Cond.selects "TreeDiffer$Patch$1" ({ cls := "TreeDiffer$Visitor", name := "pair", desc := "(LTreeDiffer$Node;LTreeDiffer$Node;)V" } : Jvm.MethodName) ({ cls := "TreeDiffer$Patch$1", name := "pair", desc := "(LTreeDiffer$Node;LTreeDiffer$Node;)V" } : Jvm.MethodName)) ∈ lw_all := lw_g (lw_at lw_m4 224 rfl) rfl
theorem q1008 : (Jvm.Cond.unhidden "TreeDiffer$Patch$1" "pair" "(LTreeDiffer$Node;LTreeDiffer$Node;)V") ∈ lw_tbl := lw_at lw_m4 225 rfl
theorem q1009 : (Jvm.Cond.instanceMethod ({ cls := "TreeDiffer$Patch$1", name := "pair", desc := "(LTreeDiffer$Node;LTreeDiffer$Node;)V" } : Jvm.MethodName)) ∈ lw_all := lw_g (lw_at lw_m4 226 rfl) rfl
theorem q1010 : (Jvm.Cond.publicMethod ({ cls := "TreeDiffer$Patch$1", name := "pair", desc := "(LTreeDiffer$Node;LTreeDiffer$Node;)V" } : Jvm.MethodName)) ∈ lw_tbl := lw_at lw_m4 227 rfl
theorem q1011 : (Jvm.Cond.code ({ cls := "TreeDiffer$Patch$1", name := "pair", desc := "(LTreeDiffer$Node;LTreeDiffer$Node;)V" } : Jvm.MethodName) prog_10_method_2_code (3 : Nat) (Option.none : Option Jvm.ClassFile.FieldType)) ∈ lw_all := lw_g (lw_at lw_m4 228 rfl) rfl
theorem q1063 : (Jvm.Cond.selects "TreeDiffer$Patch$1" ({ cls := "TreeDiffer$Visitor", name := "deletion", desc := "(LTreeDiffer$Node;)V" } : Jvm.MethodName) ({ cls := "TreeDiffer$Patch$1", name := "deletion", desc := "(LTreeDiffer$Node;)V" } : Jvm.MethodName)) ∈ lw_all := lw_g (lw_at lw_m5 40 rfl) rfl
theorem q1064 : (Jvm.Cond.unhidden "TreeDiffer$Patch$1" "deletion" "(LTreeDiffer$Node;)V") ∈ lw_tbl := lw_at lw_m5 41 rfl
theorem q1065 : (Jvm.Cond.instanceMethod ({ cls := "TreeDiffer$Patch$1", name := "deletion", desc := "(LTreeDiffer$Node;)V" } : Jvm.MethodName)) ∈ lw_all := lw_g (lw_at lw_m5 42 rfl) rfl
theorem q1066 : (Jvm.Cond.publicMethod ({ cls := "TreeDiffer$Patch$1", name := "deletion", desc := "(LTreeDiffer$Node;)V" } : Jvm.MethodName)) ∈ lw_tbl := lw_at lw_m5 43 rfl
theorem q1067 : (Jvm.Cond.code ({ cls := "TreeDiffer$Patch$1", name := "deletion", desc := "(LTreeDiffer$Node;)V" } : Jvm.MethodName) prog_10_method_3_code (2 : Nat) (Option.none : Option Jvm.ClassFile.FieldType)) ∈ lw_all := lw_g (lw_at lw_m5 44 rfl) rfl
theorem q1077 : (Jvm.Cond.selects "TreeDiffer$Patch$1" ({ cls := "TreeDiffer$Visitor", name := "insertion", desc := "(LTreeDiffer$Node;)V" } : Jvm.MethodName) ({ cls := "TreeDiffer$Patch$1", name := "insertion", desc := "(LTreeDiffer$Node;)V" } : Jvm.MethodName)) ∈ lw_all := lw_g (lw_at lw_m5 54 rfl) rfl
theorem q1078 : (Jvm.Cond.unhidden "TreeDiffer$Patch$1" "insertion" "(LTreeDiffer$Node;)V") ∈ lw_tbl := lw_at lw_m5 55 rfl
theorem q1079 : (Jvm.Cond.instanceMethod ({ cls := "TreeDiffer$Patch$1", name := "insertion", desc := "(LTreeDiffer$Node;)V" } : Jvm.MethodName)) ∈ lw_all := lw_g (lw_at lw_m5 56 rfl) rfl
theorem q1080 : (Jvm.Cond.publicMethod ({ cls := "TreeDiffer$Patch$1", name := "insertion", desc := "(LTreeDiffer$Node;)V" } : Jvm.MethodName)) ∈ lw_tbl := lw_at lw_m5 57 rfl
theorem q1081 : (Jvm.Cond.code ({ cls := "TreeDiffer$Patch$1", name := "insertion", desc := "(LTreeDiffer$Node;)V" } : Jvm.MethodName) prog_10_method_4_code (2 : Nat) (Option.none : Option Jvm.ClassFile.FieldType)) ∈ lw_all := lw_g (lw_at lw_m5 58 rfl) rfl
theorem q1298 : (Jvm.Cond.selects "TreeDiffer$Patch$1" ({ cls := "java/lang/Object", name := "toString", desc := "()Ljava/lang/String;" } : Jvm.MethodName) ({ cls := "java/lang/Object", name := "toString", desc := "()Ljava/lang/String;" } : Jvm.MethodName)) ∈ lw_all := lw_g (lw_at lw_m6 35 rfl) rfl
theorem q2581 : (Jvm.Cond.castable "TreeDiffer$Patch$1" "java/lang/Object") ∈ lw_tbl := lw_at lw_m11 118 rfl
theorem in_X14 : ∀ w ∈ wsX140, w ∈ lw_all := lw_in wsX140 [996] (by decide +kernel) (by decide +kernel)

/-! TreeDiffer$Changed -/
set_option maxRecDepth 100000
def RX15 : String := "TreeDiffer$Changed"
def TX15 : u_T := fun k => match k with
  | 0 => ("java/lang/Throwable", "cause", "Ljava/lang/Throwable;", false)
  | 1 => ("java/lang/Throwable", "stackTrace", "[Ljava/lang/StackTraceElement;", false)
  | 2 => ("java/lang/Throwable", "suppressedExceptions", "Ljava/util/List;", false)
  | 3 => ("java/lang/Throwable", "detailMessage", "Ljava/lang/String;", false)
  | 4 => ("java/lang/Throwable", "backtrace", "Ljava/lang/Object;", false)
  | _ => ("java/lang/Throwable", "depth", "I", false)
def tyX15 : Nat → FieldType := fun k => match k with
  | 0 => .object "java/lang/Throwable"
  | 1 => .array (.object "java/lang/StackTraceElement")
  | 2 => .object "java/util/List"
  | 3 => .object "java/lang/String"
  | 4 => .object "java/lang/Object"
  | _ => .int
abbrev wsX150 : List Cond := u_ws RX15 TX15 6
theorem nmX15 : ∀ a, a < 6 → ∀ b, b < 6 → a ≠ b → (TX15 a).2.1 ≠ (TX15 b).2.1 := by decide +kernel
theorem tyX15_ok : ∀ k, k < 6 → parseFieldDescriptor (TX15 k).2.2.1 = some (tyX15 k) := by decide +kernel
abbrev cX15_init : ByteArray := prog_2_method_1_code
def yX15_init : MethodName := ⟨RX15, "<init>", "()V"⟩
theorem dX15_init_0 : decode cX15_init 0 = .ok (.aload_n 0, 1) := by decide +kernel
theorem dX15_init_1 : decode cX15_init 1 = .ok (.invokespecial 1, 3) := by decide +kernel
theorem dX15_init_4 : decode cX15_init 4 = .ok (.return_, 1) := by decide +kernel
theorem q107 : (Jvm.Cond.initialized "TreeDiffer$Changed") ∈ lw_all := lw_g (lw_at lw_m1 44 rfl) rfl
theorem q384 : (Jvm.Cond.selects "TreeDiffer$Changed" ({ cls := "java/lang/Throwable", name := "fillInStackTrace", desc := "()Ljava/lang/Throwable;" } : Jvm.MethodName) ({ cls := "java/lang/Throwable", name := "fillInStackTrace", desc := "()Ljava/lang/Throwable;" } : Jvm.MethodName)) ∈ lw_all := lw_g (lw_at lw_m2 81 rfl) rfl
theorem q520 : (Jvm.Cond.selects "TreeDiffer$Changed" ({ cls := "java/lang/Object", name := "getClass", desc := "()Ljava/lang/Class;" } : Jvm.MethodName) ({ cls := "java/lang/Object", name := "getClass", desc := "()Ljava/lang/Class;" } : Jvm.MethodName)) ∈ lw_all := lw_g (lw_at lw_m2 217 rfl) rfl
theorem q1115 : (Jvm.Cond.instantiable "TreeDiffer$Changed" (6 : Nat)) ∈ lw_all := lw_g (lw_at lw_m5 92 rfl) rfl
theorem q1116 : (Jvm.Cond.castable "TreeDiffer$Changed" "TreeDiffer$Changed") ∈ lw_tbl := lw_at lw_m5 93 rfl
theorem q1117 : (Jvm.Cond.selects "TreeDiffer$Changed" ({ cls := "java/lang/Throwable", name := "fillInStackTrace", desc := "(I)Ljava/lang/Throwable;" } : Jvm.MethodName) ({ cls := "java/lang/Throwable", name := "fillInStackTrace", desc := "(I)Ljava/lang/Throwable;" } : Jvm.MethodName)) ∈ lw_all := lw_g (lw_at lw_m5 94 rfl) rfl
theorem q1118 : (Jvm.Cond.lays "TreeDiffer$Changed" "java/lang/Throwable" "cause" "Ljava/lang/Throwable;") ∈ lw_all := lw_g (lw_at lw_m5 95 rfl) rfl
theorem q1119 : (Jvm.Cond.lays "TreeDiffer$Changed" "java/lang/Throwable" "stackTrace" "[Ljava/lang/StackTraceElement;") ∈ lw_all := lw_g (lw_at lw_m5 96 rfl) rfl
theorem q1120 : (Jvm.Cond.lays "TreeDiffer$Changed" "java/lang/Throwable" "suppressedExceptions" "Ljava/util/List;") ∈ lw_all := lw_g (lw_at lw_m5 97 rfl) rfl
theorem q1121 : (Jvm.Cond.lays "TreeDiffer$Changed" "java/lang/Throwable" "detailMessage" "Ljava/lang/String;") ∈ lw_all := lw_g (lw_at lw_m5 98 rfl) rfl
theorem q1122 : (Jvm.Cond.lays "TreeDiffer$Changed" "java/lang/Throwable" "backtrace" "Ljava/lang/Object;") ∈ lw_all := lw_g (lw_at lw_m5 99 rfl) rfl
theorem q1124 : (Jvm.Cond.instanceMethod ({ cls := "TreeDiffer$Changed", name := "<init>", desc := "()V" } : Jvm.MethodName)) ∈ lw_all := lw_g (lw_at lw_m5 101 rfl) rfl
theorem q1125 : (Jvm.Cond.code ({ cls := "TreeDiffer$Changed", name := "<init>", desc := "()V" } : Jvm.MethodName) prog_2_method_1_code (1 : Nat) (Option.none : Option Jvm.ClassFile.FieldType)) ∈ lw_all := lw_g (lw_at lw_m5 102 rfl) rfl
theorem q1126 : (Jvm.Cond.methodLink "TreeDiffer$Changed" (1 : Nat) ({ cls := "java/lang/Exception", name := "<init>", desc := "()V" } : Jvm.MethodName)) ∈ lw_all := lw_g (lw_at lw_m5 103 rfl) rfl
theorem q1127 : (Jvm.Cond.lays "TreeDiffer$Changed" "java/lang/Throwable" "depth" "I") ∈ lw_all := lw_g (lw_at lw_m5 104 rfl) rfl
theorem q1128 : (Jvm.Cond.superclass "TreeDiffer$Changed" "java/lang/Exception") ∈ lw_all := lw_g (lw_at lw_m5 105 rfl) rfl
theorem q1249 : (Jvm.Cond.selects "TreeDiffer$Changed" ({ cls := "java/lang/Object", name := "toString", desc := "()Ljava/lang/String;" } : Jvm.MethodName) ({ cls := "java/lang/Throwable", name := "toString", desc := "()Ljava/lang/String;" } : Jvm.MethodName)) ∈ lw_all := lw_g (lw_at lw_m5 226 rfl) rfl
theorem q1256 : (Jvm.Cond.selects "TreeDiffer$Changed" ({ cls := "java/lang/Throwable", name := "getLocalizedMessage", desc := "()Ljava/lang/String;" } : Jvm.MethodName) ({ cls := "java/lang/Throwable", name := "getLocalizedMessage", desc := "()Ljava/lang/String;" } : Jvm.MethodName)) ∈ lw_all := lw_g (lw_at lw_m5 233 rfl) rfl
theorem q1274 : (Jvm.Cond.selects "TreeDiffer$Changed" ({ cls := "java/lang/Throwable", name := "getMessage", desc := "()Ljava/lang/String;" } : Jvm.MethodName) ({ cls := "java/lang/Throwable", name := "getMessage", desc := "()Ljava/lang/String;" } : Jvm.MethodName)) ∈ lw_all := lw_g (lw_at lw_m6 11 rfl) rfl
theorem q2582 : (Jvm.Cond.castable "TreeDiffer$Changed" "java/lang/Object") ∈ lw_tbl := lw_at lw_m11 119 rfl
theorem in_X15 : ∀ w ∈ wsX150, w ∈ lw_all := lw_in wsX150 [1118, 1119, 1120, 1121, 1122, 1127] (by decide +kernel) (by decide +kernel)

/-! TreeDiffer$Missing -/
set_option maxRecDepth 100000
def RX16 : String := "TreeDiffer$Missing"
def TX16 : u_T := fun k => match k with
  | 0 => ("java/lang/Throwable", "cause", "Ljava/lang/Throwable;", false)
  | 1 => ("java/lang/Throwable", "stackTrace", "[Ljava/lang/StackTraceElement;", false)
  | 2 => ("java/lang/Throwable", "suppressedExceptions", "Ljava/util/List;", false)
  | 3 => ("java/lang/Throwable", "detailMessage", "Ljava/lang/String;", false)
  | 4 => ("java/lang/Throwable", "backtrace", "Ljava/lang/Object;", false)
  | _ => ("java/lang/Throwable", "depth", "I", false)
def tyX16 : Nat → FieldType := fun k => match k with
  | 0 => .object "java/lang/Throwable"
  | 1 => .array (.object "java/lang/StackTraceElement")
  | 2 => .object "java/util/List"
  | 3 => .object "java/lang/String"
  | 4 => .object "java/lang/Object"
  | _ => .int
abbrev wsX160 : List Cond := u_ws RX16 TX16 6
theorem nmX16 : ∀ a, a < 6 → ∀ b, b < 6 → a ≠ b → (TX16 a).2.1 ≠ (TX16 b).2.1 := by decide +kernel
theorem tyX16_ok : ∀ k, k < 6 → parseFieldDescriptor (TX16 k).2.2.1 = some (tyX16 k) := by decide +kernel
abbrev cX16_init : ByteArray := prog_6_method_1_code
def yX16_init : MethodName := ⟨RX16, "<init>", "()V"⟩
theorem dX16_init_0 : decode cX16_init 0 = .ok (.aload_n 0, 1) := by decide +kernel
theorem dX16_init_1 : decode cX16_init 1 = .ok (.invokespecial 1, 3) := by decide +kernel
theorem dX16_init_4 : decode cX16_init 4 = .ok (.return_, 1) := by decide +kernel
theorem q108 : (Jvm.Cond.initialized "TreeDiffer$Missing") ∈ lw_all := lw_g (lw_at lw_m1 45 rfl) rfl
theorem q388 : (Jvm.Cond.selects "TreeDiffer$Missing" ({ cls := "java/lang/Throwable", name := "fillInStackTrace", desc := "()Ljava/lang/Throwable;" } : Jvm.MethodName) ({ cls := "java/lang/Throwable", name := "fillInStackTrace", desc := "()Ljava/lang/Throwable;" } : Jvm.MethodName)) ∈ lw_all := lw_g (lw_at lw_m2 85 rfl) rfl
theorem q524 : (Jvm.Cond.selects "TreeDiffer$Missing" ({ cls := "java/lang/Object", name := "getClass", desc := "()Ljava/lang/Class;" } : Jvm.MethodName) ({ cls := "java/lang/Object", name := "getClass", desc := "()Ljava/lang/Class;" } : Jvm.MethodName)) ∈ lw_all := lw_g (lw_at lw_m2 221 rfl) rfl
theorem q1153 : (Jvm.Cond.instantiable "TreeDiffer$Missing" (6 : Nat)) ∈ lw_all := lw_g (lw_at lw_m5 130 rfl) rfl
theorem q1154 : (Jvm.Cond.castable "TreeDiffer$Missing" "TreeDiffer$Missing") ∈ lw_tbl := lw_at lw_m5 131 rfl
theorem q1155 : (Jvm.Cond.selects "TreeDiffer$Missing" ({ cls := "java/lang/Throwable", name := "fillInStackTrace", desc := "(I)Ljava/lang/Throwable;" } : Jvm.MethodName) ({ cls := "java/lang/Throwable", name := "fillInStackTrace", desc := "(I)Ljava/lang/Throwable;" } : Jvm.MethodName)) ∈ lw_all := lw_g (lw_at lw_m5 132 rfl) rfl
theorem q1156 : (Jvm.Cond.lays "TreeDiffer$Missing" "java/lang/Throwable" "cause" "Ljava/lang/Throwable;") ∈ lw_all := lw_g (lw_at lw_m5 133 rfl) rfl
theorem q1157 : (Jvm.Cond.lays "TreeDiffer$Missing" "java/lang/Throwable" "stackTrace" "[Ljava/lang/StackTraceElement;") ∈ lw_all := lw_g (lw_at lw_m5 134 rfl) rfl
theorem q1158 : (Jvm.Cond.lays "TreeDiffer$Missing" "java/lang/Throwable" "suppressedExceptions" "Ljava/util/List;") ∈ lw_all := lw_g (lw_at lw_m5 135 rfl) rfl
theorem q1159 : (Jvm.Cond.lays "TreeDiffer$Missing" "java/lang/Throwable" "detailMessage" "Ljava/lang/String;") ∈ lw_all := lw_g (lw_at lw_m5 136 rfl) rfl
theorem q1160 : (Jvm.Cond.lays "TreeDiffer$Missing" "java/lang/Throwable" "backtrace" "Ljava/lang/Object;") ∈ lw_all := lw_g (lw_at lw_m5 137 rfl) rfl
theorem q1162 : (Jvm.Cond.instanceMethod ({ cls := "TreeDiffer$Missing", name := "<init>", desc := "()V" } : Jvm.MethodName)) ∈ lw_all := lw_g (lw_at lw_m5 139 rfl) rfl
theorem q1163 : (Jvm.Cond.code ({ cls := "TreeDiffer$Missing", name := "<init>", desc := "()V" } : Jvm.MethodName) prog_6_method_1_code (1 : Nat) (Option.none : Option Jvm.ClassFile.FieldType)) ∈ lw_all := lw_g (lw_at lw_m5 140 rfl) rfl
theorem q1164 : (Jvm.Cond.methodLink "TreeDiffer$Missing" (1 : Nat) ({ cls := "java/lang/Exception", name := "<init>", desc := "()V" } : Jvm.MethodName)) ∈ lw_all := lw_g (lw_at lw_m5 141 rfl) rfl
theorem q1165 : (Jvm.Cond.lays "TreeDiffer$Missing" "java/lang/Throwable" "depth" "I") ∈ lw_all := lw_g (lw_at lw_m5 142 rfl) rfl
theorem q1166 : (Jvm.Cond.superclass "TreeDiffer$Missing" "java/lang/Exception") ∈ lw_all := lw_g (lw_at lw_m5 143 rfl) rfl
theorem q1260 : (Jvm.Cond.selects "TreeDiffer$Missing" ({ cls := "java/lang/Throwable", name := "getLocalizedMessage", desc := "()Ljava/lang/String;" } : Jvm.MethodName) ({ cls := "java/lang/Throwable", name := "getLocalizedMessage", desc := "()Ljava/lang/String;" } : Jvm.MethodName)) ∈ lw_all := lw_g (lw_at lw_m5 237 rfl) rfl
theorem q1278 : (Jvm.Cond.selects "TreeDiffer$Missing" ({ cls := "java/lang/Throwable", name := "getMessage", desc := "()Ljava/lang/String;" } : Jvm.MethodName) ({ cls := "java/lang/Throwable", name := "getMessage", desc := "()Ljava/lang/String;" } : Jvm.MethodName)) ∈ lw_all := lw_g (lw_at lw_m6 15 rfl) rfl
theorem q1294 : (Jvm.Cond.selects "TreeDiffer$Missing" ({ cls := "java/lang/Object", name := "toString", desc := "()Ljava/lang/String;" } : Jvm.MethodName) ({ cls := "java/lang/Throwable", name := "toString", desc := "()Ljava/lang/String;" } : Jvm.MethodName)) ∈ lw_all := lw_g (lw_at lw_m6 31 rfl) rfl
theorem q2583 : (Jvm.Cond.castable "TreeDiffer$Missing" "java/lang/Object") ∈ lw_tbl := lw_at lw_m11 120 rfl
theorem in_X16 : ∀ w ∈ wsX160, w ∈ lw_all := lw_in wsX160 [1156, 1157, 1158, 1159, 1160, 1165] (by decide +kernel) (by decide +kernel)

/-! TreeDiffer$Clash -/
set_option maxRecDepth 100000
def RX17 : String := "TreeDiffer$Clash"
def TX17 : u_T := fun k => match k with
  | 0 => ("java/lang/Throwable", "cause", "Ljava/lang/Throwable;", false)
  | 1 => ("java/lang/Throwable", "stackTrace", "[Ljava/lang/StackTraceElement;", false)
  | 2 => ("java/lang/Throwable", "suppressedExceptions", "Ljava/util/List;", false)
  | 3 => ("java/lang/Throwable", "detailMessage", "Ljava/lang/String;", false)
  | 4 => ("java/lang/Throwable", "backtrace", "Ljava/lang/Object;", false)
  | _ => ("java/lang/Throwable", "depth", "I", false)
def tyX17 : Nat → FieldType := fun k => match k with
  | 0 => .object "java/lang/Throwable"
  | 1 => .array (.object "java/lang/StackTraceElement")
  | 2 => .object "java/util/List"
  | 3 => .object "java/lang/String"
  | 4 => .object "java/lang/Object"
  | _ => .int
abbrev wsX170 : List Cond := u_ws RX17 TX17 6
theorem nmX17 : ∀ a, a < 6 → ∀ b, b < 6 → a ≠ b → (TX17 a).2.1 ≠ (TX17 b).2.1 := by decide +kernel
theorem tyX17_ok : ∀ k, k < 6 → parseFieldDescriptor (TX17 k).2.2.1 = some (tyX17 k) := by decide +kernel
abbrev cX17_init : ByteArray := prog_3_method_1_code
def yX17_init : MethodName := ⟨RX17, "<init>", "()V"⟩
theorem dX17_init_0 : decode cX17_init 0 = .ok (.aload_n 0, 1) := by decide +kernel
theorem dX17_init_1 : decode cX17_init 1 = .ok (.invokespecial 1, 3) := by decide +kernel
theorem dX17_init_4 : decode cX17_init 4 = .ok (.return_, 1) := by decide +kernel
theorem q109 : (Jvm.Cond.initialized "TreeDiffer$Clash") ∈ lw_all := lw_g (lw_at lw_m1 46 rfl) rfl
theorem q385 : (Jvm.Cond.selects "TreeDiffer$Clash" ({ cls := "java/lang/Throwable", name := "fillInStackTrace", desc := "()Ljava/lang/Throwable;" } : Jvm.MethodName) ({ cls := "java/lang/Throwable", name := "fillInStackTrace", desc := "()Ljava/lang/Throwable;" } : Jvm.MethodName)) ∈ lw_all := lw_g (lw_at lw_m2 82 rfl) rfl
theorem q521 : (Jvm.Cond.selects "TreeDiffer$Clash" ({ cls := "java/lang/Object", name := "getClass", desc := "()Ljava/lang/Class;" } : Jvm.MethodName) ({ cls := "java/lang/Object", name := "getClass", desc := "()Ljava/lang/Class;" } : Jvm.MethodName)) ∈ lw_all := lw_g (lw_at lw_m2 218 rfl) rfl
theorem q1175 : (Jvm.Cond.instantiable "TreeDiffer$Clash" (6 : Nat)) ∈ lw_all := lw_g (lw_at lw_m5 152 rfl) rfl
theorem q1176 : (Jvm.Cond.castable "TreeDiffer$Clash" "TreeDiffer$Clash") ∈ lw_tbl := lw_at lw_m5 153 rfl
theorem q1177 : (Jvm.Cond.selects "TreeDiffer$Clash" ({ cls := "java/lang/Throwable", name := "fillInStackTrace", desc := "(I)Ljava/lang/Throwable;" } : Jvm.MethodName) ({ cls := "java/lang/Throwable", name := "fillInStackTrace", desc := "(I)Ljava/lang/Throwable;" } : Jvm.MethodName)) ∈ lw_all := lw_g (lw_at lw_m5 154 rfl) rfl
theorem q1178 : (Jvm.Cond.lays "TreeDiffer$Clash" "java/lang/Throwable" "cause" "Ljava/lang/Throwable;") ∈ lw_all := lw_g (lw_at lw_m5 155 rfl) rfl
theorem q1179 : (Jvm.Cond.lays "TreeDiffer$Clash" "java/lang/Throwable" "stackTrace" "[Ljava/lang/StackTraceElement;") ∈ lw_all := lw_g (lw_at lw_m5 156 rfl) rfl
theorem q1180 : (Jvm.Cond.lays "TreeDiffer$Clash" "java/lang/Throwable" "suppressedExceptions" "Ljava/util/List;") ∈ lw_all := lw_g (lw_at lw_m5 157 rfl) rfl
theorem q1181 : (Jvm.Cond.lays "TreeDiffer$Clash" "java/lang/Throwable" "detailMessage" "Ljava/lang/String;") ∈ lw_all := lw_g (lw_at lw_m5 158 rfl) rfl
theorem q1182 : (Jvm.Cond.lays "TreeDiffer$Clash" "java/lang/Throwable" "backtrace" "Ljava/lang/Object;") ∈ lw_all := lw_g (lw_at lw_m5 159 rfl) rfl
theorem q1184 : (Jvm.Cond.instanceMethod ({ cls := "TreeDiffer$Clash", name := "<init>", desc := "()V" } : Jvm.MethodName)) ∈ lw_all := lw_g (lw_at lw_m5 161 rfl) rfl
theorem q1185 : (Jvm.Cond.code ({ cls := "TreeDiffer$Clash", name := "<init>", desc := "()V" } : Jvm.MethodName) prog_3_method_1_code (1 : Nat) (Option.none : Option Jvm.ClassFile.FieldType)) ∈ lw_all := lw_g (lw_at lw_m5 162 rfl) rfl
theorem q1186 : (Jvm.Cond.methodLink "TreeDiffer$Clash" (1 : Nat) ({ cls := "java/lang/Exception", name := "<init>", desc := "()V" } : Jvm.MethodName)) ∈ lw_all := lw_g (lw_at lw_m5 163 rfl) rfl
theorem q1187 : (Jvm.Cond.lays "TreeDiffer$Clash" "java/lang/Throwable" "depth" "I") ∈ lw_all := lw_g (lw_at lw_m5 164 rfl) rfl
theorem q1188 : (Jvm.Cond.superclass "TreeDiffer$Clash" "java/lang/Exception") ∈ lw_all := lw_g (lw_at lw_m5 165 rfl) rfl
theorem q1257 : (Jvm.Cond.selects "TreeDiffer$Clash" ({ cls := "java/lang/Throwable", name := "getLocalizedMessage", desc := "()Ljava/lang/String;" } : Jvm.MethodName) ({ cls := "java/lang/Throwable", name := "getLocalizedMessage", desc := "()Ljava/lang/String;" } : Jvm.MethodName)) ∈ lw_all := lw_g (lw_at lw_m5 234 rfl) rfl
theorem q1275 : (Jvm.Cond.selects "TreeDiffer$Clash" ({ cls := "java/lang/Throwable", name := "getMessage", desc := "()Ljava/lang/String;" } : Jvm.MethodName) ({ cls := "java/lang/Throwable", name := "getMessage", desc := "()Ljava/lang/String;" } : Jvm.MethodName)) ∈ lw_all := lw_g (lw_at lw_m6 12 rfl) rfl
theorem q1291 : (Jvm.Cond.selects "TreeDiffer$Clash" ({ cls := "java/lang/Object", name := "toString", desc := "()Ljava/lang/String;" } : Jvm.MethodName) ({ cls := "java/lang/Throwable", name := "toString", desc := "()Ljava/lang/String;" } : Jvm.MethodName)) ∈ lw_all := lw_g (lw_at lw_m6 28 rfl) rfl
theorem q2584 : (Jvm.Cond.castable "TreeDiffer$Clash" "java/lang/Object") ∈ lw_tbl := lw_at lw_m11 121 rfl
theorem in_X17 : ∀ w ∈ wsX170, w ∈ lw_all := lw_in wsX170 [1178, 1179, 1180, 1181, 1182, 1187] (by decide +kernel) (by decide +kernel)

/-! TreeDiffer$Full -/
set_option maxRecDepth 100000
def RX18 : String := "TreeDiffer$Full"
def TX18 : u_T := fun k => match k with
  | 0 => ("java/lang/Throwable", "cause", "Ljava/lang/Throwable;", false)
  | 1 => ("java/lang/Throwable", "stackTrace", "[Ljava/lang/StackTraceElement;", false)
  | 2 => ("java/lang/Throwable", "suppressedExceptions", "Ljava/util/List;", false)
  | 3 => ("java/lang/Throwable", "detailMessage", "Ljava/lang/String;", false)
  | 4 => ("java/lang/Throwable", "backtrace", "Ljava/lang/Object;", false)
  | _ => ("java/lang/Throwable", "depth", "I", false)
def tyX18 : Nat → FieldType := fun k => match k with
  | 0 => .object "java/lang/Throwable"
  | 1 => .array (.object "java/lang/StackTraceElement")
  | 2 => .object "java/util/List"
  | 3 => .object "java/lang/String"
  | 4 => .object "java/lang/Object"
  | _ => .int
abbrev wsX180 : List Cond := u_ws RX18 TX18 6
theorem nmX18 : ∀ a, a < 6 → ∀ b, b < 6 → a ≠ b → (TX18 a).2.1 ≠ (TX18 b).2.1 := by decide +kernel
theorem tyX18_ok : ∀ k, k < 6 → parseFieldDescriptor (TX18 k).2.2.1 = some (tyX18 k) := by decide +kernel
abbrev cX18_init : ByteArray := prog_5_method_1_code
def yX18_init : MethodName := ⟨RX18, "<init>", "()V"⟩
theorem dX18_init_0 : decode cX18_init 0 = .ok (.aload_n 0, 1) := by decide +kernel
theorem dX18_init_1 : decode cX18_init 1 = .ok (.invokespecial 1, 3) := by decide +kernel
theorem dX18_init_4 : decode cX18_init 4 = .ok (.return_, 1) := by decide +kernel
theorem q110 : (Jvm.Cond.initialized "TreeDiffer$Full") ∈ lw_all := lw_g (lw_at lw_m1 47 rfl) rfl
theorem q387 : (Jvm.Cond.selects "TreeDiffer$Full" ({ cls := "java/lang/Throwable", name := "fillInStackTrace", desc := "()Ljava/lang/Throwable;" } : Jvm.MethodName) ({ cls := "java/lang/Throwable", name := "fillInStackTrace", desc := "()Ljava/lang/Throwable;" } : Jvm.MethodName)) ∈ lw_all := lw_g (lw_at lw_m2 84 rfl) rfl
theorem q523 : (Jvm.Cond.selects "TreeDiffer$Full" ({ cls := "java/lang/Object", name := "getClass", desc := "()Ljava/lang/Class;" } : Jvm.MethodName) ({ cls := "java/lang/Object", name := "getClass", desc := "()Ljava/lang/Class;" } : Jvm.MethodName)) ∈ lw_all := lw_g (lw_at lw_m2 220 rfl) rfl
theorem q1190 : (Jvm.Cond.instantiable "TreeDiffer$Full" (6 : Nat)) ∈ lw_all := lw_g (lw_at lw_m5 167 rfl) rfl
theorem q1191 : (Jvm.Cond.castable "TreeDiffer$Full" "TreeDiffer$Full") ∈ lw_tbl := lw_at lw_m5 168 rfl
theorem q1192 : (Jvm.Cond.selects "TreeDiffer$Full" ({ cls := "java/lang/Throwable", name := "fillInStackTrace", desc := "(I)Ljava/lang/Throwable;" } : Jvm.MethodName) ({ cls := "java/lang/Throwable", name := "fillInStackTrace", desc := "(I)Ljava/lang/Throwable;" } : Jvm.MethodName)) ∈ lw_all := lw_g (lw_at lw_m5 169 rfl) rfl
theorem q1193 : (Jvm.Cond.lays "TreeDiffer$Full" "java/lang/Throwable" "cause" "Ljava/lang/Throwable;") ∈ lw_all := lw_g (lw_at lw_m5 170 rfl) rfl
theorem q1194 : (Jvm.Cond.lays "TreeDiffer$Full" "java/lang/Throwable" "stackTrace" "[Ljava/lang/StackTraceElement;") ∈ lw_all := lw_g (lw_at lw_m5 171 rfl) rfl
theorem q1195 : (Jvm.Cond.lays "TreeDiffer$Full" "java/lang/Throwable" "suppressedExceptions" "Ljava/util/List;") ∈ lw_all := lw_g (lw_at lw_m5 172 rfl) rfl
theorem q1196 : (Jvm.Cond.lays "TreeDiffer$Full" "java/lang/Throwable" "detailMessage" "Ljava/lang/String;") ∈ lw_all := lw_g (lw_at lw_m5 173 rfl) rfl
theorem q1197 : (Jvm.Cond.lays "TreeDiffer$Full" "java/lang/Throwable" "backtrace" "Ljava/lang/Object;") ∈ lw_all := lw_g (lw_at lw_m5 174 rfl) rfl
theorem q1199 : (Jvm.Cond.instanceMethod ({ cls := "TreeDiffer$Full", name := "<init>", desc := "()V" } : Jvm.MethodName)) ∈ lw_all := lw_g (lw_at lw_m5 176 rfl) rfl
theorem q1200 : (Jvm.Cond.code ({ cls := "TreeDiffer$Full", name := "<init>", desc := "()V" } : Jvm.MethodName) prog_5_method_1_code (1 : Nat) (Option.none : Option Jvm.ClassFile.FieldType)) ∈ lw_all := lw_g (lw_at lw_m5 177 rfl) rfl
theorem q1201 : (Jvm.Cond.methodLink "TreeDiffer$Full" (1 : Nat) ({ cls := "java/lang/Exception", name := "<init>", desc := "()V" } : Jvm.MethodName)) ∈ lw_all := lw_g (lw_at lw_m5 178 rfl) rfl
theorem q1202 : (Jvm.Cond.lays "TreeDiffer$Full" "java/lang/Throwable" "depth" "I") ∈ lw_all := lw_g (lw_at lw_m5 179 rfl) rfl
theorem q1203 : (Jvm.Cond.superclass "TreeDiffer$Full" "java/lang/Exception") ∈ lw_all := lw_g (lw_at lw_m5 180 rfl) rfl
theorem q1259 : (Jvm.Cond.selects "TreeDiffer$Full" ({ cls := "java/lang/Throwable", name := "getLocalizedMessage", desc := "()Ljava/lang/String;" } : Jvm.MethodName) ({ cls := "java/lang/Throwable", name := "getLocalizedMessage", desc := "()Ljava/lang/String;" } : Jvm.MethodName)) ∈ lw_all := lw_g (lw_at lw_m5 236 rfl) rfl
theorem q1277 : (Jvm.Cond.selects "TreeDiffer$Full" ({ cls := "java/lang/Throwable", name := "getMessage", desc := "()Ljava/lang/String;" } : Jvm.MethodName) ({ cls := "java/lang/Throwable", name := "getMessage", desc := "()Ljava/lang/String;" } : Jvm.MethodName)) ∈ lw_all := lw_g (lw_at lw_m6 14 rfl) rfl
theorem q1293 : (Jvm.Cond.selects "TreeDiffer$Full" ({ cls := "java/lang/Object", name := "toString", desc := "()Ljava/lang/String;" } : Jvm.MethodName) ({ cls := "java/lang/Throwable", name := "toString", desc := "()Ljava/lang/String;" } : Jvm.MethodName)) ∈ lw_all := lw_g (lw_at lw_m6 30 rfl) rfl
theorem q2585 : (Jvm.Cond.castable "TreeDiffer$Full" "java/lang/Object") ∈ lw_tbl := lw_at lw_m11 122 rfl
theorem in_X18 : ∀ w ∈ wsX180, w ∈ lw_all := lw_in wsX180 [1193, 1194, 1195, 1196, 1197, 1202] (by decide +kernel) (by decide +kernel)

/-! TreeDiffer$Conflict -/
set_option maxRecDepth 100000
def RX19 : String := "TreeDiffer$Conflict"
def TX19 : u_T := fun k => match k with
  | 0 => ("java/lang/Throwable", "cause", "Ljava/lang/Throwable;", false)
  | 1 => ("java/lang/Throwable", "stackTrace", "[Ljava/lang/StackTraceElement;", false)
  | 2 => ("java/lang/Throwable", "suppressedExceptions", "Ljava/util/List;", false)
  | 3 => ("java/lang/Throwable", "detailMessage", "Ljava/lang/String;", false)
  | 4 => ("java/lang/Throwable", "backtrace", "Ljava/lang/Object;", false)
  | 5 => ("java/lang/Throwable", "depth", "I", false)
  | _ => ("TreeDiffer$Conflict", "operation", "I", true)
def tyX19 : Nat → FieldType := fun k => match k with
  | 0 => .object "java/lang/Throwable"
  | 1 => .array (.object "java/lang/StackTraceElement")
  | 2 => .object "java/util/List"
  | 3 => .object "java/lang/String"
  | 4 => .object "java/lang/Object"
  | 5 => .int
  | _ => .int
abbrev wsX190 : List Cond := u_ws RX19 TX19 7
theorem nmX19 : ∀ a, a < 7 → ∀ b, b < 7 → a ≠ b → (TX19 a).2.1 ≠ (TX19 b).2.1 := by decide +kernel
theorem tyX19_ok : ∀ k, k < 7 → parseFieldDescriptor (TX19 k).2.2.1 = some (tyX19 k) := by decide +kernel
abbrev cX19_init : ByteArray := prog_4_method_1_code
def yX19_init : MethodName := ⟨RX19, "<init>", "(I)V"⟩
def dkwX19_init_0 : List UInt8 := [42, 183, 0, 1, 42, 27, 181, 0, 7, 177]
abbrev dktX19_init_0 : List UInt8 := dkwX19_init_0 ++ []
theorem dksX19_init_0 : cX19_init.data.toList.drop 0 = dktX19_init_0 := by decide +kernel
theorem dX19_init_0 : decode cX19_init 0 = .ok (.aload_n 0, 1) := dk_42 (dk_at dksX19_init_0 0 rfl rfl)
theorem dX19_init_1 : decode cX19_init 1 = .ok (.invokespecial 1, 3) := dk_183 0 1 (dk_at dksX19_init_0 1 rfl rfl)
theorem dX19_init_4 : decode cX19_init 4 = .ok (.aload_n 0, 1) := dk_42 (dk_at dksX19_init_0 4 rfl rfl)
theorem dX19_init_5 : decode cX19_init 5 = .ok (.iload_n 1, 1) := dk_27 (dk_at dksX19_init_0 5 rfl rfl)
theorem dX19_init_6 : decode cX19_init 6 = .ok (.putfield 7, 3) := dk_181 0 7 (dk_at dksX19_init_0 6 rfl rfl)
theorem dX19_init_9 : decode cX19_init 9 = .ok (.return_, 1) := dk_177 (dk_at dksX19_init_0 9 rfl rfl)
abbrev cX19_reason : ByteArray := prog_4_method_2_code
def yX19_reason : MethodName := ⟨RX19, "reason", "()C"⟩
def dkwX19_reason_1 : List UInt8 := [16, 99, 167, 0, 17, 43, 193, 0, 21, 153, 0, 8, 16, 107, 167, 0, 5, 16, 102, 172]
abbrev dktX19_reason_1 : List UInt8 := dkwX19_reason_1 ++ []
def dkwX19_reason_0 : List UInt8 := [42, 182, 0, 13, 76, 43, 193, 0, 17, 153, 0, 8, 16, 103, 167, 0, 29, 43, 193, 0, 19, 153, 0, 8]
abbrev dktX19_reason_0 : List UInt8 := dkwX19_reason_0 ++ dktX19_reason_1
theorem dksX19_reason_0 : cX19_reason.data.toList.drop 0 = dktX19_reason_0 := by decide +kernel
theorem dksX19_reason_1 : cX19_reason.data.toList.drop 24 = dktX19_reason_1 := dk_seg dksX19_reason_0 24 rfl rfl
theorem dX19_reason_0 : decode cX19_reason 0 = .ok (.aload_n 0, 1) := dk_42 (dk_at dksX19_reason_0 0 rfl rfl)
theorem dX19_reason_1 : decode cX19_reason 1 = .ok (.invokevirtual 13, 3) := dk_182 0 13 (dk_at dksX19_reason_0 1 rfl rfl)
theorem dX19_reason_4 : decode cX19_reason 4 = .ok (.astore_n 1, 1) := dk_76 (dk_at dksX19_reason_0 4 rfl rfl)
theorem dX19_reason_5 : decode cX19_reason 5 = .ok (.aload_n 1, 1) := dk_43 (dk_at dksX19_reason_0 5 rfl rfl)
theorem dX19_reason_6 : decode cX19_reason 6 = .ok (.instanceof 17, 3) := dk_193 0 17 (dk_at dksX19_reason_0 6 rfl rfl)
theorem dX19_reason_9 : decode cX19_reason 9 = .ok (.ifCond .eq 8, 3) := dk_153 0 8 (dk_at dksX19_reason_0 9 rfl rfl)
theorem dX19_reason_12 : decode cX19_reason 12 = .ok (.bipush 103, 2) := dk_16 103 (dk_at dksX19_reason_0 12 rfl rfl)
theorem dX19_reason_14 : decode cX19_reason 14 = .ok (.goto 29, 3) := dk_167 0 29 (dk_at dksX19_reason_0 14 rfl rfl)
theorem dX19_reason_17 : decode cX19_reason 17 = .ok (.aload_n 1, 1) := dk_43 (dk_at dksX19_reason_0 17 rfl rfl)
theorem dX19_reason_18 : decode cX19_reason 18 = .ok (.instanceof 19, 3) := dk_193 0 19 (dk_at dksX19_reason_0 18 rfl rfl)
theorem dX19_reason_21 : decode cX19_reason 21 = .ok (.ifCond .eq 8, 3) := dk_153 0 8 (dk_at dksX19_reason_0 21 rfl rfl)
theorem dX19_reason_24 : decode cX19_reason 24 = .ok (.bipush 99, 2) := dk_16 99 (dk_at dksX19_reason_1 0 rfl rfl)
theorem dX19_reason_26 : decode cX19_reason 26 = .ok (.goto 17, 3) := dk_167 0 17 (dk_at dksX19_reason_1 2 rfl rfl)
theorem dX19_reason_29 : decode cX19_reason 29 = .ok (.aload_n 1, 1) := dk_43 (dk_at dksX19_reason_1 5 rfl rfl)
theorem dX19_reason_30 : decode cX19_reason 30 = .ok (.instanceof 21, 3) := dk_193 0 21 (dk_at dksX19_reason_1 6 rfl rfl)
theorem dX19_reason_33 : decode cX19_reason 33 = .ok (.ifCond .eq 8, 3) := dk_153 0 8 (dk_at dksX19_reason_1 9 rfl rfl)
theorem dX19_reason_36 : decode cX19_reason 36 = .ok (.bipush 107, 2) := dk_16 107 (dk_at dksX19_reason_1 12 rfl rfl)
theorem dX19_reason_38 : decode cX19_reason 38 = .ok (.goto 5, 3) := dk_167 0 5 (dk_at dksX19_reason_1 14 rfl rfl)
theorem dX19_reason_41 : decode cX19_reason 41 = .ok (.bipush 102, 2) := dk_16 102 (dk_at dksX19_reason_1 17 rfl rfl)
theorem dX19_reason_43 : decode cX19_reason 43 = .ok (.ireturn, 1) := dk_172 (dk_at dksX19_reason_1 19 rfl rfl)
theorem q111 : (Jvm.Cond.initialized "TreeDiffer$Conflict") ∈ lw_all := lw_g (lw_at lw_m1 48 rfl) rfl
theorem q386 : (Jvm.Cond.selects "TreeDiffer$Conflict" ({ cls := "java/lang/Throwable", name := "fillInStackTrace", desc := "()Ljava/lang/Throwable;" } : Jvm.MethodName) ({ cls := "java/lang/Throwable", name := "fillInStackTrace", desc := "()Ljava/lang/Throwable;" } : Jvm.MethodName)) ∈ lw_all := lw_g (lw_at lw_m2 83 rfl) rfl
theorem q522 : (Jvm.Cond.selects "TreeDiffer$Conflict" ({ cls := "java/lang/Object", name := "getClass", desc := "()Ljava/lang/Class;" } : Jvm.MethodName) ({ cls := "java/lang/Object", name := "getClass", desc := "()Ljava/lang/Class;" } : Jvm.MethodName)) ∈ lw_all := lw_g (lw_at lw_m2 219 rfl) rfl
theorem q1211 : (Jvm.Cond.instantiable "TreeDiffer$Conflict" (7 : Nat)) ∈ lw_all := lw_g (lw_at lw_m5 188 rfl) rfl
theorem q1212 : (Jvm.Cond.castable "TreeDiffer$Conflict" "TreeDiffer$Conflict") ∈ lw_tbl := lw_at lw_m5 189 rfl
theorem q1213 : (Jvm.Cond.selects "TreeDiffer$Conflict" ({ cls := "java/lang/Throwable", name := "fillInStackTrace", desc := "(I)Ljava/lang/Throwable;" } : Jvm.MethodName) ({ cls := "java/lang/Throwable", name := "fillInStackTrace", desc := "(I)Ljava/lang/Throwable;" } : Jvm.MethodName)) ∈ lw_all := lw_g (lw_at lw_m5 190 rfl) rfl
theorem q1214 : (Jvm.Cond.lays "TreeDiffer$Conflict" "java/lang/Throwable" "cause" "Ljava/lang/Throwable;") ∈ lw_all := lw_g (lw_at lw_m5 191 rfl) rfl
theorem q1215 : (Jvm.Cond.lays "TreeDiffer$Conflict" "java/lang/Throwable" "stackTrace" "[Ljava/lang/StackTraceElement;") ∈ lw_all := lw_g (lw_at lw_m5 192 rfl) rfl
theorem q1216 : (Jvm.Cond.lays "TreeDiffer$Conflict" "java/lang/Throwable" "suppressedExceptions" "Ljava/util/List;") ∈ lw_all := lw_g (lw_at lw_m5 193 rfl) rfl
theorem q1217 : (Jvm.Cond.lays "TreeDiffer$Conflict" "java/lang/Throwable" "detailMessage" "Ljava/lang/String;") ∈ lw_all := lw_g (lw_at lw_m5 194 rfl) rfl
theorem q1218 : (Jvm.Cond.lays "TreeDiffer$Conflict" "java/lang/Throwable" "backtrace" "Ljava/lang/Object;") ∈ lw_all := lw_g (lw_at lw_m5 195 rfl) rfl
theorem q1220 : (Jvm.Cond.instanceMethod ({ cls := "TreeDiffer$Conflict", name := "<init>", desc := "(I)V" } : Jvm.MethodName)) ∈ lw_all := lw_g (lw_at lw_m5 197 rfl) rfl
theorem q1221 : (Jvm.Cond.code ({ cls := "TreeDiffer$Conflict", name := "<init>", desc := "(I)V" } : Jvm.MethodName) prog_4_method_1_code (2 : Nat) (Option.none : Option Jvm.ClassFile.FieldType)) ∈ lw_all := lw_g (lw_at lw_m5 198 rfl) rfl
theorem q1222 : (Jvm.Cond.methodLink "TreeDiffer$Conflict" (1 : Nat) ({ cls := "java/lang/Exception", name := "<init>", desc := "()V" } : Jvm.MethodName)) ∈ lw_all := lw_g (lw_at lw_m5 199 rfl) rfl
theorem q1223 : (Jvm.Cond.fieldLink "TreeDiffer$Conflict" (7 : Nat) "TreeDiffer$Conflict" "operation" "I") ∈ lw_all := lw_g (lw_at lw_m5 200 rfl) rfl
theorem q1225 : (Jvm.Cond.laysFinal "TreeDiffer$Conflict" "TreeDiffer$Conflict" "operation" "I") ∈ lw_all := lw_g (lw_at lw_m5 202 rfl) rfl
theorem q1226 : (Jvm.Cond.soleField "TreeDiffer$Conflict" "operation") ∈ lw_all := lw_g (lw_at lw_m5 203 rfl) rfl
theorem q1227 : (Jvm.Cond.lays "TreeDiffer$Conflict" "java/lang/Throwable" "depth" "I") ∈ lw_all := lw_g (lw_at lw_m5 204 rfl) rfl
theorem q1228 : (Jvm.Cond.superclass "TreeDiffer$Conflict" "java/lang/Exception") ∈ lw_all := lw_g (lw_at lw_m5 205 rfl) rfl
theorem q1230 : (Jvm.Cond.sameMethod "TreeDiffer$Conflict" "java/lang/Throwable" "initCause" "(Ljava/lang/Throwable;)Ljava/lang/Throwable;") ∈ lw_all := lw_g (lw_at lw_m5 207 rfl) rfl
theorem q1232 : (Jvm.Cond.selects "TreeDiffer$Conflict" ({ cls := "TreeDiffer$Conflict", name := "initCause", desc := "(Ljava/lang/Throwable;)Ljava/lang/Throwable;" } : Jvm.MethodName) ({ cls := "java/lang/Throwable", name := "initCause", desc := "(Ljava/lang/Throwable;)Ljava/lang/Throwable;" } : Jvm.MethodName)) ∈ lw_all := lw_g (lw_at lw_m5 209 rfl) rfl
theorem q1258 : (Jvm.Cond.selects "TreeDiffer$Conflict" ({ cls := "java/lang/Throwable", name := "getLocalizedMessage", desc := "()Ljava/lang/String;" } : Jvm.MethodName) ({ cls := "java/lang/Throwable", name := "getLocalizedMessage", desc := "()Ljava/lang/String;" } : Jvm.MethodName)) ∈ lw_all := lw_g (lw_at lw_m5 235 rfl) rfl
theorem q1276 : (Jvm.Cond.selects "TreeDiffer$Conflict" ({ cls := "java/lang/Throwable", name := "getMessage", desc := "()Ljava/lang/String;" } : Jvm.MethodName) ({ cls := "java/lang/Throwable", name := "getMessage", desc := "()Ljava/lang/String;" } : Jvm.MethodName)) ∈ lw_all := lw_g (lw_at lw_m6 13 rfl) rfl
theorem q1292 : (Jvm.Cond.selects "TreeDiffer$Conflict" ({ cls := "java/lang/Object", name := "toString", desc := "()Ljava/lang/String;" } : Jvm.MethodName) ({ cls := "java/lang/Throwable", name := "toString", desc := "()Ljava/lang/String;" } : Jvm.MethodName)) ∈ lw_all := lw_g (lw_at lw_m6 29 rfl) rfl
theorem q1993 : (Jvm.Cond.instanceMethod ({ cls := "TreeDiffer$Conflict", name := "reason", desc := "()C" } : Jvm.MethodName)) ∈ lw_all := lw_g (lw_at lw_m9 10 rfl) rfl
theorem q1994 : (Jvm.Cond.selects "TreeDiffer$Conflict" ({ cls := "TreeDiffer$Conflict", name := "reason", desc := "()C" } : Jvm.MethodName) ({ cls := "TreeDiffer$Conflict", name := "reason", desc := "()C" } : Jvm.MethodName)) ∈ lw_all := lw_g (lw_at lw_m9 11 rfl) rfl
theorem q1995 : (Jvm.Cond.code ({ cls := "TreeDiffer$Conflict", name := "reason", desc := "()C" } : Jvm.MethodName) prog_4_method_2_code (2 : Nat) (Option.some Jvm.ClassFile.FieldType.char)) ∈ lw_all := lw_g (lw_at lw_m9 12 rfl) rfl
theorem q1996 : (Jvm.Cond.methodLink "TreeDiffer$Conflict" (13 : Nat) ({ cls := "TreeDiffer$Conflict", name := "getCause", desc := "()Ljava/lang/Throwable;" } : Jvm.MethodName)) ∈ lw_all := lw_g (lw_at lw_m9 13 rfl) rfl
theorem q1997 : (Jvm.Cond.sameMethod "TreeDiffer$Conflict" "java/lang/Throwable" "getCause" "()Ljava/lang/Throwable;") ∈ lw_all := lw_g (lw_at lw_m9 14 rfl) rfl
theorem q1999 : (Jvm.Cond.selects "TreeDiffer$Conflict" ({ cls := "TreeDiffer$Conflict", name := "getCause", desc := "()Ljava/lang/Throwable;" } : Jvm.MethodName) ({ cls := "java/lang/Throwable", name := "getCause", desc := "()Ljava/lang/Throwable;" } : Jvm.MethodName)) ∈ lw_all := lw_g (lw_at lw_m9 16 rfl) rfl
theorem q2002 : (Jvm.Cond.classLink "TreeDiffer$Conflict" (17 : Nat) "TreeDiffer$Missing") ∈ lw_all := lw_g (lw_at lw_m9 19 rfl) rfl
theorem q2003 : (Jvm.Cond.classLink "TreeDiffer$Conflict" (19 : Nat) "TreeDiffer$Changed") ∈ lw_all := lw_g (lw_at lw_m9 20 rfl) rfl
theorem q2004 : (Jvm.Cond.classLink "TreeDiffer$Conflict" (21 : Nat) "TreeDiffer$Clash") ∈ lw_all := lw_g (lw_at lw_m9 21 rfl) rfl
theorem q2586 : (Jvm.Cond.castable "TreeDiffer$Conflict" "java/lang/Object") ∈ lw_tbl := lw_at lw_m11 123 rfl
theorem in_X19 : ∀ w ∈ wsX190, w ∈ lw_all := lw_in wsX190 [1214, 1215, 1216, 1217, 1218, 1227, 1225] (by decide +kernel) (by decide +kernel)

/-! TreeDiffer$Tree -/
set_option maxRecDepth 100000
def RX2 : String := "TreeDiffer$Tree"
def TX2 : u_T := fun k => match k with
  | _ => ("TreeDiffer$Tree", "root", "LTreeDiffer$Node;", true)
def tyX2 : Nat → FieldType := fun k => match k with
  | _ => .object "TreeDiffer$Node"
abbrev wsX20 : List Cond := u_ws RX2 TX2 1
theorem nmX2 : ∀ a, a < 1 → ∀ b, b < 1 → a ≠ b → (TX2 a).2.1 ≠ (TX2 b).2.1 := by decide +kernel
theorem tyX2_ok : ∀ k, k < 1 → parseFieldDescriptor (TX2 k).2.2.1 = some (tyX2 k) := by decide +kernel
abbrev cX2_init : ByteArray := prog_15_method_1_code
def yX2_init : MethodName := ⟨RX2, "<init>", "(LTreeDiffer$Node;)V"⟩
def dkwX2_init_0 : List UInt8 := [42, 183, 0, 3, 42, 43, 181, 0, 9, 177]
abbrev dktX2_init_0 : List UInt8 := dkwX2_init_0 ++ []
theorem dksX2_init_0 : cX2_init.data.toList.drop 0 = dktX2_init_0 := by decide +kernel
theorem dX2_init_0 : decode cX2_init 0 = .ok (.aload_n 0, 1) := dk_42 (dk_at dksX2_init_0 0 rfl rfl)
theorem dX2_init_1 : decode cX2_init 1 = .ok (.invokespecial 3, 3) := dk_183 0 3 (dk_at dksX2_init_0 1 rfl rfl)
theorem dX2_init_4 : decode cX2_init 4 = .ok (.aload_n 0, 1) := dk_42 (dk_at dksX2_init_0 4 rfl rfl)
theorem dX2_init_5 : decode cX2_init 5 = .ok (.aload_n 1, 1) := dk_43 (dk_at dksX2_init_0 5 rfl rfl)
theorem dX2_init_6 : decode cX2_init 6 = .ok (.putfield 9, 3) := dk_181 0 9 (dk_at dksX2_init_0 6 rfl rfl)
theorem dX2_init_9 : decode cX2_init 9 = .ok (.return_, 1) := dk_177 (dk_at dksX2_init_0 9 rfl rfl)
abbrev cX2_copy : ByteArray := prog_15_method_2_code
def yX2_copy : MethodName := ⟨RX2, "copy", "()LTreeDiffer$Tree;"⟩
def dkwX2_copy_0 : List UInt8 := [187, 0, 10, 89, 42, 180, 0, 9, 182, 0, 15, 183, 0, 21, 176]
abbrev dktX2_copy_0 : List UInt8 := dkwX2_copy_0 ++ []
theorem dksX2_copy_0 : cX2_copy.data.toList.drop 0 = dktX2_copy_0 := by decide +kernel
theorem dX2_copy_0 : decode cX2_copy 0 = .ok (.new 10, 3) := dk_187 0 10 (dk_at dksX2_copy_0 0 rfl rfl)
theorem dX2_copy_3 : decode cX2_copy 3 = .ok (.dup, 1) := dk_89 (dk_at dksX2_copy_0 3 rfl rfl)
theorem dX2_copy_4 : decode cX2_copy 4 = .ok (.aload_n 0, 1) := dk_42 (dk_at dksX2_copy_0 4 rfl rfl)
theorem dX2_copy_5 : decode cX2_copy 5 = .ok (.getfield 9, 3) := dk_180 0 9 (dk_at dksX2_copy_0 5 rfl rfl)
theorem dX2_copy_8 : decode cX2_copy 8 = .ok (.invokevirtual 15, 3) := dk_182 0 15 (dk_at dksX2_copy_0 8 rfl rfl)
theorem dX2_copy_11 : decode cX2_copy 11 = .ok (.invokespecial 21, 3) := dk_183 0 21 (dk_at dksX2_copy_0 11 rfl rfl)
theorem dX2_copy_14 : decode cX2_copy 14 = .ok (.areturn, 1) := dk_176 (dk_at dksX2_copy_0 14 rfl rfl)
abbrev cX2_iterator : ByteArray := prog_15_method_3_code
def yX2_iterator : MethodName := ⟨RX2, "iterator", "()Ljava/util/Iterator;"⟩
def dkwX2_iterator_1 : List UInt8 := [183, 0, 33, 176]
abbrev dktX2_iterator_1 : List UInt8 := dkwX2_iterator_1 ++ []
def dkwX2_iterator_0 : List UInt8 := [187, 0, 24, 89, 183, 0, 26, 76, 43, 42, 180, 0, 9, 182, 0, 27, 187, 0, 31, 89, 42, 43]
abbrev dktX2_iterator_0 : List UInt8 := dkwX2_iterator_0 ++ dktX2_iterator_1
theorem dksX2_iterator_0 : cX2_iterator.data.toList.drop 0 = dktX2_iterator_0 := by decide +kernel
theorem dksX2_iterator_1 : cX2_iterator.data.toList.drop 22 = dktX2_iterator_1 := dk_seg dksX2_iterator_0 22 rfl rfl
theorem dX2_iterator_0 : decode cX2_iterator 0 = .ok (.new 24, 3) := dk_187 0 24 (dk_at dksX2_iterator_0 0 rfl rfl)
theorem dX2_iterator_3 : decode cX2_iterator 3 = .ok (.dup, 1) := dk_89 (dk_at dksX2_iterator_0 3 rfl rfl)
theorem dX2_iterator_4 : decode cX2_iterator 4 = .ok (.invokespecial 26, 3) := dk_183 0 26 (dk_at dksX2_iterator_0 4 rfl rfl)
theorem dX2_iterator_7 : decode cX2_iterator 7 = .ok (.astore_n 1, 1) := dk_76 (dk_at dksX2_iterator_0 7 rfl rfl)
theorem dX2_iterator_8 : decode cX2_iterator 8 = .ok (.aload_n 1, 1) := dk_43 (dk_at dksX2_iterator_0 8 rfl rfl)
theorem dX2_iterator_9 : decode cX2_iterator 9 = .ok (.aload_n 0, 1) := dk_42 (dk_at dksX2_iterator_0 9 rfl rfl)
theorem dX2_iterator_10 : decode cX2_iterator 10 = .ok (.getfield 9, 3) := dk_180 0 9 (dk_at dksX2_iterator_0 10 rfl rfl)
theorem dX2_iterator_13 : decode cX2_iterator 13 = .ok (.invokevirtual 27, 3) := dk_182 0 27 (dk_at dksX2_iterator_0 13 rfl rfl)
theorem dX2_iterator_16 : decode cX2_iterator 16 = .ok (.new 31, 3) := dk_187 0 31 (dk_at dksX2_iterator_0 16 rfl rfl)
theorem dX2_iterator_19 : decode cX2_iterator 19 = .ok (.dup, 1) := dk_89 (dk_at dksX2_iterator_0 19 rfl rfl)
theorem dX2_iterator_20 : decode cX2_iterator 20 = .ok (.aload_n 0, 1) := dk_42 (dk_at dksX2_iterator_0 20 rfl rfl)
theorem dX2_iterator_21 : decode cX2_iterator 21 = .ok (.aload_n 1, 1) := dk_43 (dk_at dksX2_iterator_0 21 rfl rfl)
theorem dX2_iterator_22 : decode cX2_iterator 22 = .ok (.invokespecial 33, 3) := dk_183 0 33 (dk_at dksX2_iterator_1 0 rfl rfl)
theorem dX2_iterator_25 : decode cX2_iterator 25 = .ok (.areturn, 1) := dk_176 (dk_at dksX2_iterator_1 3 rfl rfl)
abbrev cX2_number : ByteArray := prog_15_method_5_code
def yX2_number : MethodName := ⟨RX2, "number", "(LTreeDiffer$Node;)I"⟩
def dkwX2_number_1 : List UInt8 := [192, 0, 16, 58, 4, 25, 4, 43, 166, 0, 5, 28, 172, 132, 2, 1, 167, 255, 225, 2, 172]
abbrev dktX2_number_1 : List UInt8 := dkwX2_number_1 ++ []
def dkwX2_number_0 : List UInt8 := [3, 61, 42, 182, 0, 36, 78, 45, 185, 0, 40, 1, 0, 153, 0, 28, 45, 185, 0, 46, 1, 0]
abbrev dktX2_number_0 : List UInt8 := dkwX2_number_0 ++ dktX2_number_1
theorem dksX2_number_0 : cX2_number.data.toList.drop 0 = dktX2_number_0 := by decide +kernel
theorem dksX2_number_1 : cX2_number.data.toList.drop 22 = dktX2_number_1 := dk_seg dksX2_number_0 22 rfl rfl
theorem dX2_number_0 : decode cX2_number 0 = .ok (.iconst 0, 1) := dk_3 (dk_at dksX2_number_0 0 rfl rfl)
theorem dX2_number_1 : decode cX2_number 1 = .ok (.istore_n 2, 1) := dk_61 (dk_at dksX2_number_0 1 rfl rfl)
theorem dX2_number_2 : decode cX2_number 2 = .ok (.aload_n 0, 1) := dk_42 (dk_at dksX2_number_0 2 rfl rfl)
theorem dX2_number_3 : decode cX2_number 3 = .ok (.invokevirtual 36, 3) := dk_182 0 36 (dk_at dksX2_number_0 3 rfl rfl)
theorem dX2_number_6 : decode cX2_number 6 = .ok (.astore_n 3, 1) := dk_78 (dk_at dksX2_number_0 6 rfl rfl)
theorem dX2_number_7 : decode cX2_number 7 = .ok (.aload_n 3, 1) := dk_45 (dk_at dksX2_number_0 7 rfl rfl)
theorem dX2_number_8 : decode cX2_number 8 = .ok (.invokeinterface 40 1, 5) := by decide +kernel
theorem dX2_number_13 : decode cX2_number 13 = .ok (.ifCond .eq 28, 3) := dk_153 0 28 (dk_at dksX2_number_0 13 rfl rfl)
theorem dX2_number_16 : decode cX2_number 16 = .ok (.aload_n 3, 1) := dk_45 (dk_at dksX2_number_0 16 rfl rfl)
theorem dX2_number_17 : decode cX2_number 17 = .ok (.invokeinterface 46 1, 5) := by decide +kernel
theorem dX2_number_22 : decode cX2_number 22 = .ok (.checkcast 16, 3) := dk_192 0 16 (dk_at dksX2_number_1 0 rfl rfl)
theorem dX2_number_25 : decode cX2_number 25 = .ok (.astore 4, 2) := dk_58 4 (dk_at dksX2_number_1 3 rfl rfl)
theorem dX2_number_27 : decode cX2_number 27 = .ok (.aload 4, 2) := dk_25 4 (dk_at dksX2_number_1 5 rfl rfl)
theorem dX2_number_29 : decode cX2_number 29 = .ok (.aload_n 1, 1) := dk_43 (dk_at dksX2_number_1 7 rfl rfl)
theorem dX2_number_30 : decode cX2_number 30 = .ok (.if_acmp .ne 5, 3) := dk_166 0 5 (dk_at dksX2_number_1 8 rfl rfl)
theorem dX2_number_33 : decode cX2_number 33 = .ok (.iload_n 2, 1) := dk_28 (dk_at dksX2_number_1 11 rfl rfl)
theorem dX2_number_34 : decode cX2_number 34 = .ok (.ireturn, 1) := dk_172 (dk_at dksX2_number_1 12 rfl rfl)
theorem dX2_number_35 : decode cX2_number 35 = .ok (.iinc 2 1, 3) := dk_132 2 1 (dk_at dksX2_number_1 13 rfl rfl)
theorem dX2_number_38 : decode cX2_number 38 = .ok (.goto (-31), 3) := dk_167 255 225 (dk_at dksX2_number_1 16 rfl rfl)
theorem dX2_number_41 : decode cX2_number 41 = .ok (.iconst (-1), 1) := dk_2 (dk_at dksX2_number_1 19 rfl rfl)
theorem dX2_number_42 : decode cX2_number 42 = .ok (.ireturn, 1) := dk_172 (dk_at dksX2_number_1 20 rfl rfl)
abbrev cX2_node : ByteArray := prog_15_method_4_code
def yX2_node : MethodName := ⟨RX2, "node", "(I)LTreeDiffer$Node;"⟩
def dkwX2_node_2 : List UInt8 := [183, 0, 52, 191]
abbrev dktX2_node_2 : List UInt8 := dkwX2_node_2 ++ []
def dkwX2_node_1 : List UInt8 := [192, 0, 16, 58, 4, 28, 27, 160, 0, 6, 25, 4, 176, 132, 2, 1, 167, 255, 225, 187, 0, 50, 89]
abbrev dktX2_node_1 : List UInt8 := dkwX2_node_1 ++ dktX2_node_2
def dkwX2_node_0 : List UInt8 := [3, 61, 42, 182, 0, 36, 78, 45, 185, 0, 40, 1, 0, 153, 0, 28, 45, 185, 0, 46, 1, 0]
abbrev dktX2_node_0 : List UInt8 := dkwX2_node_0 ++ dktX2_node_1
theorem dksX2_node_0 : cX2_node.data.toList.drop 0 = dktX2_node_0 := by decide +kernel
theorem dksX2_node_1 : cX2_node.data.toList.drop 22 = dktX2_node_1 := dk_seg dksX2_node_0 22 rfl rfl
theorem dksX2_node_2 : cX2_node.data.toList.drop 45 = dktX2_node_2 := dk_seg dksX2_node_1 23 rfl rfl
theorem dX2_node_0 : decode cX2_node 0 = .ok (.iconst 0, 1) := dk_3 (dk_at dksX2_node_0 0 rfl rfl)
theorem dX2_node_1 : decode cX2_node 1 = .ok (.istore_n 2, 1) := dk_61 (dk_at dksX2_node_0 1 rfl rfl)
theorem dX2_node_2 : decode cX2_node 2 = .ok (.aload_n 0, 1) := dk_42 (dk_at dksX2_node_0 2 rfl rfl)
theorem dX2_node_3 : decode cX2_node 3 = .ok (.invokevirtual 36, 3) := dk_182 0 36 (dk_at dksX2_node_0 3 rfl rfl)
theorem dX2_node_6 : decode cX2_node 6 = .ok (.astore_n 3, 1) := dk_78 (dk_at dksX2_node_0 6 rfl rfl)
theorem dX2_node_7 : decode cX2_node 7 = .ok (.aload_n 3, 1) := dk_45 (dk_at dksX2_node_0 7 rfl rfl)
theorem dX2_node_8 : decode cX2_node 8 = .ok (.invokeinterface 40 1, 5) := by decide +kernel
theorem dX2_node_13 : decode cX2_node 13 = .ok (.ifCond .eq 28, 3) := dk_153 0 28 (dk_at dksX2_node_0 13 rfl rfl)
theorem dX2_node_16 : decode cX2_node 16 = .ok (.aload_n 3, 1) := dk_45 (dk_at dksX2_node_0 16 rfl rfl)
theorem dX2_node_17 : decode cX2_node 17 = .ok (.invokeinterface 46 1, 5) := by decide +kernel
theorem dX2_node_22 : decode cX2_node 22 = .ok (.checkcast 16, 3) := dk_192 0 16 (dk_at dksX2_node_1 0 rfl rfl)
theorem dX2_node_25 : decode cX2_node 25 = .ok (.astore 4, 2) := dk_58 4 (dk_at dksX2_node_1 3 rfl rfl)
theorem dX2_node_27 : decode cX2_node 27 = .ok (.iload_n 2, 1) := dk_28 (dk_at dksX2_node_1 5 rfl rfl)
theorem dX2_node_28 : decode cX2_node 28 = .ok (.iload_n 1, 1) := dk_27 (dk_at dksX2_node_1 6 rfl rfl)
theorem dX2_node_29 : decode cX2_node 29 = .ok (.if_icmp .ne 6, 3) := dk_160 0 6 (dk_at dksX2_node_1 7 rfl rfl)
theorem dX2_node_32 : decode cX2_node 32 = .ok (.aload 4, 2) := dk_25 4 (dk_at dksX2_node_1 10 rfl rfl)
theorem dX2_node_34 : decode cX2_node 34 = .ok (.areturn, 1) := dk_176 (dk_at dksX2_node_1 12 rfl rfl)
theorem dX2_node_35 : decode cX2_node 35 = .ok (.iinc 2 1, 3) := dk_132 2 1 (dk_at dksX2_node_1 13 rfl rfl)
theorem dX2_node_38 : decode cX2_node 38 = .ok (.goto (-31), 3) := dk_167 255 225 (dk_at dksX2_node_1 16 rfl rfl)
theorem dX2_node_41 : decode cX2_node 41 = .ok (.new 50, 3) := dk_187 0 50 (dk_at dksX2_node_1 19 rfl rfl)
theorem dX2_node_44 : decode cX2_node 44 = .ok (.dup, 1) := dk_89 (dk_at dksX2_node_1 22 rfl rfl)
theorem dX2_node_45 : decode cX2_node 45 = .ok (.invokespecial 52, 3) := dk_183 0 52 (dk_at dksX2_node_2 0 rfl rfl)
theorem dX2_node_48 : decode cX2_node 48 = .ok (.athrow, 1) := dk_191 (dk_at dksX2_node_2 3 rfl rfl)
theorem q69 : (Jvm.Cond.initialized "TreeDiffer$Tree") ∈ lw_all := lw_g (lw_at lw_m1 6 rfl) rfl
theorem q156 : (Jvm.Cond.instantiable "TreeDiffer$Tree" (1 : Nat)) ∈ lw_all := lw_g (lw_at lw_m1 93 rfl) rfl
theorem q236 : (Jvm.Cond.instanceMethod ({ cls := "TreeDiffer$Tree", name := "<init>", desc := "(LTreeDiffer$Node;)V" } : Jvm.MethodName)) ∈ lw_all := lw_g (lw_at lw_m1 173 rfl) rfl
theorem q237 : (Jvm.Cond.code ({ cls := "TreeDiffer$Tree", name := "<init>", desc := "(LTreeDiffer$Node;)V" } : Jvm.MethodName) prog_15_method_1_code (2 : Nat) (Option.none : Option Jvm.ClassFile.FieldType)) ∈ lw_all := lw_g (lw_at lw_m1 174 rfl) rfl
theorem q238 : (Jvm.Cond.methodLink "TreeDiffer$Tree" (3 : Nat) ({ cls := "java/lang/Object", name := "<init>", desc := "()V" } : Jvm.MethodName)) ∈ lw_all := lw_g (lw_at lw_m1 175 rfl) rfl
theorem q239 : (Jvm.Cond.fieldLink "TreeDiffer$Tree" (9 : Nat) "TreeDiffer$Tree" "root" "LTreeDiffer$Node;") ∈ lw_all := lw_g (lw_at lw_m1 176 rfl) rfl
theorem q243 : (Jvm.Cond.laysFinal "TreeDiffer$Tree" "TreeDiffer$Tree" "root" "LTreeDiffer$Node;") ∈ lw_all := lw_g (lw_at lw_m1 180 rfl) rfl
theorem q244 : (Jvm.Cond.soleField "TreeDiffer$Tree" "root") ∈ lw_all := lw_g (lw_at lw_m1 181 rfl) rfl
theorem q245 : (Jvm.Cond.superclass "TreeDiffer$Tree" "java/lang/Object") ∈ lw_all := lw_g (lw_at lw_m1 182 rfl) rfl
theorem q533 : (Jvm.Cond.selects "TreeDiffer$Tree" ({ cls := "java/lang/Object", name := "getClass", desc := "()Ljava/lang/Class;" } : Jvm.MethodName) ({ cls := "java/lang/Object", name := "getClass", desc := "()Ljava/lang/Class;" } : Jvm.MethodName)) ∈ lw_all := lw_g (lw_at lw_m2 230 rfl) rfl
theorem q658 : (Jvm.Cond.instanceMethod ({ cls := "TreeDiffer$Tree", name := "copy", desc := "()LTreeDiffer$Tree;" } : Jvm.MethodName)) ∈ lw_all := lw_g (lw_at lw_m3 115 rfl) rfl
theorem q659 : (Jvm.Cond.selects "TreeDiffer$Tree" ({ cls := "TreeDiffer$Tree", name := "copy", desc := "()LTreeDiffer$Tree;" } : Jvm.MethodName) ({ cls := "TreeDiffer$Tree", name := "copy", desc := "()LTreeDiffer$Tree;" } : Jvm.MethodName)) ∈ lw_all := lw_g (lw_at lw_m3 116 rfl) rfl
theorem q660 : (Jvm.Cond.code ({ cls := "TreeDiffer$Tree", name := "copy", desc := "()LTreeDiffer$Tree;" } : Jvm.MethodName) prog_15_method_2_code (1 : Nat) (Option.some (Jvm.ClassFile.FieldType.object "TreeDiffer$Tree"))) ∈ lw_all := lw_g (lw_at lw_m3 117 rfl) rfl
theorem q661 : (Jvm.Cond.classLink "TreeDiffer$Tree" (10 : Nat) "TreeDiffer$Tree") ∈ lw_all := lw_g (lw_at lw_m3 118 rfl) rfl
theorem q662 : (Jvm.Cond.methodLink "TreeDiffer$Tree" (15 : Nat) ({ cls := "TreeDiffer$Node", name := "copy", desc := "()LTreeDiffer$Node;" } : Jvm.MethodName)) ∈ lw_all := lw_g (lw_at lw_m3 119 rfl) rfl
theorem q943 : (Jvm.Cond.methodLink "TreeDiffer$Tree" (21 : Nat) ({ cls := "TreeDiffer$Tree", name := "<init>", desc := "(LTreeDiffer$Node;)V" } : Jvm.MethodName)) ∈ lw_all := lw_g (lw_at lw_m4 160 rfl) rfl
theorem q951 : (Jvm.Cond.instanceMethod ({ cls := "TreeDiffer$Tree", name := "iterator", desc := "()Ljava/util/Iterator;" } : Jvm.MethodName)) ∈ lw_all := lw_g (lw_at lw_m4 168 rfl) rfl
theorem q952 : (Jvm.Cond.selects "TreeDiffer$Tree" ({ cls := "TreeDiffer$Tree", name := "iterator", desc := "()Ljava/util/Iterator;" } : Jvm.MethodName) ({ cls := "TreeDiffer$Tree", name := "iterator", desc := "()Ljava/util/Iterator;" } : Jvm.MethodName)) ∈ lw_all := lw_g (lw_at lw_m4 169 rfl) rfl
theorem q953 : (Jvm.Cond.code ({ cls := "TreeDiffer$Tree", name := "iterator", desc := "()Ljava/util/Iterator;" } : Jvm.MethodName) prog_15_method_3_code (2 : Nat) (Option.some (Jvm.ClassFile.FieldType.object "java/util/Iterator"))) ∈ lw_all := lw_g (lw_at lw_m4 170 rfl) rfl
theorem q954 : (Jvm.Cond.classLink "TreeDiffer$Tree" (24 : Nat) "java/util/ArrayDeque") ∈ lw_all := lw_g (lw_at lw_m4 171 rfl) rfl
theorem q955 : (Jvm.Cond.methodLink "TreeDiffer$Tree" (26 : Nat) ({ cls := "java/util/ArrayDeque", name := "<init>", desc := "()V" } : Jvm.MethodName)) ∈ lw_all := lw_g (lw_at lw_m4 172 rfl) rfl
theorem q970 : (Jvm.Cond.methodLink "TreeDiffer$Tree" (27 : Nat) ({ cls := "java/util/ArrayDeque", name := "addLast", desc := "(Ljava/lang/Object;)V" } : Jvm.MethodName)) ∈ lw_all := lw_g (lw_at lw_m4 187 rfl) rfl
theorem q971 : (Jvm.Cond.classLink "TreeDiffer$Tree" (31 : Nat) "TreeDiffer$Tree$1") ∈ lw_all := lw_g (lw_at lw_m4 188 rfl) rfl
theorem q973 : (Jvm.Cond.methodLink "TreeDiffer$Tree" (33 : Nat) ({ cls := "TreeDiffer$Tree$1", name := "<init>", desc := "(LTreeDiffer$Tree;Ljava/util/ArrayDeque;)V" } : Jvm.MethodName)) ∈ lw_all := lw_g (lw_at lw_m4 190 rfl) rfl
theorem q1303 : (Jvm.Cond.selects "TreeDiffer$Tree" ({ cls := "java/lang/Object", name := "toString", desc := "()Ljava/lang/String;" } : Jvm.MethodName) ({ cls := "java/lang/Object", name := "toString", desc := "()Ljava/lang/String;" } : Jvm.MethodName)) ∈ lw_all := lw_g (lw_at lw_m6 40 rfl) rfl
theorem q1617 : (Jvm.Cond.instanceMethod ({ cls := "TreeDiffer$Tree", name := "number", desc := "(LTreeDiffer$Node;)I" } : Jvm.MethodName)) ∈ lw_all := lw_g (lw_at lw_m7 114 rfl) rfl
theorem q1618 : (Jvm.Cond.selects "TreeDiffer$Tree" ({ cls := "TreeDiffer$Tree", name := "number", desc := "(LTreeDiffer$Node;)I" } : Jvm.MethodName) ({ cls := "TreeDiffer$Tree", name := "number", desc := "(LTreeDiffer$Node;)I" } : Jvm.MethodName)) ∈ lw_all := lw_g (lw_at lw_m7 115 rfl) rfl
theorem q1619 : (Jvm.Cond.code ({ cls := "TreeDiffer$Tree", name := "number", desc := "(LTreeDiffer$Node;)I" } : Jvm.MethodName) prog_15_method_5_code (5 : Nat) (Option.some Jvm.ClassFile.FieldType.int)) ∈ lw_all := lw_g (lw_at lw_m7 116 rfl) rfl
theorem q1620 : (Jvm.Cond.methodLink "TreeDiffer$Tree" (36 : Nat) ({ cls := "TreeDiffer$Tree", name := "iterator", desc := "()Ljava/util/Iterator;" } : Jvm.MethodName)) ∈ lw_all := lw_g (lw_at lw_m7 117 rfl) rfl
theorem q1621 : (Jvm.Cond.interfaceEntry "TreeDiffer$Tree" (40 : Nat)) ∈ lw_tbl := lw_at lw_m7 118 rfl
theorem q1622 : (Jvm.Cond.methodLink "TreeDiffer$Tree" (40 : Nat) ({ cls := "java/util/Iterator", name := "hasNext", desc := "()Z" } : Jvm.MethodName)) ∈ lw_all := lw_g (lw_at lw_m7 119 rfl) rfl
theorem q1623 : (Jvm.Cond.interfaceEntry "TreeDiffer$Tree" (46 : Nat)) ∈ lw_tbl := lw_at lw_m7 120 rfl
theorem q1624 : (Jvm.Cond.methodLink "TreeDiffer$Tree" (46 : Nat) ({ cls := "java/util/Iterator", name := "next", desc := "()Ljava/lang/Object;" } : Jvm.MethodName)) ∈ lw_all := lw_g (lw_at lw_m7 121 rfl) rfl
theorem q1625 : (Jvm.Cond.classLink "TreeDiffer$Tree" (16 : Nat) "TreeDiffer$Node") ∈ lw_all := lw_g (lw_at lw_m7 122 rfl) rfl
theorem q1643 : (Jvm.Cond.instanceMethod ({ cls := "TreeDiffer$Tree", name := "node", desc := "(I)LTreeDiffer$Node;" } : Jvm.MethodName)) ∈ lw_all := lw_g (lw_at lw_m7 140 rfl) rfl
theorem q1644 : (Jvm.Cond.selects "TreeDiffer$Tree" ({ cls := "TreeDiffer$Tree", name := "node", desc := "(I)LTreeDiffer$Node;" } : Jvm.MethodName) ({ cls := "TreeDiffer$Tree", name := "node", desc := "(I)LTreeDiffer$Node;" } : Jvm.MethodName)) ∈ lw_all := lw_g (lw_at lw_m7 141 rfl) rfl
theorem q1645 : (Jvm.Cond.code ({ cls := "TreeDiffer$Tree", name := "node", desc := "(I)LTreeDiffer$Node;" } : Jvm.MethodName) prog_15_method_4_code (5 : Nat) (Option.some (Jvm.ClassFile.FieldType.object "TreeDiffer$Node"))) ∈ lw_all := lw_g (lw_at lw_m7 142 rfl) rfl
theorem q1646 : (Jvm.Cond.classLink "TreeDiffer$Tree" (50 : Nat) "java/lang/IndexOutOfBoundsException") ∈ lw_all := lw_g (lw_at lw_m7 143 rfl) rfl
theorem q1647 : (Jvm.Cond.methodLink "TreeDiffer$Tree" (52 : Nat) ({ cls := "java/lang/IndexOutOfBoundsException", name := "<init>", desc := "()V" } : Jvm.MethodName)) ∈ lw_all := lw_g (lw_at lw_m7 144 rfl) rfl
theorem q2554 : (Jvm.Cond.castable "TreeDiffer$Tree" "java/lang/Object") ∈ lw_tbl := lw_at lw_m11 91 rfl
theorem in_X2 : ∀ w ∈ wsX20, w ∈ lw_all := lw_in wsX20 [243] (by decide +kernel) (by decide +kernel)

/-! TreeDiffer$Node -/
set_option maxRecDepth 100000
def RX3 : String := "TreeDiffer$Node"
def TX3 : u_T := fun k => match k with
  | 0 => ("TreeDiffer$Node", "label", "C", false)
  | 1 => ("TreeDiffer$Node", "key", "I", false)
  | 2 => ("TreeDiffer$Node", "value", "I", false)
  | 3 => ("TreeDiffer$Node", "parent", "LTreeDiffer$Node;", false)
  | 4 => ("TreeDiffer$Node", "children", "Ljava/util/List;", true)
  | 5 => ("TreeDiffer$Node", "partner", "LTreeDiffer$Node;", false)
  | _ => ("TreeDiffer$Node", "image", "LTreeDiffer$Node;", false)
def tyX3 : Nat → FieldType := fun k => match k with
  | 0 => .char
  | 1 => .int
  | 2 => .int
  | 3 => .object "TreeDiffer$Node"
  | 4 => .object "java/util/List"
  | 5 => .object "TreeDiffer$Node"
  | _ => .object "TreeDiffer$Node"
abbrev wsX30 : List Cond := u_ws RX3 TX3 7
theorem nmX3 : ∀ a, a < 7 → ∀ b, b < 7 → a ≠ b → (TX3 a).2.1 ≠ (TX3 b).2.1 := by decide +kernel
theorem tyX3_ok : ∀ k, k < 7 → parseFieldDescriptor (TX3 k).2.2.1 = some (tyX3 k) := by decide +kernel
abbrev cX3_init : ByteArray := prog_7_method_1_code
def yX3_init : MethodName := ⟨RX3, "<init>", "(C)V"⟩
def dkwX3_init_0 : List UInt8 := [42, 183, 0, 3, 42, 187, 0, 9, 89, 183, 0, 11, 181, 0, 12, 42, 27, 181, 0, 18, 177]
abbrev dktX3_init_0 : List UInt8 := dkwX3_init_0 ++ []
theorem dksX3_init_0 : cX3_init.data.toList.drop 0 = dktX3_init_0 := by decide +kernel
theorem dX3_init_0 : decode cX3_init 0 = .ok (.aload_n 0, 1) := dk_42 (dk_at dksX3_init_0 0 rfl rfl)
theorem dX3_init_1 : decode cX3_init 1 = .ok (.invokespecial 3, 3) := dk_183 0 3 (dk_at dksX3_init_0 1 rfl rfl)
theorem dX3_init_4 : decode cX3_init 4 = .ok (.aload_n 0, 1) := dk_42 (dk_at dksX3_init_0 4 rfl rfl)
theorem dX3_init_5 : decode cX3_init 5 = .ok (.new 9, 3) := dk_187 0 9 (dk_at dksX3_init_0 5 rfl rfl)
theorem dX3_init_8 : decode cX3_init 8 = .ok (.dup, 1) := dk_89 (dk_at dksX3_init_0 8 rfl rfl)
theorem dX3_init_9 : decode cX3_init 9 = .ok (.invokespecial 11, 3) := dk_183 0 11 (dk_at dksX3_init_0 9 rfl rfl)
theorem dX3_init_12 : decode cX3_init 12 = .ok (.putfield 12, 3) := dk_181 0 12 (dk_at dksX3_init_0 12 rfl rfl)
theorem dX3_init_15 : decode cX3_init 15 = .ok (.aload_n 0, 1) := dk_42 (dk_at dksX3_init_0 15 rfl rfl)
theorem dX3_init_16 : decode cX3_init 16 = .ok (.iload_n 1, 1) := dk_27 (dk_at dksX3_init_0 16 rfl rfl)
theorem dX3_init_17 : decode cX3_init 17 = .ok (.putfield 18, 3) := dk_181 0 18 (dk_at dksX3_init_0 17 rfl rfl)
theorem dX3_init_20 : decode cX3_init 20 = .ok (.return_, 1) := dk_177 (dk_at dksX3_init_0 20 rfl rfl)
abbrev cX3_size : ByteArray := prog_7_method_7_code
def yX3_size : MethodName := ⟨RX3, "size", "()I"⟩
def dkwX3_size_1 : List UInt8 := [185, 0, 44, 1, 0, 192, 0, 13, 78, 27, 45, 182, 0, 78, 96, 60, 167, 255, 230, 27, 172]
abbrev dktX3_size_1 : List UInt8 := dkwX3_size_1 ++ []
def dkwX3_size_0 : List UInt8 := [4, 60, 42, 180, 0, 12, 185, 0, 32, 1, 0, 77, 44, 185, 0, 38, 1, 0, 153, 0, 23, 44]
abbrev dktX3_size_0 : List UInt8 := dkwX3_size_0 ++ dktX3_size_1
theorem dksX3_size_0 : cX3_size.data.toList.drop 0 = dktX3_size_0 := by decide +kernel
theorem dksX3_size_1 : cX3_size.data.toList.drop 22 = dktX3_size_1 := dk_seg dksX3_size_0 22 rfl rfl
theorem dX3_size_0 : decode cX3_size 0 = .ok (.iconst 1, 1) := dk_4 (dk_at dksX3_size_0 0 rfl rfl)
theorem dX3_size_1 : decode cX3_size 1 = .ok (.istore_n 1, 1) := dk_60 (dk_at dksX3_size_0 1 rfl rfl)
theorem dX3_size_2 : decode cX3_size 2 = .ok (.aload_n 0, 1) := dk_42 (dk_at dksX3_size_0 2 rfl rfl)
theorem dX3_size_3 : decode cX3_size 3 = .ok (.getfield 12, 3) := dk_180 0 12 (dk_at dksX3_size_0 3 rfl rfl)
theorem dX3_size_6 : decode cX3_size 6 = .ok (.invokeinterface 32 1, 5) := by decide +kernel
theorem dX3_size_11 : decode cX3_size 11 = .ok (.astore_n 2, 1) := dk_77 (dk_at dksX3_size_0 11 rfl rfl)
theorem dX3_size_12 : decode cX3_size 12 = .ok (.aload_n 2, 1) := dk_44 (dk_at dksX3_size_0 12 rfl rfl)
theorem dX3_size_13 : decode cX3_size 13 = .ok (.invokeinterface 38 1, 5) := by decide +kernel
theorem dX3_size_18 : decode cX3_size 18 = .ok (.ifCond .eq 23, 3) := dk_153 0 23 (dk_at dksX3_size_0 18 rfl rfl)
theorem dX3_size_21 : decode cX3_size 21 = .ok (.aload_n 2, 1) := dk_44 (dk_at dksX3_size_0 21 rfl rfl)
theorem dX3_size_22 : decode cX3_size 22 = .ok (.invokeinterface 44 1, 5) := by decide +kernel
theorem dX3_size_27 : decode cX3_size 27 = .ok (.checkcast 13, 3) := dk_192 0 13 (dk_at dksX3_size_1 5 rfl rfl)
theorem dX3_size_30 : decode cX3_size 30 = .ok (.astore_n 3, 1) := dk_78 (dk_at dksX3_size_1 8 rfl rfl)
theorem dX3_size_31 : decode cX3_size 31 = .ok (.iload_n 1, 1) := dk_27 (dk_at dksX3_size_1 9 rfl rfl)
theorem dX3_size_32 : decode cX3_size 32 = .ok (.aload_n 3, 1) := dk_45 (dk_at dksX3_size_1 10 rfl rfl)
theorem dX3_size_33 : decode cX3_size 33 = .ok (.invokevirtual 78, 3) := dk_182 0 78 (dk_at dksX3_size_1 11 rfl rfl)
theorem dX3_size_36 : decode cX3_size 36 = .ok (.iadd, 1) := dk_96 (dk_at dksX3_size_1 14 rfl rfl)
theorem dX3_size_37 : decode cX3_size 37 = .ok (.istore_n 1, 1) := dk_60 (dk_at dksX3_size_1 15 rfl rfl)
theorem dX3_size_38 : decode cX3_size 38 = .ok (.goto (-26), 3) := dk_167 255 230 (dk_at dksX3_size_1 16 rfl rfl)
theorem dX3_size_41 : decode cX3_size 41 = .ok (.iload_n 1, 1) := dk_27 (dk_at dksX3_size_1 19 rfl rfl)
theorem dX3_size_42 : decode cX3_size 42 = .ok (.ireturn, 1) := dk_172 (dk_at dksX3_size_1 20 rfl rfl)
abbrev cX3_isLike : ByteArray := prog_7_method_9_code
def yX3_isLike : MethodName := ⟨RX3, "isLike", "(LTreeDiffer$Node;Z)Z"⟩
def dkwX3_isLike_5 : List UInt8 := [167, 255, 205, 4, 172]
abbrev dktX3_isLike_5 : List UInt8 := dkwX3_isLike_5 ++ []
def dkwX3_isLike_4 : List UInt8 := [180, 0, 12, 29, 185, 0, 75, 2, 0, 192, 0, 13, 28, 182, 0, 82, 154, 0, 5, 3, 172, 132, 3, 1]
abbrev dktX3_isLike_4 : List UInt8 := dkwX3_isLike_4 ++ dktX3_isLike_5
def dkwX3_isLike_3 : List UInt8 := [185, 0, 48, 1, 0, 162, 0, 44, 42, 180, 0, 12, 29, 185, 0, 75, 2, 0, 192, 0, 13, 43]
abbrev dktX3_isLike_3 : List UInt8 := dkwX3_isLike_3 ++ dktX3_isLike_4
def dkwX3_isLike_2 : List UInt8 := [160, 0, 14, 42, 180, 0, 29, 43, 180, 0, 29, 159, 0, 5, 3, 172, 3, 62, 29, 42, 180, 0, 12]
abbrev dktX3_isLike_2 : List UInt8 := dkwX3_isLike_2 ++ dktX3_isLike_3
def dkwX3_isLike_1 : List UInt8 := [154, 0, 38, 42, 180, 0, 18, 43, 180, 0, 18, 160, 0, 25, 42, 180, 0, 25, 43, 180, 0, 25]
abbrev dktX3_isLike_1 : List UInt8 := dkwX3_isLike_1 ++ dktX3_isLike_2
def dkwX3_isLike_0 : List UInt8 := [42, 180, 0, 12, 185, 0, 48, 1, 0, 43, 180, 0, 12, 185, 0, 48, 1, 0, 160, 0, 40, 28]
abbrev dktX3_isLike_0 : List UInt8 := dkwX3_isLike_0 ++ dktX3_isLike_1
theorem dksX3_isLike_0 : cX3_isLike.data.toList.drop 0 = dktX3_isLike_0 := by decide +kernel
theorem dksX3_isLike_1 : cX3_isLike.data.toList.drop 22 = dktX3_isLike_1 := dk_seg dksX3_isLike_0 22 rfl rfl
theorem dksX3_isLike_2 : cX3_isLike.data.toList.drop 44 = dktX3_isLike_2 := dk_seg dksX3_isLike_1 22 rfl rfl
theorem dksX3_isLike_3 : cX3_isLike.data.toList.drop 67 = dktX3_isLike_3 := dk_seg dksX3_isLike_2 23 rfl rfl
theorem dksX3_isLike_4 : cX3_isLike.data.toList.drop 89 = dktX3_isLike_4 := dk_seg dksX3_isLike_3 22 rfl rfl
theorem dksX3_isLike_5 : cX3_isLike.data.toList.drop 113 = dktX3_isLike_5 := dk_seg dksX3_isLike_4 24 rfl rfl
theorem dX3_isLike_0 : decode cX3_isLike 0 = .ok (.aload_n 0, 1) := dk_42 (dk_at dksX3_isLike_0 0 rfl rfl)
theorem dX3_isLike_1 : decode cX3_isLike 1 = .ok (.getfield 12, 3) := dk_180 0 12 (dk_at dksX3_isLike_0 1 rfl rfl)
theorem dX3_isLike_4 : decode cX3_isLike 4 = .ok (.invokeinterface 48 1, 5) := by decide +kernel
theorem dX3_isLike_9 : decode cX3_isLike 9 = .ok (.aload_n 1, 1) := dk_43 (dk_at dksX3_isLike_0 9 rfl rfl)
theorem dX3_isLike_10 : decode cX3_isLike 10 = .ok (.getfield 12, 3) := dk_180 0 12 (dk_at dksX3_isLike_0 10 rfl rfl)
theorem dX3_isLike_13 : decode cX3_isLike 13 = .ok (.invokeinterface 48 1, 5) := by decide +kernel
theorem dX3_isLike_18 : decode cX3_isLike 18 = .ok (.if_icmp .ne 40, 3) := dk_160 0 40 (dk_at dksX3_isLike_0 18 rfl rfl)
theorem dX3_isLike_21 : decode cX3_isLike 21 = .ok (.iload_n 2, 1) := dk_28 (dk_at dksX3_isLike_0 21 rfl rfl)
theorem dX3_isLike_22 : decode cX3_isLike 22 = .ok (.ifCond .ne 38, 3) := dk_154 0 38 (dk_at dksX3_isLike_1 0 rfl rfl)
theorem dX3_isLike_25 : decode cX3_isLike 25 = .ok (.aload_n 0, 1) := dk_42 (dk_at dksX3_isLike_1 3 rfl rfl)
theorem dX3_isLike_26 : decode cX3_isLike 26 = .ok (.getfield 18, 3) := dk_180 0 18 (dk_at dksX3_isLike_1 4 rfl rfl)
theorem dX3_isLike_29 : decode cX3_isLike 29 = .ok (.aload_n 1, 1) := dk_43 (dk_at dksX3_isLike_1 7 rfl rfl)
theorem dX3_isLike_30 : decode cX3_isLike 30 = .ok (.getfield 18, 3) := dk_180 0 18 (dk_at dksX3_isLike_1 8 rfl rfl)
theorem dX3_isLike_33 : decode cX3_isLike 33 = .ok (.if_icmp .ne 25, 3) := dk_160 0 25 (dk_at dksX3_isLike_1 11 rfl rfl)
theorem dX3_isLike_36 : decode cX3_isLike 36 = .ok (.aload_n 0, 1) := dk_42 (dk_at dksX3_isLike_1 14 rfl rfl)
theorem dX3_isLike_37 : decode cX3_isLike 37 = .ok (.getfield 25, 3) := dk_180 0 25 (dk_at dksX3_isLike_1 15 rfl rfl)
theorem dX3_isLike_40 : decode cX3_isLike 40 = .ok (.aload_n 1, 1) := dk_43 (dk_at dksX3_isLike_1 18 rfl rfl)
theorem dX3_isLike_41 : decode cX3_isLike 41 = .ok (.getfield 25, 3) := dk_180 0 25 (dk_at dksX3_isLike_1 19 rfl rfl)
theorem dX3_isLike_44 : decode cX3_isLike 44 = .ok (.if_icmp .ne 14, 3) := dk_160 0 14 (dk_at dksX3_isLike_2 0 rfl rfl)
theorem dX3_isLike_47 : decode cX3_isLike 47 = .ok (.aload_n 0, 1) := dk_42 (dk_at dksX3_isLike_2 3 rfl rfl)
theorem dX3_isLike_48 : decode cX3_isLike 48 = .ok (.getfield 29, 3) := dk_180 0 29 (dk_at dksX3_isLike_2 4 rfl rfl)
theorem dX3_isLike_51 : decode cX3_isLike 51 = .ok (.aload_n 1, 1) := dk_43 (dk_at dksX3_isLike_2 7 rfl rfl)
theorem dX3_isLike_52 : decode cX3_isLike 52 = .ok (.getfield 29, 3) := dk_180 0 29 (dk_at dksX3_isLike_2 8 rfl rfl)
theorem dX3_isLike_55 : decode cX3_isLike 55 = .ok (.if_icmp .eq 5, 3) := dk_159 0 5 (dk_at dksX3_isLike_2 11 rfl rfl)
theorem dX3_isLike_58 : decode cX3_isLike 58 = .ok (.iconst 0, 1) := dk_3 (dk_at dksX3_isLike_2 14 rfl rfl)
theorem dX3_isLike_59 : decode cX3_isLike 59 = .ok (.ireturn, 1) := dk_172 (dk_at dksX3_isLike_2 15 rfl rfl)
theorem dX3_isLike_60 : decode cX3_isLike 60 = .ok (.iconst 0, 1) := dk_3 (dk_at dksX3_isLike_2 16 rfl rfl)
theorem dX3_isLike_61 : decode cX3_isLike 61 = .ok (.istore_n 3, 1) := dk_62 (dk_at dksX3_isLike_2 17 rfl rfl)
theorem dX3_isLike_62 : decode cX3_isLike 62 = .ok (.iload_n 3, 1) := dk_29 (dk_at dksX3_isLike_2 18 rfl rfl)
theorem dX3_isLike_63 : decode cX3_isLike 63 = .ok (.aload_n 0, 1) := dk_42 (dk_at dksX3_isLike_2 19 rfl rfl)
theorem dX3_isLike_64 : decode cX3_isLike 64 = .ok (.getfield 12, 3) := dk_180 0 12 (dk_at dksX3_isLike_2 20 rfl rfl)
theorem dX3_isLike_67 : decode cX3_isLike 67 = .ok (.invokeinterface 48 1, 5) := by decide +kernel
theorem dX3_isLike_72 : decode cX3_isLike 72 = .ok (.if_icmp .ge 44, 3) := dk_162 0 44 (dk_at dksX3_isLike_3 5 rfl rfl)
theorem dX3_isLike_75 : decode cX3_isLike 75 = .ok (.aload_n 0, 1) := dk_42 (dk_at dksX3_isLike_3 8 rfl rfl)
theorem dX3_isLike_76 : decode cX3_isLike 76 = .ok (.getfield 12, 3) := dk_180 0 12 (dk_at dksX3_isLike_3 9 rfl rfl)
theorem dX3_isLike_79 : decode cX3_isLike 79 = .ok (.iload_n 3, 1) := dk_29 (dk_at dksX3_isLike_3 12 rfl rfl)
theorem dX3_isLike_80 : decode cX3_isLike 80 = .ok (.invokeinterface 75 2, 5) := by decide +kernel
theorem dX3_isLike_85 : decode cX3_isLike 85 = .ok (.checkcast 13, 3) := dk_192 0 13 (dk_at dksX3_isLike_3 18 rfl rfl)
theorem dX3_isLike_88 : decode cX3_isLike 88 = .ok (.aload_n 1, 1) := dk_43 (dk_at dksX3_isLike_3 21 rfl rfl)
theorem dX3_isLike_89 : decode cX3_isLike 89 = .ok (.getfield 12, 3) := dk_180 0 12 (dk_at dksX3_isLike_4 0 rfl rfl)
theorem dX3_isLike_92 : decode cX3_isLike 92 = .ok (.iload_n 3, 1) := dk_29 (dk_at dksX3_isLike_4 3 rfl rfl)
theorem dX3_isLike_93 : decode cX3_isLike 93 = .ok (.invokeinterface 75 2, 5) := by decide +kernel
theorem dX3_isLike_98 : decode cX3_isLike 98 = .ok (.checkcast 13, 3) := dk_192 0 13 (dk_at dksX3_isLike_4 9 rfl rfl)
theorem dX3_isLike_101 : decode cX3_isLike 101 = .ok (.iload_n 2, 1) := dk_28 (dk_at dksX3_isLike_4 12 rfl rfl)
theorem dX3_isLike_102 : decode cX3_isLike 102 = .ok (.invokevirtual 82, 3) := dk_182 0 82 (dk_at dksX3_isLike_4 13 rfl rfl)
theorem dX3_isLike_105 : decode cX3_isLike 105 = .ok (.ifCond .ne 5, 3) := dk_154 0 5 (dk_at dksX3_isLike_4 16 rfl rfl)
theorem dX3_isLike_108 : decode cX3_isLike 108 = .ok (.iconst 0, 1) := dk_3 (dk_at dksX3_isLike_4 19 rfl rfl)
theorem dX3_isLike_109 : decode cX3_isLike 109 = .ok (.ireturn, 1) := dk_172 (dk_at dksX3_isLike_4 20 rfl rfl)
theorem dX3_isLike_110 : decode cX3_isLike 110 = .ok (.iinc 3 1, 3) := dk_132 3 1 (dk_at dksX3_isLike_4 21 rfl rfl)
theorem dX3_isLike_113 : decode cX3_isLike 113 = .ok (.goto (-51), 3) := dk_167 255 205 (dk_at dksX3_isLike_5 0 rfl rfl)
theorem dX3_isLike_116 : decode cX3_isLike 116 = .ok (.iconst 1, 1) := dk_4 (dk_at dksX3_isLike_5 3 rfl rfl)
theorem dX3_isLike_117 : decode cX3_isLike 117 = .ok (.ireturn, 1) := dk_172 (dk_at dksX3_isLike_5 4 rfl rfl)
abbrev cX3_copy : ByteArray := prog_7_method_2_code
def yX3_copy : MethodName := ⟨RX3, "copy", "()LTreeDiffer$Node;"⟩
def dkwX3_copy_3 : List UInt8 := [182, 0, 52, 182, 0, 56, 167, 255, 220, 43, 176]
abbrev dktX3_copy_3 : List UInt8 := dkwX3_copy_3 ++ []
def dkwX3_copy_2 : List UInt8 := [153, 0, 33, 44, 185, 0, 44, 1, 0, 192, 0, 13, 78, 43, 43, 180, 0, 12, 185, 0, 48, 1, 0, 45]
abbrev dktX3_copy_2 : List UInt8 := dkwX3_copy_2 ++ dktX3_copy_3
def dkwX3_copy_1 : List UInt8 := [180, 0, 29, 181, 0, 29, 42, 180, 0, 12, 185, 0, 32, 1, 0, 77, 44, 185, 0, 38, 1, 0]
abbrev dktX3_copy_1 : List UInt8 := dkwX3_copy_1 ++ dktX3_copy_2
def dkwX3_copy_0 : List UInt8 := [187, 0, 13, 89, 42, 180, 0, 18, 183, 0, 22, 76, 43, 42, 180, 0, 25, 181, 0, 25, 43, 42]
abbrev dktX3_copy_0 : List UInt8 := dkwX3_copy_0 ++ dktX3_copy_1
theorem dksX3_copy_0 : cX3_copy.data.toList.drop 0 = dktX3_copy_0 := by decide +kernel
theorem dksX3_copy_1 : cX3_copy.data.toList.drop 22 = dktX3_copy_1 := dk_seg dksX3_copy_0 22 rfl rfl
theorem dksX3_copy_2 : cX3_copy.data.toList.drop 44 = dktX3_copy_2 := dk_seg dksX3_copy_1 22 rfl rfl
theorem dksX3_copy_3 : cX3_copy.data.toList.drop 68 = dktX3_copy_3 := dk_seg dksX3_copy_2 24 rfl rfl
theorem dX3_copy_0 : decode cX3_copy 0 = .ok (.new 13, 3) := dk_187 0 13 (dk_at dksX3_copy_0 0 rfl rfl)
theorem dX3_copy_3 : decode cX3_copy 3 = .ok (.dup, 1) := dk_89 (dk_at dksX3_copy_0 3 rfl rfl)
theorem dX3_copy_4 : decode cX3_copy 4 = .ok (.aload_n 0, 1) := dk_42 (dk_at dksX3_copy_0 4 rfl rfl)
theorem dX3_copy_5 : decode cX3_copy 5 = .ok (.getfield 18, 3) := dk_180 0 18 (dk_at dksX3_copy_0 5 rfl rfl)
theorem dX3_copy_8 : decode cX3_copy 8 = .ok (.invokespecial 22, 3) := dk_183 0 22 (dk_at dksX3_copy_0 8 rfl rfl)
theorem dX3_copy_11 : decode cX3_copy 11 = .ok (.astore_n 1, 1) := dk_76 (dk_at dksX3_copy_0 11 rfl rfl)
theorem dX3_copy_12 : decode cX3_copy 12 = .ok (.aload_n 1, 1) := dk_43 (dk_at dksX3_copy_0 12 rfl rfl)
theorem dX3_copy_13 : decode cX3_copy 13 = .ok (.aload_n 0, 1) := dk_42 (dk_at dksX3_copy_0 13 rfl rfl)
theorem dX3_copy_14 : decode cX3_copy 14 = .ok (.getfield 25, 3) := dk_180 0 25 (dk_at dksX3_copy_0 14 rfl rfl)
theorem dX3_copy_17 : decode cX3_copy 17 = .ok (.putfield 25, 3) := dk_181 0 25 (dk_at dksX3_copy_0 17 rfl rfl)
theorem dX3_copy_20 : decode cX3_copy 20 = .ok (.aload_n 1, 1) := dk_43 (dk_at dksX3_copy_0 20 rfl rfl)
theorem dX3_copy_21 : decode cX3_copy 21 = .ok (.aload_n 0, 1) := dk_42 (dk_at dksX3_copy_0 21 rfl rfl)
theorem dX3_copy_22 : decode cX3_copy 22 = .ok (.getfield 29, 3) := dk_180 0 29 (dk_at dksX3_copy_1 0 rfl rfl)
theorem dX3_copy_25 : decode cX3_copy 25 = .ok (.putfield 29, 3) := dk_181 0 29 (dk_at dksX3_copy_1 3 rfl rfl)
theorem dX3_copy_28 : decode cX3_copy 28 = .ok (.aload_n 0, 1) := dk_42 (dk_at dksX3_copy_1 6 rfl rfl)
theorem dX3_copy_29 : decode cX3_copy 29 = .ok (.getfield 12, 3) := dk_180 0 12 (dk_at dksX3_copy_1 7 rfl rfl)
theorem dX3_copy_32 : decode cX3_copy 32 = .ok (.invokeinterface 32 1, 5) := by decide +kernel
theorem dX3_copy_37 : decode cX3_copy 37 = .ok (.astore_n 2, 1) := dk_77 (dk_at dksX3_copy_1 15 rfl rfl)
theorem dX3_copy_38 : decode cX3_copy 38 = .ok (.aload_n 2, 1) := dk_44 (dk_at dksX3_copy_1 16 rfl rfl)
theorem dX3_copy_39 : decode cX3_copy 39 = .ok (.invokeinterface 38 1, 5) := by decide +kernel
theorem dX3_copy_44 : decode cX3_copy 44 = .ok (.ifCond .eq 33, 3) := dk_153 0 33 (dk_at dksX3_copy_2 0 rfl rfl)
theorem dX3_copy_47 : decode cX3_copy 47 = .ok (.aload_n 2, 1) := dk_44 (dk_at dksX3_copy_2 3 rfl rfl)
theorem dX3_copy_48 : decode cX3_copy 48 = .ok (.invokeinterface 44 1, 5) := by decide +kernel
theorem dX3_copy_53 : decode cX3_copy 53 = .ok (.checkcast 13, 3) := dk_192 0 13 (dk_at dksX3_copy_2 9 rfl rfl)
theorem dX3_copy_56 : decode cX3_copy 56 = .ok (.astore_n 3, 1) := dk_78 (dk_at dksX3_copy_2 12 rfl rfl)
theorem dX3_copy_57 : decode cX3_copy 57 = .ok (.aload_n 1, 1) := dk_43 (dk_at dksX3_copy_2 13 rfl rfl)
theorem dX3_copy_58 : decode cX3_copy 58 = .ok (.aload_n 1, 1) := dk_43 (dk_at dksX3_copy_2 14 rfl rfl)
theorem dX3_copy_59 : decode cX3_copy 59 = .ok (.getfield 12, 3) := dk_180 0 12 (dk_at dksX3_copy_2 15 rfl rfl)
theorem dX3_copy_62 : decode cX3_copy 62 = .ok (.invokeinterface 48 1, 5) := by decide +kernel
theorem dX3_copy_67 : decode cX3_copy 67 = .ok (.aload_n 3, 1) := dk_45 (dk_at dksX3_copy_2 23 rfl rfl)
theorem dX3_copy_68 : decode cX3_copy 68 = .ok (.invokevirtual 52, 3) := dk_182 0 52 (dk_at dksX3_copy_3 0 rfl rfl)
theorem dX3_copy_71 : decode cX3_copy 71 = .ok (.invokevirtual 56, 3) := dk_182 0 56 (dk_at dksX3_copy_3 3 rfl rfl)
theorem dX3_copy_74 : decode cX3_copy 74 = .ok (.goto (-36), 3) := dk_167 255 220 (dk_at dksX3_copy_3 6 rfl rfl)
theorem dX3_copy_77 : decode cX3_copy 77 = .ok (.aload_n 1, 1) := dk_43 (dk_at dksX3_copy_3 9 rfl rfl)
theorem dX3_copy_78 : decode cX3_copy 78 = .ok (.areturn, 1) := dk_176 (dk_at dksX3_copy_3 10 rfl rfl)
abbrev cX3_add : ByteArray := prog_7_method_3_code
def yX3_add : MethodName := ⟨RX3, "add", "(ILTreeDiffer$Node;)V"⟩
def dkwX3_add_0 : List UInt8 := [42, 180, 0, 12, 27, 44, 185, 0, 60, 3, 0, 44, 42, 181, 0, 63, 177]
abbrev dktX3_add_0 : List UInt8 := dkwX3_add_0 ++ []
theorem dksX3_add_0 : cX3_add.data.toList.drop 0 = dktX3_add_0 := by decide +kernel
theorem dX3_add_0 : decode cX3_add 0 = .ok (.aload_n 0, 1) := dk_42 (dk_at dksX3_add_0 0 rfl rfl)
theorem dX3_add_1 : decode cX3_add 1 = .ok (.getfield 12, 3) := dk_180 0 12 (dk_at dksX3_add_0 1 rfl rfl)
theorem dX3_add_4 : decode cX3_add 4 = .ok (.iload_n 1, 1) := dk_27 (dk_at dksX3_add_0 4 rfl rfl)
theorem dX3_add_5 : decode cX3_add 5 = .ok (.aload_n 2, 1) := dk_44 (dk_at dksX3_add_0 5 rfl rfl)
theorem dX3_add_6 : decode cX3_add 6 = .ok (.invokeinterface 60 3, 5) := by decide +kernel
theorem dX3_add_11 : decode cX3_add 11 = .ok (.aload_n 2, 1) := dk_44 (dk_at dksX3_add_0 11 rfl rfl)
theorem dX3_add_12 : decode cX3_add 12 = .ok (.aload_n 0, 1) := dk_42 (dk_at dksX3_add_0 12 rfl rfl)
theorem dX3_add_13 : decode cX3_add 13 = .ok (.putfield 63, 3) := dk_181 0 63 (dk_at dksX3_add_0 13 rfl rfl)
theorem dX3_add_16 : decode cX3_add 16 = .ok (.return_, 1) := dk_177 (dk_at dksX3_add_0 16 rfl rfl)
abbrev cX3_detach : ByteArray := prog_7_method_4_code
def yX3_detach : MethodName := ⟨RX3, "detach", "()V"⟩
def dkwX3_detach_1 : List UInt8 := [42, 1, 181, 0, 63, 177]
abbrev dktX3_detach_1 : List UInt8 := dkwX3_detach_1 ++ []
def dkwX3_detach_0 : List UInt8 := [42, 180, 0, 63, 180, 0, 12, 42, 180, 0, 63, 42, 182, 0, 67, 185, 0, 71, 2, 0, 192, 0, 13, 76]
abbrev dktX3_detach_0 : List UInt8 := dkwX3_detach_0 ++ dktX3_detach_1
theorem dksX3_detach_0 : cX3_detach.data.toList.drop 0 = dktX3_detach_0 := by decide +kernel
theorem dksX3_detach_1 : cX3_detach.data.toList.drop 24 = dktX3_detach_1 := dk_seg dksX3_detach_0 24 rfl rfl
theorem dX3_detach_0 : decode cX3_detach 0 = .ok (.aload_n 0, 1) := dk_42 (dk_at dksX3_detach_0 0 rfl rfl)
theorem dX3_detach_1 : decode cX3_detach 1 = .ok (.getfield 63, 3) := dk_180 0 63 (dk_at dksX3_detach_0 1 rfl rfl)
theorem dX3_detach_4 : decode cX3_detach 4 = .ok (.getfield 12, 3) := dk_180 0 12 (dk_at dksX3_detach_0 4 rfl rfl)
theorem dX3_detach_7 : decode cX3_detach 7 = .ok (.aload_n 0, 1) := dk_42 (dk_at dksX3_detach_0 7 rfl rfl)
theorem dX3_detach_8 : decode cX3_detach 8 = .ok (.getfield 63, 3) := dk_180 0 63 (dk_at dksX3_detach_0 8 rfl rfl)
theorem dX3_detach_11 : decode cX3_detach 11 = .ok (.aload_n 0, 1) := dk_42 (dk_at dksX3_detach_0 11 rfl rfl)
theorem dX3_detach_12 : decode cX3_detach 12 = .ok (.invokevirtual 67, 3) := dk_182 0 67 (dk_at dksX3_detach_0 12 rfl rfl)
theorem dX3_detach_15 : decode cX3_detach 15 = .ok (.invokeinterface 71 2, 5) := by decide +kernel
theorem dX3_detach_20 : decode cX3_detach 20 = .ok (.checkcast 13, 3) := dk_192 0 13 (dk_at dksX3_detach_0 20 rfl rfl)
theorem dX3_detach_23 : decode cX3_detach 23 = .ok (.astore_n 1, 1) := dk_76 (dk_at dksX3_detach_0 23 rfl rfl)
theorem dX3_detach_24 : decode cX3_detach 24 = .ok (.aload_n 0, 1) := dk_42 (dk_at dksX3_detach_1 0 rfl rfl)
theorem dX3_detach_25 : decode cX3_detach 25 = .ok (.aconst_null, 1) := dk_1 (dk_at dksX3_detach_1 1 rfl rfl)
theorem dX3_detach_26 : decode cX3_detach 26 = .ok (.putfield 63, 3) := dk_181 0 63 (dk_at dksX3_detach_1 2 rfl rfl)
theorem dX3_detach_29 : decode cX3_detach 29 = .ok (.return_, 1) := dk_177 (dk_at dksX3_detach_1 5 rfl rfl)
abbrev cX3_place : ByteArray := prog_7_method_5_code
def yX3_place : MethodName := ⟨RX3, "place", "(LTreeDiffer$Node;)I"⟩
def dkwX3_place_1 : List UInt8 := [185, 0, 75, 2, 0, 43, 166, 0, 5, 28, 172, 132, 2, 1, 167, 255, 224, 2, 172]
abbrev dktX3_place_1 : List UInt8 := dkwX3_place_1 ++ []
def dkwX3_place_0 : List UInt8 := [3, 61, 28, 42, 180, 0, 12, 185, 0, 48, 1, 0, 162, 0, 25, 42, 180, 0, 12, 28]
abbrev dktX3_place_0 : List UInt8 := dkwX3_place_0 ++ dktX3_place_1
theorem dksX3_place_0 : cX3_place.data.toList.drop 0 = dktX3_place_0 := by decide +kernel
theorem dksX3_place_1 : cX3_place.data.toList.drop 20 = dktX3_place_1 := dk_seg dksX3_place_0 20 rfl rfl
theorem dX3_place_0 : decode cX3_place 0 = .ok (.iconst 0, 1) := dk_3 (dk_at dksX3_place_0 0 rfl rfl)
theorem dX3_place_1 : decode cX3_place 1 = .ok (.istore_n 2, 1) := dk_61 (dk_at dksX3_place_0 1 rfl rfl)
theorem dX3_place_2 : decode cX3_place 2 = .ok (.iload_n 2, 1) := dk_28 (dk_at dksX3_place_0 2 rfl rfl)
theorem dX3_place_3 : decode cX3_place 3 = .ok (.aload_n 0, 1) := dk_42 (dk_at dksX3_place_0 3 rfl rfl)
theorem dX3_place_4 : decode cX3_place 4 = .ok (.getfield 12, 3) := dk_180 0 12 (dk_at dksX3_place_0 4 rfl rfl)
theorem dX3_place_7 : decode cX3_place 7 = .ok (.invokeinterface 48 1, 5) := by decide +kernel
theorem dX3_place_12 : decode cX3_place 12 = .ok (.if_icmp .ge 25, 3) := dk_162 0 25 (dk_at dksX3_place_0 12 rfl rfl)
theorem dX3_place_15 : decode cX3_place 15 = .ok (.aload_n 0, 1) := dk_42 (dk_at dksX3_place_0 15 rfl rfl)
theorem dX3_place_16 : decode cX3_place 16 = .ok (.getfield 12, 3) := dk_180 0 12 (dk_at dksX3_place_0 16 rfl rfl)
theorem dX3_place_19 : decode cX3_place 19 = .ok (.iload_n 2, 1) := dk_28 (dk_at dksX3_place_0 19 rfl rfl)
theorem dX3_place_20 : decode cX3_place 20 = .ok (.invokeinterface 75 2, 5) := by decide +kernel
theorem dX3_place_25 : decode cX3_place 25 = .ok (.aload_n 1, 1) := dk_43 (dk_at dksX3_place_1 5 rfl rfl)
theorem dX3_place_26 : decode cX3_place 26 = .ok (.if_acmp .ne 5, 3) := dk_166 0 5 (dk_at dksX3_place_1 6 rfl rfl)
theorem dX3_place_29 : decode cX3_place 29 = .ok (.iload_n 2, 1) := dk_28 (dk_at dksX3_place_1 9 rfl rfl)
theorem dX3_place_30 : decode cX3_place 30 = .ok (.ireturn, 1) := dk_172 (dk_at dksX3_place_1 10 rfl rfl)
theorem dX3_place_31 : decode cX3_place 31 = .ok (.iinc 2 1, 3) := dk_132 2 1 (dk_at dksX3_place_1 11 rfl rfl)
theorem dX3_place_34 : decode cX3_place 34 = .ok (.goto (-32), 3) := dk_167 255 224 (dk_at dksX3_place_1 14 rfl rfl)
theorem dX3_place_37 : decode cX3_place 37 = .ok (.iconst (-1), 1) := dk_2 (dk_at dksX3_place_1 17 rfl rfl)
theorem dX3_place_38 : decode cX3_place 38 = .ok (.ireturn, 1) := dk_172 (dk_at dksX3_place_1 18 rfl rfl)
abbrev cX3_hasChildWithKey : ByteArray := prog_7_method_6_code
def yX3_hasChildWithKey : MethodName := ⟨RX3, "hasChildWithKey", "(I)Z"⟩
def dkwX3_hasChildWithKey_1 : List UInt8 := [185, 0, 44, 1, 0, 192, 0, 13, 78, 45, 180, 0, 25, 27, 160, 0, 5, 4, 172, 167, 255, 227, 3, 172]
abbrev dktX3_hasChildWithKey_1 : List UInt8 := dkwX3_hasChildWithKey_1 ++ []
def dkwX3_hasChildWithKey_0 : List UInt8 := [42, 180, 0, 12, 185, 0, 32, 1, 0, 77, 44, 185, 0, 38, 1, 0, 153, 0, 26, 44]
abbrev dktX3_hasChildWithKey_0 : List UInt8 := dkwX3_hasChildWithKey_0 ++ dktX3_hasChildWithKey_1
theorem dksX3_hasChildWithKey_0 : cX3_hasChildWithKey.data.toList.drop 0 = dktX3_hasChildWithKey_0 := by decide +kernel
theorem dksX3_hasChildWithKey_1 : cX3_hasChildWithKey.data.toList.drop 20 = dktX3_hasChildWithKey_1 := dk_seg dksX3_hasChildWithKey_0 20 rfl rfl
theorem dX3_hasChildWithKey_0 : decode cX3_hasChildWithKey 0 = .ok (.aload_n 0, 1) := dk_42 (dk_at dksX3_hasChildWithKey_0 0 rfl rfl)
theorem dX3_hasChildWithKey_1 : decode cX3_hasChildWithKey 1 = .ok (.getfield 12, 3) := dk_180 0 12 (dk_at dksX3_hasChildWithKey_0 1 rfl rfl)
theorem dX3_hasChildWithKey_4 : decode cX3_hasChildWithKey 4 = .ok (.invokeinterface 32 1, 5) := by decide +kernel
theorem dX3_hasChildWithKey_9 : decode cX3_hasChildWithKey 9 = .ok (.astore_n 2, 1) := dk_77 (dk_at dksX3_hasChildWithKey_0 9 rfl rfl)
theorem dX3_hasChildWithKey_10 : decode cX3_hasChildWithKey 10 = .ok (.aload_n 2, 1) := dk_44 (dk_at dksX3_hasChildWithKey_0 10 rfl rfl)
theorem dX3_hasChildWithKey_11 : decode cX3_hasChildWithKey 11 = .ok (.invokeinterface 38 1, 5) := by decide +kernel
theorem dX3_hasChildWithKey_16 : decode cX3_hasChildWithKey 16 = .ok (.ifCond .eq 26, 3) := dk_153 0 26 (dk_at dksX3_hasChildWithKey_0 16 rfl rfl)
theorem dX3_hasChildWithKey_19 : decode cX3_hasChildWithKey 19 = .ok (.aload_n 2, 1) := dk_44 (dk_at dksX3_hasChildWithKey_0 19 rfl rfl)
theorem dX3_hasChildWithKey_20 : decode cX3_hasChildWithKey 20 = .ok (.invokeinterface 44 1, 5) := by decide +kernel
theorem dX3_hasChildWithKey_25 : decode cX3_hasChildWithKey 25 = .ok (.checkcast 13, 3) := dk_192 0 13 (dk_at dksX3_hasChildWithKey_1 5 rfl rfl)
theorem dX3_hasChildWithKey_28 : decode cX3_hasChildWithKey 28 = .ok (.astore_n 3, 1) := dk_78 (dk_at dksX3_hasChildWithKey_1 8 rfl rfl)
theorem dX3_hasChildWithKey_29 : decode cX3_hasChildWithKey 29 = .ok (.aload_n 3, 1) := dk_45 (dk_at dksX3_hasChildWithKey_1 9 rfl rfl)
theorem dX3_hasChildWithKey_30 : decode cX3_hasChildWithKey 30 = .ok (.getfield 25, 3) := dk_180 0 25 (dk_at dksX3_hasChildWithKey_1 10 rfl rfl)
theorem dX3_hasChildWithKey_33 : decode cX3_hasChildWithKey 33 = .ok (.iload_n 1, 1) := dk_27 (dk_at dksX3_hasChildWithKey_1 13 rfl rfl)
theorem dX3_hasChildWithKey_34 : decode cX3_hasChildWithKey 34 = .ok (.if_icmp .ne 5, 3) := dk_160 0 5 (dk_at dksX3_hasChildWithKey_1 14 rfl rfl)
theorem dX3_hasChildWithKey_37 : decode cX3_hasChildWithKey 37 = .ok (.iconst 1, 1) := dk_4 (dk_at dksX3_hasChildWithKey_1 17 rfl rfl)
theorem dX3_hasChildWithKey_38 : decode cX3_hasChildWithKey 38 = .ok (.ireturn, 1) := dk_172 (dk_at dksX3_hasChildWithKey_1 18 rfl rfl)
theorem dX3_hasChildWithKey_39 : decode cX3_hasChildWithKey 39 = .ok (.goto (-29), 3) := dk_167 255 227 (dk_at dksX3_hasChildWithKey_1 19 rfl rfl)
theorem dX3_hasChildWithKey_42 : decode cX3_hasChildWithKey 42 = .ok (.iconst 0, 1) := dk_3 (dk_at dksX3_hasChildWithKey_1 22 rfl rfl)
theorem dX3_hasChildWithKey_43 : decode cX3_hasChildWithKey 43 = .ok (.ireturn, 1) := dk_172 (dk_at dksX3_hasChildWithKey_1 23 rfl rfl)
abbrev cX3_write : ByteArray := prog_7_method_10_code
def yX3_write : MethodName := ⟨RX3, "write", "(Ljava/lang/StringBuilder;)V"⟩
def dkwX3_write_4 : List UInt8 := [192, 0, 13, 78, 45, 43, 182, 0, 98, 167, 255, 232, 43, 16, 41, 182, 0, 86, 87, 177]
abbrev dktX3_write_4 : List UInt8 := dkwX3_write_4 ++ []
def dkwX3_write_3 : List UInt8 := [180, 0, 12, 185, 0, 32, 1, 0, 77, 44, 185, 0, 38, 1, 0, 153, 0, 21, 44, 185, 0, 44, 1, 0]
abbrev dktX3_write_3 : List UInt8 := dkwX3_write_3 ++ dktX3_write_4
def dkwX3_write_2 : List UInt8 := [182, 0, 92, 87, 42, 180, 0, 12, 185, 0, 95, 1, 0, 154, 0, 54, 43, 16, 40, 182, 0, 86, 87, 42]
abbrev dktX3_write_2 : List UInt8 := dkwX3_write_2 ++ dktX3_write_3
def dkwX3_write_1 : List UInt8 := [180, 0, 25, 182, 0, 92, 87, 42, 180, 0, 29, 158, 0, 17, 43, 16, 61, 182, 0, 86, 42, 180, 0, 29]
abbrev dktX3_write_1 : List UInt8 := dkwX3_write_1 ++ dktX3_write_2
def dkwX3_write_0 : List UInt8 := [43, 42, 180, 0, 18, 182, 0, 86, 87, 42, 180, 0, 25, 158, 0, 17, 43, 16, 35, 182, 0, 86, 42]
abbrev dktX3_write_0 : List UInt8 := dkwX3_write_0 ++ dktX3_write_1
theorem dksX3_write_0 : cX3_write.data.toList.drop 0 = dktX3_write_0 := by decide +kernel
theorem dksX3_write_1 : cX3_write.data.toList.drop 23 = dktX3_write_1 := dk_seg dksX3_write_0 23 rfl rfl
theorem dksX3_write_2 : cX3_write.data.toList.drop 47 = dktX3_write_2 := dk_seg dksX3_write_1 24 rfl rfl
theorem dksX3_write_3 : cX3_write.data.toList.drop 71 = dktX3_write_3 := dk_seg dksX3_write_2 24 rfl rfl
theorem dksX3_write_4 : cX3_write.data.toList.drop 95 = dktX3_write_4 := dk_seg dksX3_write_3 24 rfl rfl
theorem dX3_write_0 : decode cX3_write 0 = .ok (.aload_n 1, 1) := dk_43 (dk_at dksX3_write_0 0 rfl rfl)
theorem dX3_write_1 : decode cX3_write 1 = .ok (.aload_n 0, 1) := dk_42 (dk_at dksX3_write_0 1 rfl rfl)
theorem dX3_write_2 : decode cX3_write 2 = .ok (.getfield 18, 3) := dk_180 0 18 (dk_at dksX3_write_0 2 rfl rfl)
theorem dX3_write_5 : decode cX3_write 5 = .ok (.invokevirtual 86, 3) := dk_182 0 86 (dk_at dksX3_write_0 5 rfl rfl)
theorem dX3_write_8 : decode cX3_write 8 = .ok (.pop, 1) := dk_87 (dk_at dksX3_write_0 8 rfl rfl)
theorem dX3_write_9 : decode cX3_write 9 = .ok (.aload_n 0, 1) := dk_42 (dk_at dksX3_write_0 9 rfl rfl)
theorem dX3_write_10 : decode cX3_write 10 = .ok (.getfield 25, 3) := dk_180 0 25 (dk_at dksX3_write_0 10 rfl rfl)
theorem dX3_write_13 : decode cX3_write 13 = .ok (.ifCond .le 17, 3) := dk_158 0 17 (dk_at dksX3_write_0 13 rfl rfl)
theorem dX3_write_16 : decode cX3_write 16 = .ok (.aload_n 1, 1) := dk_43 (dk_at dksX3_write_0 16 rfl rfl)
theorem dX3_write_17 : decode cX3_write 17 = .ok (.bipush 35, 2) := dk_16 35 (dk_at dksX3_write_0 17 rfl rfl)
theorem dX3_write_19 : decode cX3_write 19 = .ok (.invokevirtual 86, 3) := dk_182 0 86 (dk_at dksX3_write_0 19 rfl rfl)
theorem dX3_write_22 : decode cX3_write 22 = .ok (.aload_n 0, 1) := dk_42 (dk_at dksX3_write_0 22 rfl rfl)
theorem dX3_write_23 : decode cX3_write 23 = .ok (.getfield 25, 3) := dk_180 0 25 (dk_at dksX3_write_1 0 rfl rfl)
theorem dX3_write_26 : decode cX3_write 26 = .ok (.invokevirtual 92, 3) := dk_182 0 92 (dk_at dksX3_write_1 3 rfl rfl)
theorem dX3_write_29 : decode cX3_write 29 = .ok (.pop, 1) := dk_87 (dk_at dksX3_write_1 6 rfl rfl)
theorem dX3_write_30 : decode cX3_write 30 = .ok (.aload_n 0, 1) := dk_42 (dk_at dksX3_write_1 7 rfl rfl)
theorem dX3_write_31 : decode cX3_write 31 = .ok (.getfield 29, 3) := dk_180 0 29 (dk_at dksX3_write_1 8 rfl rfl)
theorem dX3_write_34 : decode cX3_write 34 = .ok (.ifCond .le 17, 3) := dk_158 0 17 (dk_at dksX3_write_1 11 rfl rfl)
theorem dX3_write_37 : decode cX3_write 37 = .ok (.aload_n 1, 1) := dk_43 (dk_at dksX3_write_1 14 rfl rfl)
theorem dX3_write_38 : decode cX3_write 38 = .ok (.bipush 61, 2) := dk_16 61 (dk_at dksX3_write_1 15 rfl rfl)
theorem dX3_write_40 : decode cX3_write 40 = .ok (.invokevirtual 86, 3) := dk_182 0 86 (dk_at dksX3_write_1 17 rfl rfl)
theorem dX3_write_43 : decode cX3_write 43 = .ok (.aload_n 0, 1) := dk_42 (dk_at dksX3_write_1 20 rfl rfl)
theorem dX3_write_44 : decode cX3_write 44 = .ok (.getfield 29, 3) := dk_180 0 29 (dk_at dksX3_write_1 21 rfl rfl)
theorem dX3_write_47 : decode cX3_write 47 = .ok (.invokevirtual 92, 3) := dk_182 0 92 (dk_at dksX3_write_2 0 rfl rfl)
theorem dX3_write_50 : decode cX3_write 50 = .ok (.pop, 1) := dk_87 (dk_at dksX3_write_2 3 rfl rfl)
theorem dX3_write_51 : decode cX3_write 51 = .ok (.aload_n 0, 1) := dk_42 (dk_at dksX3_write_2 4 rfl rfl)
theorem dX3_write_52 : decode cX3_write 52 = .ok (.getfield 12, 3) := dk_180 0 12 (dk_at dksX3_write_2 5 rfl rfl)
theorem dX3_write_55 : decode cX3_write 55 = .ok (.invokeinterface 95 1, 5) := by decide +kernel
theorem dX3_write_60 : decode cX3_write 60 = .ok (.ifCond .ne 54, 3) := dk_154 0 54 (dk_at dksX3_write_2 13 rfl rfl)
theorem dX3_write_63 : decode cX3_write 63 = .ok (.aload_n 1, 1) := dk_43 (dk_at dksX3_write_2 16 rfl rfl)
theorem dX3_write_64 : decode cX3_write 64 = .ok (.bipush 40, 2) := dk_16 40 (dk_at dksX3_write_2 17 rfl rfl)
theorem dX3_write_66 : decode cX3_write 66 = .ok (.invokevirtual 86, 3) := dk_182 0 86 (dk_at dksX3_write_2 19 rfl rfl)
theorem dX3_write_69 : decode cX3_write 69 = .ok (.pop, 1) := dk_87 (dk_at dksX3_write_2 22 rfl rfl)
theorem dX3_write_70 : decode cX3_write 70 = .ok (.aload_n 0, 1) := dk_42 (dk_at dksX3_write_2 23 rfl rfl)
theorem dX3_write_71 : decode cX3_write 71 = .ok (.getfield 12, 3) := dk_180 0 12 (dk_at dksX3_write_3 0 rfl rfl)
theorem dX3_write_74 : decode cX3_write 74 = .ok (.invokeinterface 32 1, 5) := by decide +kernel
theorem dX3_write_79 : decode cX3_write 79 = .ok (.astore_n 2, 1) := dk_77 (dk_at dksX3_write_3 8 rfl rfl)
theorem dX3_write_80 : decode cX3_write 80 = .ok (.aload_n 2, 1) := dk_44 (dk_at dksX3_write_3 9 rfl rfl)
theorem dX3_write_81 : decode cX3_write 81 = .ok (.invokeinterface 38 1, 5) := by decide +kernel
theorem dX3_write_86 : decode cX3_write 86 = .ok (.ifCond .eq 21, 3) := dk_153 0 21 (dk_at dksX3_write_3 15 rfl rfl)
theorem dX3_write_89 : decode cX3_write 89 = .ok (.aload_n 2, 1) := dk_44 (dk_at dksX3_write_3 18 rfl rfl)
theorem dX3_write_90 : decode cX3_write 90 = .ok (.invokeinterface 44 1, 5) := by decide +kernel
theorem dX3_write_95 : decode cX3_write 95 = .ok (.checkcast 13, 3) := dk_192 0 13 (dk_at dksX3_write_4 0 rfl rfl)
theorem dX3_write_98 : decode cX3_write 98 = .ok (.astore_n 3, 1) := dk_78 (dk_at dksX3_write_4 3 rfl rfl)
theorem dX3_write_99 : decode cX3_write 99 = .ok (.aload_n 3, 1) := dk_45 (dk_at dksX3_write_4 4 rfl rfl)
theorem dX3_write_100 : decode cX3_write 100 = .ok (.aload_n 1, 1) := dk_43 (dk_at dksX3_write_4 5 rfl rfl)
theorem dX3_write_101 : decode cX3_write 101 = .ok (.invokevirtual 98, 3) := dk_182 0 98 (dk_at dksX3_write_4 6 rfl rfl)
theorem dX3_write_104 : decode cX3_write 104 = .ok (.goto (-24), 3) := dk_167 255 232 (dk_at dksX3_write_4 9 rfl rfl)
theorem dX3_write_107 : decode cX3_write 107 = .ok (.aload_n 1, 1) := dk_43 (dk_at dksX3_write_4 12 rfl rfl)
theorem dX3_write_108 : decode cX3_write 108 = .ok (.bipush 41, 2) := dk_16 41 (dk_at dksX3_write_4 13 rfl rfl)
theorem dX3_write_110 : decode cX3_write 110 = .ok (.invokevirtual 86, 3) := dk_182 0 86 (dk_at dksX3_write_4 15 rfl rfl)
theorem dX3_write_113 : decode cX3_write 113 = .ok (.pop, 1) := dk_87 (dk_at dksX3_write_4 18 rfl rfl)
theorem dX3_write_114 : decode cX3_write 114 = .ok (.return_, 1) := dk_177 (dk_at dksX3_write_4 19 rfl rfl)
abbrev cX3_hash : ByteArray := prog_7_method_8_code
def yX3_hash : MethodName := ⟨RX3, "hash", "()I"⟩
def dkwX3_hash_3 : List UInt8 := [180, 0, 12, 185, 0, 48, 1, 0, 96, 172]
abbrev dktX3_hash_3 : List UInt8 := dkwX3_hash_3 ++ []
def dkwX3_hash_2 : List UInt8 := [192, 0, 13, 78, 16, 31, 27, 104, 45, 182, 0, 79, 96, 60, 167, 255, 227, 16, 31, 27, 104, 42]
abbrev dktX3_hash_2 : List UInt8 := dkwX3_hash_2 ++ dktX3_hash_3
def dkwX3_hash_1 : List UInt8 := [180, 0, 12, 185, 0, 32, 1, 0, 77, 44, 185, 0, 38, 1, 0, 153, 0, 26, 44, 185, 0, 44, 1, 0]
abbrev dktX3_hash_1 : List UInt8 := dkwX3_hash_1 ++ dktX3_hash_2
def dkwX3_hash_0 : List UInt8 := [16, 31, 16, 31, 42, 180, 0, 18, 104, 42, 180, 0, 25, 96, 104, 42, 180, 0, 29, 96, 60, 42]
abbrev dktX3_hash_0 : List UInt8 := dkwX3_hash_0 ++ dktX3_hash_1
theorem dksX3_hash_0 : cX3_hash.data.toList.drop 0 = dktX3_hash_0 := by decide +kernel
theorem dksX3_hash_1 : cX3_hash.data.toList.drop 22 = dktX3_hash_1 := dk_seg dksX3_hash_0 22 rfl rfl
theorem dksX3_hash_2 : cX3_hash.data.toList.drop 46 = dktX3_hash_2 := dk_seg dksX3_hash_1 24 rfl rfl
theorem dksX3_hash_3 : cX3_hash.data.toList.drop 68 = dktX3_hash_3 := dk_seg dksX3_hash_2 22 rfl rfl
theorem dX3_hash_0 : decode cX3_hash 0 = .ok (.bipush 31, 2) := dk_16 31 (dk_at dksX3_hash_0 0 rfl rfl)
theorem dX3_hash_2 : decode cX3_hash 2 = .ok (.bipush 31, 2) := dk_16 31 (dk_at dksX3_hash_0 2 rfl rfl)
theorem dX3_hash_4 : decode cX3_hash 4 = .ok (.aload_n 0, 1) := dk_42 (dk_at dksX3_hash_0 4 rfl rfl)
theorem dX3_hash_5 : decode cX3_hash 5 = .ok (.getfield 18, 3) := dk_180 0 18 (dk_at dksX3_hash_0 5 rfl rfl)
theorem dX3_hash_8 : decode cX3_hash 8 = .ok (.imul, 1) := dk_104 (dk_at dksX3_hash_0 8 rfl rfl)
theorem dX3_hash_9 : decode cX3_hash 9 = .ok (.aload_n 0, 1) := dk_42 (dk_at dksX3_hash_0 9 rfl rfl)
theorem dX3_hash_10 : decode cX3_hash 10 = .ok (.getfield 25, 3) := dk_180 0 25 (dk_at dksX3_hash_0 10 rfl rfl)
theorem dX3_hash_13 : decode cX3_hash 13 = .ok (.iadd, 1) := dk_96 (dk_at dksX3_hash_0 13 rfl rfl)
theorem dX3_hash_14 : decode cX3_hash 14 = .ok (.imul, 1) := dk_104 (dk_at dksX3_hash_0 14 rfl rfl)
theorem dX3_hash_15 : decode cX3_hash 15 = .ok (.aload_n 0, 1) := dk_42 (dk_at dksX3_hash_0 15 rfl rfl)
theorem dX3_hash_16 : decode cX3_hash 16 = .ok (.getfield 29, 3) := dk_180 0 29 (dk_at dksX3_hash_0 16 rfl rfl)
theorem dX3_hash_19 : decode cX3_hash 19 = .ok (.iadd, 1) := dk_96 (dk_at dksX3_hash_0 19 rfl rfl)
theorem dX3_hash_20 : decode cX3_hash 20 = .ok (.istore_n 1, 1) := dk_60 (dk_at dksX3_hash_0 20 rfl rfl)
theorem dX3_hash_21 : decode cX3_hash 21 = .ok (.aload_n 0, 1) := dk_42 (dk_at dksX3_hash_0 21 rfl rfl)
theorem dX3_hash_22 : decode cX3_hash 22 = .ok (.getfield 12, 3) := dk_180 0 12 (dk_at dksX3_hash_1 0 rfl rfl)
theorem dX3_hash_25 : decode cX3_hash 25 = .ok (.invokeinterface 32 1, 5) := by decide +kernel
theorem dX3_hash_30 : decode cX3_hash 30 = .ok (.astore_n 2, 1) := dk_77 (dk_at dksX3_hash_1 8 rfl rfl)
theorem dX3_hash_31 : decode cX3_hash 31 = .ok (.aload_n 2, 1) := dk_44 (dk_at dksX3_hash_1 9 rfl rfl)
theorem dX3_hash_32 : decode cX3_hash 32 = .ok (.invokeinterface 38 1, 5) := by decide +kernel
theorem dX3_hash_37 : decode cX3_hash 37 = .ok (.ifCond .eq 26, 3) := dk_153 0 26 (dk_at dksX3_hash_1 15 rfl rfl)
theorem dX3_hash_40 : decode cX3_hash 40 = .ok (.aload_n 2, 1) := dk_44 (dk_at dksX3_hash_1 18 rfl rfl)
theorem dX3_hash_41 : decode cX3_hash 41 = .ok (.invokeinterface 44 1, 5) := by decide +kernel
theorem dX3_hash_46 : decode cX3_hash 46 = .ok (.checkcast 13, 3) := dk_192 0 13 (dk_at dksX3_hash_2 0 rfl rfl)
theorem dX3_hash_49 : decode cX3_hash 49 = .ok (.astore_n 3, 1) := dk_78 (dk_at dksX3_hash_2 3 rfl rfl)
theorem dX3_hash_50 : decode cX3_hash 50 = .ok (.bipush 31, 2) := dk_16 31 (dk_at dksX3_hash_2 4 rfl rfl)
theorem dX3_hash_52 : decode cX3_hash 52 = .ok (.iload_n 1, 1) := dk_27 (dk_at dksX3_hash_2 6 rfl rfl)
theorem dX3_hash_53 : decode cX3_hash 53 = .ok (.imul, 1) := dk_104 (dk_at dksX3_hash_2 7 rfl rfl)
theorem dX3_hash_54 : decode cX3_hash 54 = .ok (.aload_n 3, 1) := dk_45 (dk_at dksX3_hash_2 8 rfl rfl)
theorem dX3_hash_55 : decode cX3_hash 55 = .ok (.invokevirtual 79, 3) := dk_182 0 79 (dk_at dksX3_hash_2 9 rfl rfl)
theorem dX3_hash_58 : decode cX3_hash 58 = .ok (.iadd, 1) := dk_96 (dk_at dksX3_hash_2 12 rfl rfl)
theorem dX3_hash_59 : decode cX3_hash 59 = .ok (.istore_n 1, 1) := dk_60 (dk_at dksX3_hash_2 13 rfl rfl)
theorem dX3_hash_60 : decode cX3_hash 60 = .ok (.goto (-29), 3) := dk_167 255 227 (dk_at dksX3_hash_2 14 rfl rfl)
theorem dX3_hash_63 : decode cX3_hash 63 = .ok (.bipush 31, 2) := dk_16 31 (dk_at dksX3_hash_2 17 rfl rfl)
theorem dX3_hash_65 : decode cX3_hash 65 = .ok (.iload_n 1, 1) := dk_27 (dk_at dksX3_hash_2 19 rfl rfl)
theorem dX3_hash_66 : decode cX3_hash 66 = .ok (.imul, 1) := dk_104 (dk_at dksX3_hash_2 20 rfl rfl)
theorem dX3_hash_67 : decode cX3_hash 67 = .ok (.aload_n 0, 1) := dk_42 (dk_at dksX3_hash_2 21 rfl rfl)
theorem dX3_hash_68 : decode cX3_hash 68 = .ok (.getfield 12, 3) := dk_180 0 12 (dk_at dksX3_hash_3 0 rfl rfl)
theorem dX3_hash_71 : decode cX3_hash 71 = .ok (.invokeinterface 48 1, 5) := by decide +kernel
theorem dX3_hash_76 : decode cX3_hash 76 = .ok (.iadd, 1) := dk_96 (dk_at dksX3_hash_3 8 rfl rfl)
theorem dX3_hash_77 : decode cX3_hash 77 = .ok (.ireturn, 1) := dk_172 (dk_at dksX3_hash_3 9 rfl rfl)
theorem q70 : (Jvm.Cond.initialized "TreeDiffer$Node") ∈ lw_all := lw_g (lw_at lw_m1 7 rfl) rfl
theorem q158 : (Jvm.Cond.instantiable "TreeDiffer$Node" (7 : Nat)) ∈ lw_all := lw_g (lw_at lw_m1 95 rfl) rfl
theorem q160 : (Jvm.Cond.instanceMethod ({ cls := "TreeDiffer$Node", name := "<init>", desc := "(C)V" } : Jvm.MethodName)) ∈ lw_all := lw_g (lw_at lw_m1 97 rfl) rfl
theorem q161 : (Jvm.Cond.code ({ cls := "TreeDiffer$Node", name := "<init>", desc := "(C)V" } : Jvm.MethodName) prog_7_method_1_code (2 : Nat) (Option.none : Option Jvm.ClassFile.FieldType)) ∈ lw_all := lw_g (lw_at lw_m1 98 rfl) rfl
theorem q162 : (Jvm.Cond.methodLink "TreeDiffer$Node" (3 : Nat) ({ cls := "java/lang/Object", name := "<init>", desc := "()V" } : Jvm.MethodName)) ∈ lw_all := lw_g (lw_at lw_m1 99 rfl) rfl
theorem q163 : (Jvm.Cond.classLink "TreeDiffer$Node" (9 : Nat) "java/util/ArrayList") ∈ lw_all := lw_g (lw_at lw_m1 100 rfl) rfl
theorem q165 : (Jvm.Cond.methodLink "TreeDiffer$Node" (11 : Nat) ({ cls := "java/util/ArrayList", name := "<init>", desc := "()V" } : Jvm.MethodName)) ∈ lw_all := lw_g (lw_at lw_m1 102 rfl) rfl
theorem q192 : (Jvm.Cond.fieldLink "TreeDiffer$Node" (18 : Nat) "TreeDiffer$Node" "label" "C") ∈ lw_all := lw_g (lw_at lw_m1 129 rfl) rfl
theorem q196 : (Jvm.Cond.fieldLink "TreeDiffer$Node" (25 : Nat) "TreeDiffer$Node" "key" "I") ∈ lw_all := lw_g (lw_at lw_m1 133 rfl) rfl
theorem q201 : (Jvm.Cond.fieldLink "TreeDiffer$Node" (29 : Nat) "TreeDiffer$Node" "value" "I") ∈ lw_all := lw_g (lw_at lw_m1 138 rfl) rfl
theorem q206 : (Jvm.Cond.fieldLink "TreeDiffer$Node" (63 : Nat) "TreeDiffer$Node" "parent" "LTreeDiffer$Node;") ∈ lw_all := lw_g (lw_at lw_m1 143 rfl) rfl
theorem q209 : (Jvm.Cond.fieldLink "TreeDiffer$Node" (12 : Nat) "TreeDiffer$Node" "children" "Ljava/util/List;") ∈ lw_all := lw_g (lw_at lw_m1 146 rfl) rfl
theorem q220 : (Jvm.Cond.lays "TreeDiffer$Node" "TreeDiffer$Node" "label" "C") ∈ lw_all := lw_g (lw_at lw_m1 157 rfl) rfl
theorem q221 : (Jvm.Cond.soleField "TreeDiffer$Node" "label") ∈ lw_all := lw_g (lw_at lw_m1 158 rfl) rfl
theorem q222 : (Jvm.Cond.lays "TreeDiffer$Node" "TreeDiffer$Node" "key" "I") ∈ lw_all := lw_g (lw_at lw_m1 159 rfl) rfl
theorem q223 : (Jvm.Cond.soleField "TreeDiffer$Node" "key") ∈ lw_all := lw_g (lw_at lw_m1 160 rfl) rfl
theorem q224 : (Jvm.Cond.lays "TreeDiffer$Node" "TreeDiffer$Node" "value" "I") ∈ lw_all := lw_g (lw_at lw_m1 161 rfl) rfl
theorem q225 : (Jvm.Cond.soleField "TreeDiffer$Node" "value") ∈ lw_all := lw_g (lw_at lw_m1 162 rfl) rfl
theorem q226 : (Jvm.Cond.lays "TreeDiffer$Node" "TreeDiffer$Node" "parent" "LTreeDiffer$Node;") ∈ lw_all := lw_g (lw_at lw_m1 163 rfl) rfl
theorem q227 : (Jvm.Cond.soleField "TreeDiffer$Node" "parent") ∈ lw_all := lw_g (lw_at lw_m1 164 rfl) rfl
theorem q228 : (Jvm.Cond.laysFinal "TreeDiffer$Node" "TreeDiffer$Node" "children" "Ljava/util/List;") ∈ lw_all := lw_g (lw_at lw_m1 165 rfl) rfl
theorem q229 : (Jvm.Cond.soleField "TreeDiffer$Node" "children") ∈ lw_all := lw_g (lw_at lw_m1 166 rfl) rfl
theorem q230 : (Jvm.Cond.lays "TreeDiffer$Node" "TreeDiffer$Node" "partner" "LTreeDiffer$Node;") ∈ lw_all := lw_g (lw_at lw_m1 167 rfl) rfl
theorem q231 : (Jvm.Cond.soleField "TreeDiffer$Node" "partner") ∈ lw_all := lw_g (lw_at lw_m1 168 rfl) rfl
theorem q232 : (Jvm.Cond.lays "TreeDiffer$Node" "TreeDiffer$Node" "image" "LTreeDiffer$Node;") ∈ lw_all := lw_g (lw_at lw_m1 169 rfl) rfl
theorem q233 : (Jvm.Cond.soleField "TreeDiffer$Node" "image") ∈ lw_all := lw_g (lw_at lw_m1 170 rfl) rfl
theorem q234 : (Jvm.Cond.superclass "TreeDiffer$Node" "java/lang/Object") ∈ lw_all := lw_g (lw_at lw_m1 171 rfl) rfl
theorem q287 : (Jvm.Cond.instanceMethod ({ cls := "TreeDiffer$Node", name := "size", desc := "()I" } : Jvm.MethodName)) ∈ lw_all := lw_g (lw_at lw_m1 224 rfl) rfl
theorem q288 : (Jvm.Cond.selects "TreeDiffer$Node" ({ cls := "TreeDiffer$Node", name := "size", desc := "()I" } : Jvm.MethodName) ({ cls := "TreeDiffer$Node", name := "size", desc := "()I" } : Jvm.MethodName)) ∈ lw_all := lw_g (lw_at lw_m1 225 rfl) rfl
theorem q289 : (Jvm.Cond.code ({ cls := "TreeDiffer$Node", name := "size", desc := "()I" } : Jvm.MethodName) prog_7_method_7_code (4 : Nat) (Option.some Jvm.ClassFile.FieldType.int)) ∈ lw_all := lw_g (lw_at lw_m1 226 rfl) rfl
theorem q290 : (Jvm.Cond.interfaceEntry "TreeDiffer$Node" (32 : Nat)) ∈ lw_tbl := lw_at lw_m1 227 rfl
theorem q291 : (Jvm.Cond.methodLink "TreeDiffer$Node" (32 : Nat) ({ cls := "java/util/List", name := "iterator", desc := "()Ljava/util/Iterator;" } : Jvm.MethodName)) ∈ lw_all := lw_g (lw_at lw_m1 228 rfl) rfl
theorem q318 : (Jvm.Cond.interfaceEntry "TreeDiffer$Node" (38 : Nat)) ∈ lw_tbl := lw_at lw_m2 15 rfl
theorem q319 : (Jvm.Cond.methodLink "TreeDiffer$Node" (38 : Nat) ({ cls := "java/util/Iterator", name := "hasNext", desc := "()Z" } : Jvm.MethodName)) ∈ lw_all := lw_g (lw_at lw_m2 16 rfl) rfl
theorem q338 : (Jvm.Cond.interfaceEntry "TreeDiffer$Node" (44 : Nat)) ∈ lw_tbl := lw_at lw_m2 35 rfl
theorem q339 : (Jvm.Cond.methodLink "TreeDiffer$Node" (44 : Nat) ({ cls := "java/util/Iterator", name := "next", desc := "()Ljava/lang/Object;" } : Jvm.MethodName)) ∈ lw_all := lw_g (lw_at lw_m2 36 rfl) rfl
theorem q525 : (Jvm.Cond.selects "TreeDiffer$Node" ({ cls := "java/lang/Object", name := "getClass", desc := "()Ljava/lang/Class;" } : Jvm.MethodName) ({ cls := "java/lang/Object", name := "getClass", desc := "()Ljava/lang/Class;" } : Jvm.MethodName)) ∈ lw_all := lw_g (lw_at lw_m2 222 rfl) rfl
theorem q577 : (Jvm.Cond.classLink "TreeDiffer$Node" (13 : Nat) "TreeDiffer$Node") ∈ lw_all := lw_g (lw_at lw_m3 34 rfl) rfl
theorem q578 : (Jvm.Cond.methodLink "TreeDiffer$Node" (78 : Nat) ({ cls := "TreeDiffer$Node", name := "size", desc := "()I" } : Jvm.MethodName)) ∈ lw_all := lw_g (lw_at lw_m3 35 rfl) rfl
theorem q633 : (Jvm.Cond.instanceMethod ({ cls := "TreeDiffer$Node", name := "isLike", desc := "(LTreeDiffer$Node;Z)Z" } : Jvm.MethodName)) ∈ lw_all := lw_g (lw_at lw_m3 90 rfl) rfl
theorem q634 : (Jvm.Cond.selects "TreeDiffer$Node" ({ cls := "TreeDiffer$Node", name := "isLike", desc := "(LTreeDiffer$Node;Z)Z" } : Jvm.MethodName) ({ cls := "TreeDiffer$Node", name := "isLike", desc := "(LTreeDiffer$Node;Z)Z" } : Jvm.MethodName)) ∈ lw_all := lw_g (lw_at lw_m3 91 rfl) rfl
theorem q635 : (Jvm.Cond.code ({ cls := "TreeDiffer$Node", name := "isLike", desc := "(LTreeDiffer$Node;Z)Z" } : Jvm.MethodName) prog_7_method_9_code (4 : Nat) (Option.some Jvm.ClassFile.FieldType.boolean)) ∈ lw_all := lw_g (lw_at lw_m3 92 rfl) rfl
theorem q636 : (Jvm.Cond.interfaceEntry "TreeDiffer$Node" (48 : Nat)) ∈ lw_tbl := lw_at lw_m3 93 rfl
theorem q637 : (Jvm.Cond.methodLink "TreeDiffer$Node" (48 : Nat) ({ cls := "java/util/List", name := "size", desc := "()I" } : Jvm.MethodName)) ∈ lw_all := lw_g (lw_at lw_m3 94 rfl) rfl
theorem q638 : (Jvm.Cond.interfaceEntry "TreeDiffer$Node" (75 : Nat)) ∈ lw_tbl := lw_at lw_m3 95 rfl
theorem q639 : (Jvm.Cond.methodLink "TreeDiffer$Node" (75 : Nat) ({ cls := "java/util/List", name := "get", desc := "(I)Ljava/lang/Object;" } : Jvm.MethodName)) ∈ lw_all := lw_g (lw_at lw_m3 96 rfl) rfl
theorem q640 : (Jvm.Cond.methodLink "TreeDiffer$Node" (82 : Nat) ({ cls := "TreeDiffer$Node", name := "isLike", desc := "(LTreeDiffer$Node;Z)Z" } : Jvm.MethodName)) ∈ lw_all := lw_g (lw_at lw_m3 97 rfl) rfl
theorem q663 : (Jvm.Cond.instanceMethod ({ cls := "TreeDiffer$Node", name := "copy", desc := "()LTreeDiffer$Node;" } : Jvm.MethodName)) ∈ lw_all := lw_g (lw_at lw_m3 120 rfl) rfl
theorem q664 : (Jvm.Cond.selects "TreeDiffer$Node" ({ cls := "TreeDiffer$Node", name := "copy", desc := "()LTreeDiffer$Node;" } : Jvm.MethodName) ({ cls := "TreeDiffer$Node", name := "copy", desc := "()LTreeDiffer$Node;" } : Jvm.MethodName)) ∈ lw_all := lw_g (lw_at lw_m3 121 rfl) rfl
theorem q665 : (Jvm.Cond.code ({ cls := "TreeDiffer$Node", name := "copy", desc := "()LTreeDiffer$Node;" } : Jvm.MethodName) prog_7_method_2_code (4 : Nat) (Option.some (Jvm.ClassFile.FieldType.object "TreeDiffer$Node"))) ∈ lw_all := lw_g (lw_at lw_m3 122 rfl) rfl
theorem q666 : (Jvm.Cond.methodLink "TreeDiffer$Node" (22 : Nat) ({ cls := "TreeDiffer$Node", name := "<init>", desc := "(C)V" } : Jvm.MethodName)) ∈ lw_all := lw_g (lw_at lw_m3 123 rfl) rfl
theorem q667 : (Jvm.Cond.methodLink "TreeDiffer$Node" (52 : Nat) ({ cls := "TreeDiffer$Node", name := "copy", desc := "()LTreeDiffer$Node;" } : Jvm.MethodName)) ∈ lw_all := lw_g (lw_at lw_m3 124 rfl) rfl
theorem q668 : (Jvm.Cond.methodLink "TreeDiffer$Node" (56 : Nat) ({ cls := "TreeDiffer$Node", name := "add", desc := "(ILTreeDiffer$Node;)V" } : Jvm.MethodName)) ∈ lw_all := lw_g (lw_at lw_m3 125 rfl) rfl
theorem q669 : (Jvm.Cond.instanceMethod ({ cls := "TreeDiffer$Node", name := "add", desc := "(ILTreeDiffer$Node;)V" } : Jvm.MethodName)) ∈ lw_all := lw_g (lw_at lw_m3 126 rfl) rfl
theorem q670 : (Jvm.Cond.selects "TreeDiffer$Node" ({ cls := "TreeDiffer$Node", name := "add", desc := "(ILTreeDiffer$Node;)V" } : Jvm.MethodName) ({ cls := "TreeDiffer$Node", name := "add", desc := "(ILTreeDiffer$Node;)V" } : Jvm.MethodName)) ∈ lw_all := lw_g (lw_at lw_m3 127 rfl) rfl
theorem q671 : (Jvm.Cond.code ({ cls := "TreeDiffer$Node", name := "add", desc := "(ILTreeDiffer$Node;)V" } : Jvm.MethodName) prog_7_method_3_code (3 : Nat) (Option.none : Option Jvm.ClassFile.FieldType)) ∈ lw_all := lw_g (lw_at lw_m3 128 rfl) rfl
theorem q672 : (Jvm.Cond.interfaceEntry "TreeDiffer$Node" (60 : Nat)) ∈ lw_tbl := lw_at lw_m3 129 rfl
theorem q673 : (Jvm.Cond.methodLink "TreeDiffer$Node" (60 : Nat) ({ cls := "java/util/List", name := "add", desc := "(ILjava/lang/Object;)V" } : Jvm.MethodName)) ∈ lw_all := lw_g (lw_at lw_m3 130 rfl) rfl
theorem q1130 : (Jvm.Cond.instanceMethod ({ cls := "TreeDiffer$Node", name := "detach", desc := "()V" } : Jvm.MethodName)) ∈ lw_all := lw_g (lw_at lw_m5 107 rfl) rfl
theorem q1131 : (Jvm.Cond.selects "TreeDiffer$Node" ({ cls := "TreeDiffer$Node", name := "detach", desc := "()V" } : Jvm.MethodName) ({ cls := "TreeDiffer$Node", name := "detach", desc := "()V" } : Jvm.MethodName)) ∈ lw_all := lw_g (lw_at lw_m5 108 rfl) rfl
theorem q1132 : (Jvm.Cond.code ({ cls := "TreeDiffer$Node", name := "detach", desc := "()V" } : Jvm.MethodName) prog_7_method_4_code (2 : Nat) (Option.none : Option Jvm.ClassFile.FieldType)) ∈ lw_all := lw_g (lw_at lw_m5 109 rfl) rfl
theorem q1133 : (Jvm.Cond.methodLink "TreeDiffer$Node" (67 : Nat) ({ cls := "TreeDiffer$Node", name := "place", desc := "(LTreeDiffer$Node;)I" } : Jvm.MethodName)) ∈ lw_all := lw_g (lw_at lw_m5 110 rfl) rfl
theorem q1134 : (Jvm.Cond.instanceMethod ({ cls := "TreeDiffer$Node", name := "place", desc := "(LTreeDiffer$Node;)I" } : Jvm.MethodName)) ∈ lw_all := lw_g (lw_at lw_m5 111 rfl) rfl
theorem q1135 : (Jvm.Cond.selects "TreeDiffer$Node" ({ cls := "TreeDiffer$Node", name := "place", desc := "(LTreeDiffer$Node;)I" } : Jvm.MethodName) ({ cls := "TreeDiffer$Node", name := "place", desc := "(LTreeDiffer$Node;)I" } : Jvm.MethodName)) ∈ lw_all := lw_g (lw_at lw_m5 112 rfl) rfl
theorem q1136 : (Jvm.Cond.code ({ cls := "TreeDiffer$Node", name := "place", desc := "(LTreeDiffer$Node;)I" } : Jvm.MethodName) prog_7_method_5_code (3 : Nat) (Option.some Jvm.ClassFile.FieldType.int)) ∈ lw_all := lw_g (lw_at lw_m5 113 rfl) rfl
theorem q1137 : (Jvm.Cond.interfaceEntry "TreeDiffer$Node" (71 : Nat)) ∈ lw_tbl := lw_at lw_m5 114 rfl
theorem q1138 : (Jvm.Cond.methodLink "TreeDiffer$Node" (71 : Nat) ({ cls := "java/util/List", name := "remove", desc := "(I)Ljava/lang/Object;" } : Jvm.MethodName)) ∈ lw_all := lw_g (lw_at lw_m5 115 rfl) rfl
theorem q1172 : (Jvm.Cond.instanceMethod ({ cls := "TreeDiffer$Node", name := "hasChildWithKey", desc := "(I)Z" } : Jvm.MethodName)) ∈ lw_all := lw_g (lw_at lw_m5 149 rfl) rfl
theorem q1173 : (Jvm.Cond.selects "TreeDiffer$Node" ({ cls := "TreeDiffer$Node", name := "hasChildWithKey", desc := "(I)Z" } : Jvm.MethodName) ({ cls := "TreeDiffer$Node", name := "hasChildWithKey", desc := "(I)Z" } : Jvm.MethodName)) ∈ lw_all := lw_g (lw_at lw_m5 150 rfl) rfl
theorem q1174 : (Jvm.Cond.code ({ cls := "TreeDiffer$Node", name := "hasChildWithKey", desc := "(I)Z" } : Jvm.MethodName) prog_7_method_6_code (4 : Nat) (Option.some Jvm.ClassFile.FieldType.boolean)) ∈ lw_all := lw_g (lw_at lw_m5 151 rfl) rfl
theorem q1295 : (Jvm.Cond.selects "TreeDiffer$Node" ({ cls := "java/lang/Object", name := "toString", desc := "()Ljava/lang/String;" } : Jvm.MethodName) ({ cls := "java/lang/Object", name := "toString", desc := "()Ljava/lang/String;" } : Jvm.MethodName)) ∈ lw_all := lw_g (lw_at lw_m6 32 rfl) rfl
theorem q1586 : (Jvm.Cond.instanceMethod ({ cls := "TreeDiffer$Node", name := "write", desc := "(Ljava/lang/StringBuilder;)V" } : Jvm.MethodName)) ∈ lw_all := lw_g (lw_at lw_m7 83 rfl) rfl
theorem q1587 : (Jvm.Cond.selects "TreeDiffer$Node" ({ cls := "TreeDiffer$Node", name := "write", desc := "(Ljava/lang/StringBuilder;)V" } : Jvm.MethodName) ({ cls := "TreeDiffer$Node", name := "write", desc := "(Ljava/lang/StringBuilder;)V" } : Jvm.MethodName)) ∈ lw_all := lw_g (lw_at lw_m7 84 rfl) rfl
theorem q1588 : (Jvm.Cond.code ({ cls := "TreeDiffer$Node", name := "write", desc := "(Ljava/lang/StringBuilder;)V" } : Jvm.MethodName) prog_7_method_10_code (4 : Nat) (Option.none : Option Jvm.ClassFile.FieldType)) ∈ lw_all := lw_g (lw_at lw_m7 85 rfl) rfl
theorem q1589 : (Jvm.Cond.methodLink "TreeDiffer$Node" (86 : Nat) ({ cls := "java/lang/StringBuilder", name := "append", desc := "(C)Ljava/lang/StringBuilder;" } : Jvm.MethodName)) ∈ lw_all := lw_g (lw_at lw_m7 86 rfl) rfl
theorem q1590 : (Jvm.Cond.methodLink "TreeDiffer$Node" (92 : Nat) ({ cls := "java/lang/StringBuilder", name := "append", desc := "(I)Ljava/lang/StringBuilder;" } : Jvm.MethodName)) ∈ lw_all := lw_g (lw_at lw_m7 87 rfl) rfl
theorem q1591 : (Jvm.Cond.interfaceEntry "TreeDiffer$Node" (95 : Nat)) ∈ lw_tbl := lw_at lw_m7 88 rfl
theorem q1592 : (Jvm.Cond.methodLink "TreeDiffer$Node" (95 : Nat) ({ cls := "java/util/List", name := "isEmpty", desc := "()Z" } : Jvm.MethodName)) ∈ lw_all := lw_g (lw_at lw_m7 89 rfl) rfl
theorem q1593 : (Jvm.Cond.methodLink "TreeDiffer$Node" (98 : Nat) ({ cls := "TreeDiffer$Node", name := "write", desc := "(Ljava/lang/StringBuilder;)V" } : Jvm.MethodName)) ∈ lw_all := lw_g (lw_at lw_m7 90 rfl) rfl
theorem q1773 : (Jvm.Cond.instanceMethod ({ cls := "TreeDiffer$Node", name := "hash", desc := "()I" } : Jvm.MethodName)) ∈ lw_all := lw_g (lw_at lw_m8 30 rfl) rfl
theorem q1774 : (Jvm.Cond.selects "TreeDiffer$Node" ({ cls := "TreeDiffer$Node", name := "hash", desc := "()I" } : Jvm.MethodName) ({ cls := "TreeDiffer$Node", name := "hash", desc := "()I" } : Jvm.MethodName)) ∈ lw_all := lw_g (lw_at lw_m8 31 rfl) rfl
theorem q1775 : (Jvm.Cond.code ({ cls := "TreeDiffer$Node", name := "hash", desc := "()I" } : Jvm.MethodName) prog_7_method_8_code (4 : Nat) (Option.some Jvm.ClassFile.FieldType.int)) ∈ lw_all := lw_g (lw_at lw_m8 32 rfl) rfl
theorem q1776 : (Jvm.Cond.methodLink "TreeDiffer$Node" (79 : Nat) ({ cls := "TreeDiffer$Node", name := "hash", desc := "()I" } : Jvm.MethodName)) ∈ lw_all := lw_g (lw_at lw_m8 33 rfl) rfl
theorem q2559 : (Jvm.Cond.castable "TreeDiffer$Node" "java/lang/Object") ∈ lw_tbl := lw_at lw_m11 96 rfl
theorem in_X3 : ∀ w ∈ wsX30, w ∈ lw_all := lw_in wsX30 [220, 222, 224, 226, 228, 230, 232] (by decide +kernel) (by decide +kernel)

/-! TreeDiffer$Reader -/
set_option maxRecDepth 100000
def RX6 : String := "TreeDiffer$Reader"
def TX6 : u_T := fun k => match k with
  | 0 => ("TreeDiffer$Reader", "place", "I", false)
  | 1 => ("TreeDiffer$Reader", "count", "I", false)
  | _ => ("TreeDiffer$Reader", "this$0", "LTreeDiffer;", true)
def tyX6 : Nat → FieldType := fun k => match k with
  | 0 => .int
  | 1 => .int
  | _ => .object "TreeDiffer"
abbrev wsX60 : List Cond := u_ws RX6 TX6 3
theorem nmX6 : ∀ a, a < 3 → ∀ b, b < 3 → a ≠ b → (TX6 a).2.1 ≠ (TX6 b).2.1 := by decide +kernel
theorem tyX6_ok : ∀ k, k < 3 → parseFieldDescriptor (TX6 k).2.2.1 = some (tyX6 k) := by decide +kernel
abbrev cX6_init : ByteArray := prog_11_method_1_code
def yX6_init : MethodName := ⟨RX6, "<init>", "(LTreeDiffer;)V"⟩
def dkwX6_init_0 : List UInt8 := [42, 43, 181, 0, 3, 42, 183, 0, 9, 177]
abbrev dktX6_init_0 : List UInt8 := dkwX6_init_0 ++ []
theorem dksX6_init_0 : cX6_init.data.toList.drop 0 = dktX6_init_0 := by decide +kernel
theorem dX6_init_0 : decode cX6_init 0 = .ok (.aload_n 0, 1) := dk_42 (dk_at dksX6_init_0 0 rfl rfl)
theorem dX6_init_1 : decode cX6_init 1 = .ok (.aload_n 1, 1) := dk_43 (dk_at dksX6_init_0 1 rfl rfl)
theorem dX6_init_2 : decode cX6_init 2 = .ok (.putfield 3, 3) := dk_181 0 3 (dk_at dksX6_init_0 2 rfl rfl)
theorem dX6_init_5 : decode cX6_init 5 = .ok (.aload_n 0, 1) := dk_42 (dk_at dksX6_init_0 5 rfl rfl)
theorem dX6_init_6 : decode cX6_init 6 = .ok (.invokespecial 9, 3) := dk_183 0 9 (dk_at dksX6_init_0 6 rfl rfl)
theorem dX6_init_9 : decode cX6_init 9 = .ok (.return_, 1) := dk_177 (dk_at dksX6_init_0 9 rfl rfl)
abbrev cX6_read : ByteArray := prog_11_method_6_code
def yX6_read : MethodName := ⟨RX6, "read", "()LTreeDiffer$Tree;"⟩
def dkwX6_read_1 : List UInt8 := [187, 0, 37, 89, 42, 180, 0, 15, 183, 0, 39, 191, 187, 0, 88, 89, 43, 183, 0, 90, 176]
abbrev dktX6_read_1 : List UInt8 := dkwX6_read_1 ++ []
def dkwX6_read_0 : List UInt8 := [42, 1, 182, 0, 84, 76, 42, 180, 0, 15, 42, 180, 0, 3, 180, 0, 19, 182, 0, 23, 162, 0, 15]
abbrev dktX6_read_0 : List UInt8 := dkwX6_read_0 ++ dktX6_read_1
theorem dksX6_read_0 : cX6_read.data.toList.drop 0 = dktX6_read_0 := by decide +kernel
theorem dksX6_read_1 : cX6_read.data.toList.drop 23 = dktX6_read_1 := dk_seg dksX6_read_0 23 rfl rfl
theorem dX6_read_0 : decode cX6_read 0 = .ok (.aload_n 0, 1) := dk_42 (dk_at dksX6_read_0 0 rfl rfl)
theorem dX6_read_1 : decode cX6_read 1 = .ok (.aconst_null, 1) := dk_1 (dk_at dksX6_read_0 1 rfl rfl)
theorem dX6_read_2 : decode cX6_read 2 = .ok (.invokevirtual 84, 3) := dk_182 0 84 (dk_at dksX6_read_0 2 rfl rfl)
theorem dX6_read_5 : decode cX6_read 5 = .ok (.astore_n 1, 1) := dk_76 (dk_at dksX6_read_0 5 rfl rfl)
theorem dX6_read_6 : decode cX6_read 6 = .ok (.aload_n 0, 1) := dk_42 (dk_at dksX6_read_0 6 rfl rfl)
theorem dX6_read_7 : decode cX6_read 7 = .ok (.getfield 15, 3) := dk_180 0 15 (dk_at dksX6_read_0 7 rfl rfl)
theorem dX6_read_10 : decode cX6_read 10 = .ok (.aload_n 0, 1) := dk_42 (dk_at dksX6_read_0 10 rfl rfl)
theorem dX6_read_11 : decode cX6_read 11 = .ok (.getfield 3, 3) := dk_180 0 3 (dk_at dksX6_read_0 11 rfl rfl)
theorem dX6_read_14 : decode cX6_read 14 = .ok (.getfield 19, 3) := dk_180 0 19 (dk_at dksX6_read_0 14 rfl rfl)
theorem dX6_read_17 : decode cX6_read 17 = .ok (.invokevirtual 23, 3) := dk_182 0 23 (dk_at dksX6_read_0 17 rfl rfl)
theorem dX6_read_20 : decode cX6_read 20 = .ok (.if_icmp .ge 15, 3) := dk_162 0 15 (dk_at dksX6_read_0 20 rfl rfl)
theorem dX6_read_23 : decode cX6_read 23 = .ok (.new 37, 3) := dk_187 0 37 (dk_at dksX6_read_1 0 rfl rfl)
theorem dX6_read_26 : decode cX6_read 26 = .ok (.dup, 1) := dk_89 (dk_at dksX6_read_1 3 rfl rfl)
theorem dX6_read_27 : decode cX6_read 27 = .ok (.aload_n 0, 1) := dk_42 (dk_at dksX6_read_1 4 rfl rfl)
theorem dX6_read_28 : decode cX6_read 28 = .ok (.getfield 15, 3) := dk_180 0 15 (dk_at dksX6_read_1 5 rfl rfl)
theorem dX6_read_31 : decode cX6_read 31 = .ok (.invokespecial 39, 3) := dk_183 0 39 (dk_at dksX6_read_1 8 rfl rfl)
theorem dX6_read_34 : decode cX6_read 34 = .ok (.athrow, 1) := dk_191 (dk_at dksX6_read_1 11 rfl rfl)
theorem dX6_read_35 : decode cX6_read 35 = .ok (.new 88, 3) := dk_187 0 88 (dk_at dksX6_read_1 12 rfl rfl)
theorem dX6_read_38 : decode cX6_read 38 = .ok (.dup, 1) := dk_89 (dk_at dksX6_read_1 15 rfl rfl)
theorem dX6_read_39 : decode cX6_read 39 = .ok (.aload_n 1, 1) := dk_43 (dk_at dksX6_read_1 16 rfl rfl)
theorem dX6_read_40 : decode cX6_read 40 = .ok (.invokespecial 90, 3) := dk_183 0 90 (dk_at dksX6_read_1 17 rfl rfl)
theorem dX6_read_43 : decode cX6_read 43 = .ok (.areturn, 1) := dk_176 (dk_at dksX6_read_1 20 rfl rfl)
abbrev cX6_readNode : ByteArray := prog_11_method_5_code
def yX6_readNode : MethodName := ⟨RX6, "readNode", "(LTreeDiffer$Node;)LTreeDiffer$Node;"⟩
def dkwX6_readNode_9 : List UInt8 := [176]
abbrev dktX6_readNode_9 : List UInt8 := dkwX6_readNode_9 ++ []
def dkwX6_readNode_8 : List UInt8 := [16, 40, 182, 0, 58, 153, 0, 18, 42, 44, 182, 0, 84, 78, 42, 16, 41, 182, 0, 58, 153, 255, 244, 44]
abbrev dktX6_readNode_8 : List UInt8 := dkwX6_readNode_8 ++ dktX6_readNode_9
def dkwX6_readNode_7 : List UInt8 := [16, 10, 44, 180, 0, 81, 104, 42, 16, 48, 16, 57, 182, 0, 51, 96, 16, 48, 100, 181, 0, 81, 42]
abbrev dktX6_readNode_7 : List UInt8 := dkwX6_readNode_7 ++ dktX6_readNode_8
def dkwX6_readNode_6 : List UInt8 := [100, 181, 0, 81, 42, 182, 0, 33, 16, 48, 161, 0, 35, 42, 182, 0, 33, 16, 57, 163, 0, 26, 44]
abbrev dktX6_readNode_6 : List UInt8 := dkwX6_readNode_6 ++ dktX6_readNode_7
def dkwX6_readNode_5 : List UInt8 := [44, 182, 0, 77, 42, 16, 61, 182, 0, 58, 153, 0, 59, 44, 42, 16, 48, 16, 57, 182, 0, 51, 16, 48]
abbrev dktX6_readNode_5 : List UInt8 := dkwX6_readNode_5 ++ dktX6_readNode_6
def dkwX6_readNode_4 : List UInt8 := [180, 0, 15, 4, 100, 183, 0, 39, 191, 44, 29, 181, 0, 65, 43, 43, 180, 0, 68, 185, 0, 72, 1, 0]
abbrev dktX6_readNode_4 : List UInt8 := dkwX6_readNode_4 ++ dktX6_readNode_5
def dkwX6_readNode_3 : List UInt8 := [16, 49, 16, 57, 182, 0, 51, 16, 48, 100, 62, 43, 29, 182, 0, 61, 153, 0, 17, 187, 0, 37, 89, 42]
abbrev dktX6_readNode_3 : List UInt8 := dkwX6_readNode_3 ++ dktX6_readNode_4
def dkwX6_readNode_2 : List UInt8 := [89, 180, 0, 42, 4, 96, 181, 0, 42, 43, 198, 0, 65, 42, 16, 35, 182, 0, 58, 153, 0, 42, 42]
abbrev dktX6_readNode_2 : List UInt8 := dkwX6_readNode_2 ++ dktX6_readNode_3
def dkwX6_readNode_1 : List UInt8 := [180, 0, 15, 183, 0, 39, 191, 187, 0, 49, 89, 42, 16, 97, 16, 122, 182, 0, 51, 183, 0, 55, 77, 42]
abbrev dktX6_readNode_1 : List UInt8 := dkwX6_readNode_1 ++ dktX6_readNode_2
def dkwX6_readNode_0 : List UInt8 := [42, 180, 0, 42, 16, 20, 160, 0, 25, 42, 182, 0, 33, 184, 0, 45, 153, 0, 15, 187, 0, 37, 89, 42]
abbrev dktX6_readNode_0 : List UInt8 := dkwX6_readNode_0 ++ dktX6_readNode_1
theorem dksX6_readNode_0 : cX6_readNode.data.toList.drop 0 = dktX6_readNode_0 := by decide +kernel
theorem dksX6_readNode_1 : cX6_readNode.data.toList.drop 24 = dktX6_readNode_1 := dk_seg dksX6_readNode_0 24 rfl rfl
theorem dksX6_readNode_2 : cX6_readNode.data.toList.drop 48 = dktX6_readNode_2 := dk_seg dksX6_readNode_1 24 rfl rfl
theorem dksX6_readNode_3 : cX6_readNode.data.toList.drop 71 = dktX6_readNode_3 := dk_seg dksX6_readNode_2 23 rfl rfl
theorem dksX6_readNode_4 : cX6_readNode.data.toList.drop 95 = dktX6_readNode_4 := dk_seg dksX6_readNode_3 24 rfl rfl
theorem dksX6_readNode_5 : cX6_readNode.data.toList.drop 119 = dktX6_readNode_5 := dk_seg dksX6_readNode_4 24 rfl rfl
theorem dksX6_readNode_6 : cX6_readNode.data.toList.drop 143 = dktX6_readNode_6 := dk_seg dksX6_readNode_5 24 rfl rfl
theorem dksX6_readNode_7 : cX6_readNode.data.toList.drop 166 = dktX6_readNode_7 := dk_seg dksX6_readNode_6 23 rfl rfl
theorem dksX6_readNode_8 : cX6_readNode.data.toList.drop 189 = dktX6_readNode_8 := dk_seg dksX6_readNode_7 23 rfl rfl
theorem dksX6_readNode_9 : cX6_readNode.data.toList.drop 213 = dktX6_readNode_9 := dk_seg dksX6_readNode_8 24 rfl rfl
theorem dX6_readNode_0 : decode cX6_readNode 0 = .ok (.aload_n 0, 1) := dk_42 (dk_at dksX6_readNode_0 0 rfl rfl)
theorem dX6_readNode_1 : decode cX6_readNode 1 = .ok (.getfield 42, 3) := dk_180 0 42 (dk_at dksX6_readNode_0 1 rfl rfl)
theorem dX6_readNode_4 : decode cX6_readNode 4 = .ok (.bipush 20, 2) := dk_16 20 (dk_at dksX6_readNode_0 4 rfl rfl)
theorem dX6_readNode_6 : decode cX6_readNode 6 = .ok (.if_icmp .ne 25, 3) := dk_160 0 25 (dk_at dksX6_readNode_0 6 rfl rfl)
theorem dX6_readNode_9 : decode cX6_readNode 9 = .ok (.aload_n 0, 1) := dk_42 (dk_at dksX6_readNode_0 9 rfl rfl)
theorem dX6_readNode_10 : decode cX6_readNode 10 = .ok (.invokevirtual 33, 3) := dk_182 0 33 (dk_at dksX6_readNode_0 10 rfl rfl)
theorem dX6_readNode_13 : decode cX6_readNode 13 = .ok (.invokestatic 45, 3) := dk_184 0 45 (dk_at dksX6_readNode_0 13 rfl rfl)
theorem dX6_readNode_16 : decode cX6_readNode 16 = .ok (.ifCond .eq 15, 3) := dk_153 0 15 (dk_at dksX6_readNode_0 16 rfl rfl)
theorem dX6_readNode_19 : decode cX6_readNode 19 = .ok (.new 37, 3) := dk_187 0 37 (dk_at dksX6_readNode_0 19 rfl rfl)
theorem dX6_readNode_22 : decode cX6_readNode 22 = .ok (.dup, 1) := dk_89 (dk_at dksX6_readNode_0 22 rfl rfl)
theorem dX6_readNode_23 : decode cX6_readNode 23 = .ok (.aload_n 0, 1) := dk_42 (dk_at dksX6_readNode_0 23 rfl rfl)
theorem dX6_readNode_24 : decode cX6_readNode 24 = .ok (.getfield 15, 3) := dk_180 0 15 (dk_at dksX6_readNode_1 0 rfl rfl)
theorem dX6_readNode_27 : decode cX6_readNode 27 = .ok (.invokespecial 39, 3) := dk_183 0 39 (dk_at dksX6_readNode_1 3 rfl rfl)
theorem dX6_readNode_30 : decode cX6_readNode 30 = .ok (.athrow, 1) := dk_191 (dk_at dksX6_readNode_1 6 rfl rfl)
theorem dX6_readNode_31 : decode cX6_readNode 31 = .ok (.new 49, 3) := dk_187 0 49 (dk_at dksX6_readNode_1 7 rfl rfl)
theorem dX6_readNode_34 : decode cX6_readNode 34 = .ok (.dup, 1) := dk_89 (dk_at dksX6_readNode_1 10 rfl rfl)
theorem dX6_readNode_35 : decode cX6_readNode 35 = .ok (.aload_n 0, 1) := dk_42 (dk_at dksX6_readNode_1 11 rfl rfl)
theorem dX6_readNode_36 : decode cX6_readNode 36 = .ok (.bipush 97, 2) := dk_16 97 (dk_at dksX6_readNode_1 12 rfl rfl)
theorem dX6_readNode_38 : decode cX6_readNode 38 = .ok (.bipush 122, 2) := dk_16 122 (dk_at dksX6_readNode_1 14 rfl rfl)
theorem dX6_readNode_40 : decode cX6_readNode 40 = .ok (.invokevirtual 51, 3) := dk_182 0 51 (dk_at dksX6_readNode_1 16 rfl rfl)
theorem dX6_readNode_43 : decode cX6_readNode 43 = .ok (.invokespecial 55, 3) := dk_183 0 55 (dk_at dksX6_readNode_1 19 rfl rfl)
theorem dX6_readNode_46 : decode cX6_readNode 46 = .ok (.astore_n 2, 1) := dk_77 (dk_at dksX6_readNode_1 22 rfl rfl)
theorem dX6_readNode_47 : decode cX6_readNode 47 = .ok (.aload_n 0, 1) := dk_42 (dk_at dksX6_readNode_1 23 rfl rfl)
theorem dX6_readNode_48 : decode cX6_readNode 48 = .ok (.dup, 1) := dk_89 (dk_at dksX6_readNode_2 0 rfl rfl)
theorem dX6_readNode_49 : decode cX6_readNode 49 = .ok (.getfield 42, 3) := dk_180 0 42 (dk_at dksX6_readNode_2 1 rfl rfl)
theorem dX6_readNode_52 : decode cX6_readNode 52 = .ok (.iconst 1, 1) := dk_4 (dk_at dksX6_readNode_2 4 rfl rfl)
theorem dX6_readNode_53 : decode cX6_readNode 53 = .ok (.iadd, 1) := dk_96 (dk_at dksX6_readNode_2 5 rfl rfl)
theorem dX6_readNode_54 : decode cX6_readNode 54 = .ok (.putfield 42, 3) := dk_181 0 42 (dk_at dksX6_readNode_2 6 rfl rfl)
theorem dX6_readNode_57 : decode cX6_readNode 57 = .ok (.aload_n 1, 1) := dk_43 (dk_at dksX6_readNode_2 9 rfl rfl)
theorem dX6_readNode_58 : decode cX6_readNode 58 = .ok (.ifnull 65, 3) := dk_198 0 65 (dk_at dksX6_readNode_2 10 rfl rfl)
theorem dX6_readNode_61 : decode cX6_readNode 61 = .ok (.aload_n 0, 1) := dk_42 (dk_at dksX6_readNode_2 13 rfl rfl)
theorem dX6_readNode_62 : decode cX6_readNode 62 = .ok (.bipush 35, 2) := dk_16 35 (dk_at dksX6_readNode_2 14 rfl rfl)
theorem dX6_readNode_64 : decode cX6_readNode 64 = .ok (.invokevirtual 58, 3) := dk_182 0 58 (dk_at dksX6_readNode_2 16 rfl rfl)
theorem dX6_readNode_67 : decode cX6_readNode 67 = .ok (.ifCond .eq 42, 3) := dk_153 0 42 (dk_at dksX6_readNode_2 19 rfl rfl)
theorem dX6_readNode_70 : decode cX6_readNode 70 = .ok (.aload_n 0, 1) := dk_42 (dk_at dksX6_readNode_2 22 rfl rfl)
theorem dX6_readNode_71 : decode cX6_readNode 71 = .ok (.bipush 49, 2) := dk_16 49 (dk_at dksX6_readNode_3 0 rfl rfl)
theorem dX6_readNode_73 : decode cX6_readNode 73 = .ok (.bipush 57, 2) := dk_16 57 (dk_at dksX6_readNode_3 2 rfl rfl)
theorem dX6_readNode_75 : decode cX6_readNode 75 = .ok (.invokevirtual 51, 3) := dk_182 0 51 (dk_at dksX6_readNode_3 4 rfl rfl)
theorem dX6_readNode_78 : decode cX6_readNode 78 = .ok (.bipush 48, 2) := dk_16 48 (dk_at dksX6_readNode_3 7 rfl rfl)
theorem dX6_readNode_80 : decode cX6_readNode 80 = .ok (.isub, 1) := dk_100 (dk_at dksX6_readNode_3 9 rfl rfl)
theorem dX6_readNode_81 : decode cX6_readNode 81 = .ok (.istore_n 3, 1) := dk_62 (dk_at dksX6_readNode_3 10 rfl rfl)
theorem dX6_readNode_82 : decode cX6_readNode 82 = .ok (.aload_n 1, 1) := dk_43 (dk_at dksX6_readNode_3 11 rfl rfl)
theorem dX6_readNode_83 : decode cX6_readNode 83 = .ok (.iload_n 3, 1) := dk_29 (dk_at dksX6_readNode_3 12 rfl rfl)
theorem dX6_readNode_84 : decode cX6_readNode 84 = .ok (.invokevirtual 61, 3) := dk_182 0 61 (dk_at dksX6_readNode_3 13 rfl rfl)
theorem dX6_readNode_87 : decode cX6_readNode 87 = .ok (.ifCond .eq 17, 3) := dk_153 0 17 (dk_at dksX6_readNode_3 16 rfl rfl)
theorem dX6_readNode_90 : decode cX6_readNode 90 = .ok (.new 37, 3) := dk_187 0 37 (dk_at dksX6_readNode_3 19 rfl rfl)
theorem dX6_readNode_93 : decode cX6_readNode 93 = .ok (.dup, 1) := dk_89 (dk_at dksX6_readNode_3 22 rfl rfl)
theorem dX6_readNode_94 : decode cX6_readNode 94 = .ok (.aload_n 0, 1) := dk_42 (dk_at dksX6_readNode_3 23 rfl rfl)
theorem dX6_readNode_95 : decode cX6_readNode 95 = .ok (.getfield 15, 3) := dk_180 0 15 (dk_at dksX6_readNode_4 0 rfl rfl)
theorem dX6_readNode_98 : decode cX6_readNode 98 = .ok (.iconst 1, 1) := dk_4 (dk_at dksX6_readNode_4 3 rfl rfl)
theorem dX6_readNode_99 : decode cX6_readNode 99 = .ok (.isub, 1) := dk_100 (dk_at dksX6_readNode_4 4 rfl rfl)
theorem dX6_readNode_100 : decode cX6_readNode 100 = .ok (.invokespecial 39, 3) := dk_183 0 39 (dk_at dksX6_readNode_4 5 rfl rfl)
theorem dX6_readNode_103 : decode cX6_readNode 103 = .ok (.athrow, 1) := dk_191 (dk_at dksX6_readNode_4 8 rfl rfl)
theorem dX6_readNode_104 : decode cX6_readNode 104 = .ok (.aload_n 2, 1) := dk_44 (dk_at dksX6_readNode_4 9 rfl rfl)
theorem dX6_readNode_105 : decode cX6_readNode 105 = .ok (.iload_n 3, 1) := dk_29 (dk_at dksX6_readNode_4 10 rfl rfl)
theorem dX6_readNode_106 : decode cX6_readNode 106 = .ok (.putfield 65, 3) := dk_181 0 65 (dk_at dksX6_readNode_4 11 rfl rfl)
theorem dX6_readNode_109 : decode cX6_readNode 109 = .ok (.aload_n 1, 1) := dk_43 (dk_at dksX6_readNode_4 14 rfl rfl)
theorem dX6_readNode_110 : decode cX6_readNode 110 = .ok (.aload_n 1, 1) := dk_43 (dk_at dksX6_readNode_4 15 rfl rfl)
theorem dX6_readNode_111 : decode cX6_readNode 111 = .ok (.getfield 68, 3) := dk_180 0 68 (dk_at dksX6_readNode_4 16 rfl rfl)
theorem dX6_readNode_114 : decode cX6_readNode 114 = .ok (.invokeinterface 72 1, 5) := by decide +kernel
theorem dX6_readNode_119 : decode cX6_readNode 119 = .ok (.aload_n 2, 1) := dk_44 (dk_at dksX6_readNode_5 0 rfl rfl)
theorem dX6_readNode_120 : decode cX6_readNode 120 = .ok (.invokevirtual 77, 3) := dk_182 0 77 (dk_at dksX6_readNode_5 1 rfl rfl)
theorem dX6_readNode_123 : decode cX6_readNode 123 = .ok (.aload_n 0, 1) := dk_42 (dk_at dksX6_readNode_5 4 rfl rfl)
theorem dX6_readNode_124 : decode cX6_readNode 124 = .ok (.bipush 61, 2) := dk_16 61 (dk_at dksX6_readNode_5 5 rfl rfl)
theorem dX6_readNode_126 : decode cX6_readNode 126 = .ok (.invokevirtual 58, 3) := dk_182 0 58 (dk_at dksX6_readNode_5 7 rfl rfl)
theorem dX6_readNode_129 : decode cX6_readNode 129 = .ok (.ifCond .eq 59, 3) := dk_153 0 59 (dk_at dksX6_readNode_5 10 rfl rfl)
theorem dX6_readNode_132 : decode cX6_readNode 132 = .ok (.aload_n 2, 1) := dk_44 (dk_at dksX6_readNode_5 13 rfl rfl)
theorem dX6_readNode_133 : decode cX6_readNode 133 = .ok (.aload_n 0, 1) := dk_42 (dk_at dksX6_readNode_5 14 rfl rfl)
theorem dX6_readNode_134 : decode cX6_readNode 134 = .ok (.bipush 48, 2) := dk_16 48 (dk_at dksX6_readNode_5 15 rfl rfl)
theorem dX6_readNode_136 : decode cX6_readNode 136 = .ok (.bipush 57, 2) := dk_16 57 (dk_at dksX6_readNode_5 17 rfl rfl)
theorem dX6_readNode_138 : decode cX6_readNode 138 = .ok (.invokevirtual 51, 3) := dk_182 0 51 (dk_at dksX6_readNode_5 19 rfl rfl)
theorem dX6_readNode_141 : decode cX6_readNode 141 = .ok (.bipush 48, 2) := dk_16 48 (dk_at dksX6_readNode_5 22 rfl rfl)
theorem dX6_readNode_143 : decode cX6_readNode 143 = .ok (.isub, 1) := dk_100 (dk_at dksX6_readNode_6 0 rfl rfl)
theorem dX6_readNode_144 : decode cX6_readNode 144 = .ok (.putfield 81, 3) := dk_181 0 81 (dk_at dksX6_readNode_6 1 rfl rfl)
theorem dX6_readNode_147 : decode cX6_readNode 147 = .ok (.aload_n 0, 1) := dk_42 (dk_at dksX6_readNode_6 4 rfl rfl)
theorem dX6_readNode_148 : decode cX6_readNode 148 = .ok (.invokevirtual 33, 3) := dk_182 0 33 (dk_at dksX6_readNode_6 5 rfl rfl)
theorem dX6_readNode_151 : decode cX6_readNode 151 = .ok (.bipush 48, 2) := dk_16 48 (dk_at dksX6_readNode_6 8 rfl rfl)
theorem dX6_readNode_153 : decode cX6_readNode 153 = .ok (.if_icmp .lt 35, 3) := dk_161 0 35 (dk_at dksX6_readNode_6 10 rfl rfl)
theorem dX6_readNode_156 : decode cX6_readNode 156 = .ok (.aload_n 0, 1) := dk_42 (dk_at dksX6_readNode_6 13 rfl rfl)
theorem dX6_readNode_157 : decode cX6_readNode 157 = .ok (.invokevirtual 33, 3) := dk_182 0 33 (dk_at dksX6_readNode_6 14 rfl rfl)
theorem dX6_readNode_160 : decode cX6_readNode 160 = .ok (.bipush 57, 2) := dk_16 57 (dk_at dksX6_readNode_6 17 rfl rfl)
theorem dX6_readNode_162 : decode cX6_readNode 162 = .ok (.if_icmp .gt 26, 3) := dk_163 0 26 (dk_at dksX6_readNode_6 19 rfl rfl)
theorem dX6_readNode_165 : decode cX6_readNode 165 = .ok (.aload_n 2, 1) := dk_44 (dk_at dksX6_readNode_6 22 rfl rfl)
theorem dX6_readNode_166 : decode cX6_readNode 166 = .ok (.bipush 10, 2) := dk_16 10 (dk_at dksX6_readNode_7 0 rfl rfl)
theorem dX6_readNode_168 : decode cX6_readNode 168 = .ok (.aload_n 2, 1) := dk_44 (dk_at dksX6_readNode_7 2 rfl rfl)
theorem dX6_readNode_169 : decode cX6_readNode 169 = .ok (.getfield 81, 3) := dk_180 0 81 (dk_at dksX6_readNode_7 3 rfl rfl)
theorem dX6_readNode_172 : decode cX6_readNode 172 = .ok (.imul, 1) := dk_104 (dk_at dksX6_readNode_7 6 rfl rfl)
theorem dX6_readNode_173 : decode cX6_readNode 173 = .ok (.aload_n 0, 1) := dk_42 (dk_at dksX6_readNode_7 7 rfl rfl)
theorem dX6_readNode_174 : decode cX6_readNode 174 = .ok (.bipush 48, 2) := dk_16 48 (dk_at dksX6_readNode_7 8 rfl rfl)
theorem dX6_readNode_176 : decode cX6_readNode 176 = .ok (.bipush 57, 2) := dk_16 57 (dk_at dksX6_readNode_7 10 rfl rfl)
theorem dX6_readNode_178 : decode cX6_readNode 178 = .ok (.invokevirtual 51, 3) := dk_182 0 51 (dk_at dksX6_readNode_7 12 rfl rfl)
theorem dX6_readNode_181 : decode cX6_readNode 181 = .ok (.iadd, 1) := dk_96 (dk_at dksX6_readNode_7 15 rfl rfl)
theorem dX6_readNode_182 : decode cX6_readNode 182 = .ok (.bipush 48, 2) := dk_16 48 (dk_at dksX6_readNode_7 16 rfl rfl)
theorem dX6_readNode_184 : decode cX6_readNode 184 = .ok (.isub, 1) := dk_100 (dk_at dksX6_readNode_7 18 rfl rfl)
theorem dX6_readNode_185 : decode cX6_readNode 185 = .ok (.putfield 81, 3) := dk_181 0 81 (dk_at dksX6_readNode_7 19 rfl rfl)
theorem dX6_readNode_188 : decode cX6_readNode 188 = .ok (.aload_n 0, 1) := dk_42 (dk_at dksX6_readNode_7 22 rfl rfl)
theorem dX6_readNode_189 : decode cX6_readNode 189 = .ok (.bipush 40, 2) := dk_16 40 (dk_at dksX6_readNode_8 0 rfl rfl)
theorem dX6_readNode_191 : decode cX6_readNode 191 = .ok (.invokevirtual 58, 3) := dk_182 0 58 (dk_at dksX6_readNode_8 2 rfl rfl)
theorem dX6_readNode_194 : decode cX6_readNode 194 = .ok (.ifCond .eq 18, 3) := dk_153 0 18 (dk_at dksX6_readNode_8 5 rfl rfl)
theorem dX6_readNode_197 : decode cX6_readNode 197 = .ok (.aload_n 0, 1) := dk_42 (dk_at dksX6_readNode_8 8 rfl rfl)
theorem dX6_readNode_198 : decode cX6_readNode 198 = .ok (.aload_n 2, 1) := dk_44 (dk_at dksX6_readNode_8 9 rfl rfl)
theorem dX6_readNode_199 : decode cX6_readNode 199 = .ok (.invokevirtual 84, 3) := dk_182 0 84 (dk_at dksX6_readNode_8 10 rfl rfl)
theorem dX6_readNode_202 : decode cX6_readNode 202 = .ok (.astore_n 3, 1) := dk_78 (dk_at dksX6_readNode_8 13 rfl rfl)
theorem dX6_readNode_203 : decode cX6_readNode 203 = .ok (.aload_n 0, 1) := dk_42 (dk_at dksX6_readNode_8 14 rfl rfl)
theorem dX6_readNode_204 : decode cX6_readNode 204 = .ok (.bipush 41, 2) := dk_16 41 (dk_at dksX6_readNode_8 15 rfl rfl)
theorem dX6_readNode_206 : decode cX6_readNode 206 = .ok (.invokevirtual 58, 3) := dk_182 0 58 (dk_at dksX6_readNode_8 17 rfl rfl)
theorem dX6_readNode_209 : decode cX6_readNode 209 = .ok (.ifCond .eq (-12), 3) := dk_153 255 244 (dk_at dksX6_readNode_8 20 rfl rfl)
theorem dX6_readNode_212 : decode cX6_readNode 212 = .ok (.aload_n 2, 1) := dk_44 (dk_at dksX6_readNode_8 23 rfl rfl)
theorem dX6_readNode_213 : decode cX6_readNode 213 = .ok (.areturn, 1) := dk_176 (dk_at dksX6_readNode_9 0 rfl rfl)
abbrev cX6_next : ByteArray := prog_11_method_2_code
def yX6_next : MethodName := ⟨RX6, "next", "()C"⟩
def dkwX6_next_1 : List UInt8 := [42, 180, 0, 15, 182, 0, 29, 167, 0, 4, 3, 172]
abbrev dktX6_next_1 : List UInt8 := dkwX6_next_1 ++ []
def dkwX6_next_0 : List UInt8 := [42, 180, 0, 15, 42, 180, 0, 3, 180, 0, 19, 182, 0, 23, 162, 0, 20, 42, 180, 0, 3, 180, 0, 19]
abbrev dktX6_next_0 : List UInt8 := dkwX6_next_0 ++ dktX6_next_1
theorem dksX6_next_0 : cX6_next.data.toList.drop 0 = dktX6_next_0 := by decide +kernel
theorem dksX6_next_1 : cX6_next.data.toList.drop 24 = dktX6_next_1 := dk_seg dksX6_next_0 24 rfl rfl
theorem dX6_next_0 : decode cX6_next 0 = .ok (.aload_n 0, 1) := dk_42 (dk_at dksX6_next_0 0 rfl rfl)
theorem dX6_next_1 : decode cX6_next 1 = .ok (.getfield 15, 3) := dk_180 0 15 (dk_at dksX6_next_0 1 rfl rfl)
theorem dX6_next_4 : decode cX6_next 4 = .ok (.aload_n 0, 1) := dk_42 (dk_at dksX6_next_0 4 rfl rfl)
theorem dX6_next_5 : decode cX6_next 5 = .ok (.getfield 3, 3) := dk_180 0 3 (dk_at dksX6_next_0 5 rfl rfl)
theorem dX6_next_8 : decode cX6_next 8 = .ok (.getfield 19, 3) := dk_180 0 19 (dk_at dksX6_next_0 8 rfl rfl)
theorem dX6_next_11 : decode cX6_next 11 = .ok (.invokevirtual 23, 3) := dk_182 0 23 (dk_at dksX6_next_0 11 rfl rfl)
theorem dX6_next_14 : decode cX6_next 14 = .ok (.if_icmp .ge 20, 3) := dk_162 0 20 (dk_at dksX6_next_0 14 rfl rfl)
theorem dX6_next_17 : decode cX6_next 17 = .ok (.aload_n 0, 1) := dk_42 (dk_at dksX6_next_0 17 rfl rfl)
theorem dX6_next_18 : decode cX6_next 18 = .ok (.getfield 3, 3) := dk_180 0 3 (dk_at dksX6_next_0 18 rfl rfl)
theorem dX6_next_21 : decode cX6_next 21 = .ok (.getfield 19, 3) := dk_180 0 19 (dk_at dksX6_next_0 21 rfl rfl)
theorem dX6_next_24 : decode cX6_next 24 = .ok (.aload_n 0, 1) := dk_42 (dk_at dksX6_next_1 0 rfl rfl)
theorem dX6_next_25 : decode cX6_next 25 = .ok (.getfield 15, 3) := dk_180 0 15 (dk_at dksX6_next_1 1 rfl rfl)
theorem dX6_next_28 : decode cX6_next 28 = .ok (.invokevirtual 29, 3) := dk_182 0 29 (dk_at dksX6_next_1 4 rfl rfl)
theorem dX6_next_31 : decode cX6_next 31 = .ok (.goto 4, 3) := dk_167 0 4 (dk_at dksX6_next_1 7 rfl rfl)
theorem dX6_next_34 : decode cX6_next 34 = .ok (.iconst 0, 1) := dk_3 (dk_at dksX6_next_1 10 rfl rfl)
theorem dX6_next_35 : decode cX6_next 35 = .ok (.ireturn, 1) := dk_172 (dk_at dksX6_next_1 11 rfl rfl)
abbrev cX6_expect : ByteArray := prog_11_method_3_code
def yX6_expect : MethodName := ⟨RX6, "expect", "(CC)C"⟩
def dkwX6_expect_2 : List UInt8 := [180, 0, 15, 4, 96, 181, 0, 15, 29, 172]
abbrev dktX6_expect_2 : List UInt8 := dkwX6_expect_2 ++ []
def dkwX6_expect_1 : List UInt8 := [161, 0, 8, 29, 28, 164, 0, 15, 187, 0, 37, 89, 42, 180, 0, 15, 183, 0, 39, 191, 42, 89]
abbrev dktX6_expect_1 : List UInt8 := dkwX6_expect_1 ++ dktX6_expect_2
def dkwX6_expect_0 : List UInt8 := [42, 182, 0, 33, 62, 42, 180, 0, 15, 42, 180, 0, 3, 180, 0, 19, 182, 0, 23, 159, 0, 13, 29, 27]
abbrev dktX6_expect_0 : List UInt8 := dkwX6_expect_0 ++ dktX6_expect_1
theorem dksX6_expect_0 : cX6_expect.data.toList.drop 0 = dktX6_expect_0 := by decide +kernel
theorem dksX6_expect_1 : cX6_expect.data.toList.drop 24 = dktX6_expect_1 := dk_seg dksX6_expect_0 24 rfl rfl
theorem dksX6_expect_2 : cX6_expect.data.toList.drop 46 = dktX6_expect_2 := dk_seg dksX6_expect_1 22 rfl rfl
theorem dX6_expect_0 : decode cX6_expect 0 = .ok (.aload_n 0, 1) := dk_42 (dk_at dksX6_expect_0 0 rfl rfl)
theorem dX6_expect_1 : decode cX6_expect 1 = .ok (.invokevirtual 33, 3) := dk_182 0 33 (dk_at dksX6_expect_0 1 rfl rfl)
theorem dX6_expect_4 : decode cX6_expect 4 = .ok (.istore_n 3, 1) := dk_62 (dk_at dksX6_expect_0 4 rfl rfl)
theorem dX6_expect_5 : decode cX6_expect 5 = .ok (.aload_n 0, 1) := dk_42 (dk_at dksX6_expect_0 5 rfl rfl)
theorem dX6_expect_6 : decode cX6_expect 6 = .ok (.getfield 15, 3) := dk_180 0 15 (dk_at dksX6_expect_0 6 rfl rfl)
theorem dX6_expect_9 : decode cX6_expect 9 = .ok (.aload_n 0, 1) := dk_42 (dk_at dksX6_expect_0 9 rfl rfl)
theorem dX6_expect_10 : decode cX6_expect 10 = .ok (.getfield 3, 3) := dk_180 0 3 (dk_at dksX6_expect_0 10 rfl rfl)
theorem dX6_expect_13 : decode cX6_expect 13 = .ok (.getfield 19, 3) := dk_180 0 19 (dk_at dksX6_expect_0 13 rfl rfl)
theorem dX6_expect_16 : decode cX6_expect 16 = .ok (.invokevirtual 23, 3) := dk_182 0 23 (dk_at dksX6_expect_0 16 rfl rfl)
theorem dX6_expect_19 : decode cX6_expect 19 = .ok (.if_icmp .eq 13, 3) := dk_159 0 13 (dk_at dksX6_expect_0 19 rfl rfl)
theorem dX6_expect_22 : decode cX6_expect 22 = .ok (.iload_n 3, 1) := dk_29 (dk_at dksX6_expect_0 22 rfl rfl)
theorem dX6_expect_23 : decode cX6_expect 23 = .ok (.iload_n 1, 1) := dk_27 (dk_at dksX6_expect_0 23 rfl rfl)
theorem dX6_expect_24 : decode cX6_expect 24 = .ok (.if_icmp .lt 8, 3) := dk_161 0 8 (dk_at dksX6_expect_1 0 rfl rfl)
theorem dX6_expect_27 : decode cX6_expect 27 = .ok (.iload_n 3, 1) := dk_29 (dk_at dksX6_expect_1 3 rfl rfl)
theorem dX6_expect_28 : decode cX6_expect 28 = .ok (.iload_n 2, 1) := dk_28 (dk_at dksX6_expect_1 4 rfl rfl)
theorem dX6_expect_29 : decode cX6_expect 29 = .ok (.if_icmp .le 15, 3) := dk_164 0 15 (dk_at dksX6_expect_1 5 rfl rfl)
theorem dX6_expect_32 : decode cX6_expect 32 = .ok (.new 37, 3) := dk_187 0 37 (dk_at dksX6_expect_1 8 rfl rfl)
theorem dX6_expect_35 : decode cX6_expect 35 = .ok (.dup, 1) := dk_89 (dk_at dksX6_expect_1 11 rfl rfl)
theorem dX6_expect_36 : decode cX6_expect 36 = .ok (.aload_n 0, 1) := dk_42 (dk_at dksX6_expect_1 12 rfl rfl)
theorem dX6_expect_37 : decode cX6_expect 37 = .ok (.getfield 15, 3) := dk_180 0 15 (dk_at dksX6_expect_1 13 rfl rfl)
theorem dX6_expect_40 : decode cX6_expect 40 = .ok (.invokespecial 39, 3) := dk_183 0 39 (dk_at dksX6_expect_1 16 rfl rfl)
theorem dX6_expect_43 : decode cX6_expect 43 = .ok (.athrow, 1) := dk_191 (dk_at dksX6_expect_1 19 rfl rfl)
theorem dX6_expect_44 : decode cX6_expect 44 = .ok (.aload_n 0, 1) := dk_42 (dk_at dksX6_expect_1 20 rfl rfl)
theorem dX6_expect_45 : decode cX6_expect 45 = .ok (.dup, 1) := dk_89 (dk_at dksX6_expect_1 21 rfl rfl)
theorem dX6_expect_46 : decode cX6_expect 46 = .ok (.getfield 15, 3) := dk_180 0 15 (dk_at dksX6_expect_2 0 rfl rfl)
theorem dX6_expect_49 : decode cX6_expect 49 = .ok (.iconst 1, 1) := dk_4 (dk_at dksX6_expect_2 3 rfl rfl)
theorem dX6_expect_50 : decode cX6_expect 50 = .ok (.iadd, 1) := dk_96 (dk_at dksX6_expect_2 4 rfl rfl)
theorem dX6_expect_51 : decode cX6_expect 51 = .ok (.putfield 15, 3) := dk_181 0 15 (dk_at dksX6_expect_2 5 rfl rfl)
theorem dX6_expect_54 : decode cX6_expect 54 = .ok (.iload_n 3, 1) := dk_29 (dk_at dksX6_expect_2 8 rfl rfl)
theorem dX6_expect_55 : decode cX6_expect 55 = .ok (.ireturn, 1) := dk_172 (dk_at dksX6_expect_2 9 rfl rfl)
abbrev cX6_take : ByteArray := prog_11_method_4_code
def yX6_take : MethodName := ⟨RX6, "take", "(C)Z"⟩
def dkwX6_take_2 : List UInt8 := [181, 0, 15, 28, 172]
abbrev dktX6_take_2 : List UInt8 := dkwX6_take_2 ++ []
def dkwX6_take_1 : List UInt8 := [160, 0, 7, 4, 167, 0, 4, 3, 61, 42, 89, 180, 0, 15, 28, 153, 0, 7, 4, 167, 0, 4, 3, 96]
abbrev dktX6_take_1 : List UInt8 := dkwX6_take_1 ++ dktX6_take_2
def dkwX6_take_0 : List UInt8 := [42, 180, 0, 15, 42, 180, 0, 3, 180, 0, 19, 182, 0, 23, 162, 0, 15, 42, 182, 0, 33, 27]
abbrev dktX6_take_0 : List UInt8 := dkwX6_take_0 ++ dktX6_take_1
theorem dksX6_take_0 : cX6_take.data.toList.drop 0 = dktX6_take_0 := by decide +kernel
theorem dksX6_take_1 : cX6_take.data.toList.drop 22 = dktX6_take_1 := dk_seg dksX6_take_0 22 rfl rfl
theorem dksX6_take_2 : cX6_take.data.toList.drop 46 = dktX6_take_2 := dk_seg dksX6_take_1 24 rfl rfl
theorem dX6_take_0 : decode cX6_take 0 = .ok (.aload_n 0, 1) := dk_42 (dk_at dksX6_take_0 0 rfl rfl)
theorem dX6_take_1 : decode cX6_take 1 = .ok (.getfield 15, 3) := dk_180 0 15 (dk_at dksX6_take_0 1 rfl rfl)
theorem dX6_take_4 : decode cX6_take 4 = .ok (.aload_n 0, 1) := dk_42 (dk_at dksX6_take_0 4 rfl rfl)
theorem dX6_take_5 : decode cX6_take 5 = .ok (.getfield 3, 3) := dk_180 0 3 (dk_at dksX6_take_0 5 rfl rfl)
theorem dX6_take_8 : decode cX6_take 8 = .ok (.getfield 19, 3) := dk_180 0 19 (dk_at dksX6_take_0 8 rfl rfl)
theorem dX6_take_11 : decode cX6_take 11 = .ok (.invokevirtual 23, 3) := dk_182 0 23 (dk_at dksX6_take_0 11 rfl rfl)
theorem dX6_take_14 : decode cX6_take 14 = .ok (.if_icmp .ge 15, 3) := dk_162 0 15 (dk_at dksX6_take_0 14 rfl rfl)
theorem dX6_take_17 : decode cX6_take 17 = .ok (.aload_n 0, 1) := dk_42 (dk_at dksX6_take_0 17 rfl rfl)
theorem dX6_take_18 : decode cX6_take 18 = .ok (.invokevirtual 33, 3) := dk_182 0 33 (dk_at dksX6_take_0 18 rfl rfl)
theorem dX6_take_21 : decode cX6_take 21 = .ok (.iload_n 1, 1) := dk_27 (dk_at dksX6_take_0 21 rfl rfl)
theorem dX6_take_22 : decode cX6_take 22 = .ok (.if_icmp .ne 7, 3) := dk_160 0 7 (dk_at dksX6_take_1 0 rfl rfl)
theorem dX6_take_25 : decode cX6_take 25 = .ok (.iconst 1, 1) := dk_4 (dk_at dksX6_take_1 3 rfl rfl)
theorem dX6_take_26 : decode cX6_take 26 = .ok (.goto 4, 3) := dk_167 0 4 (dk_at dksX6_take_1 4 rfl rfl)
theorem dX6_take_29 : decode cX6_take 29 = .ok (.iconst 0, 1) := dk_3 (dk_at dksX6_take_1 7 rfl rfl)
theorem dX6_take_30 : decode cX6_take 30 = .ok (.istore_n 2, 1) := dk_61 (dk_at dksX6_take_1 8 rfl rfl)
theorem dX6_take_31 : decode cX6_take 31 = .ok (.aload_n 0, 1) := dk_42 (dk_at dksX6_take_1 9 rfl rfl)
theorem dX6_take_32 : decode cX6_take 32 = .ok (.dup, 1) := dk_89 (dk_at dksX6_take_1 10 rfl rfl)
theorem dX6_take_33 : decode cX6_take 33 = .ok (.getfield 15, 3) := dk_180 0 15 (dk_at dksX6_take_1 11 rfl rfl)
theorem dX6_take_36 : decode cX6_take 36 = .ok (.iload_n 2, 1) := dk_28 (dk_at dksX6_take_1 14 rfl rfl)
theorem dX6_take_37 : decode cX6_take 37 = .ok (.ifCond .eq 7, 3) := dk_153 0 7 (dk_at dksX6_take_1 15 rfl rfl)
theorem dX6_take_40 : decode cX6_take 40 = .ok (.iconst 1, 1) := dk_4 (dk_at dksX6_take_1 18 rfl rfl)
theorem dX6_take_41 : decode cX6_take 41 = .ok (.goto 4, 3) := dk_167 0 4 (dk_at dksX6_take_1 19 rfl rfl)
theorem dX6_take_44 : decode cX6_take 44 = .ok (.iconst 0, 1) := dk_3 (dk_at dksX6_take_1 22 rfl rfl)
theorem dX6_take_45 : decode cX6_take 45 = .ok (.iadd, 1) := dk_96 (dk_at dksX6_take_1 23 rfl rfl)
theorem dX6_take_46 : decode cX6_take 46 = .ok (.putfield 15, 3) := dk_181 0 15 (dk_at dksX6_take_2 0 rfl rfl)
theorem dX6_take_49 : decode cX6_take 49 = .ok (.iload_n 2, 1) := dk_28 (dk_at dksX6_take_2 3 rfl rfl)
theorem dX6_take_50 : decode cX6_take 50 = .ok (.ireturn, 1) := dk_172 (dk_at dksX6_take_2 4 rfl rfl)
theorem q88 : (Jvm.Cond.initialized "TreeDiffer$Reader") ∈ lw_all := lw_g (lw_at lw_m1 25 rfl) rfl
theorem q198 : (Jvm.Cond.fieldLinkNest "TreeDiffer$Reader" (65 : Nat) "TreeDiffer$Node" "key" "I" "TreeDiffer") ∈ lw_tbl := lw_at lw_m1 135 rfl
theorem q203 : (Jvm.Cond.fieldLinkNest "TreeDiffer$Reader" (81 : Nat) "TreeDiffer$Node" "value" "I" "TreeDiffer") ∈ lw_tbl := lw_at lw_m1 140 rfl
theorem q212 : (Jvm.Cond.fieldLinkNest "TreeDiffer$Reader" (68 : Nat) "TreeDiffer$Node" "children" "Ljava/util/List;" "TreeDiffer") ∈ lw_tbl := lw_at lw_m1 149 rfl
theorem q248 : (Jvm.Cond.fieldLinkNest "TreeDiffer$Reader" (19 : Nat) "TreeDiffer" "text" "Ljava/lang/StringBuilder;" "TreeDiffer") ∈ lw_tbl := lw_at lw_m1 185 rfl
theorem q529 : (Jvm.Cond.selects "TreeDiffer$Reader" ({ cls := "java/lang/Object", name := "getClass", desc := "()Ljava/lang/Class;" } : Jvm.MethodName) ({ cls := "java/lang/Object", name := "getClass", desc := "()Ljava/lang/Class;" } : Jvm.MethodName)) ∈ lw_all := lw_g (lw_at lw_m2 226 rfl) rfl
theorem q1299 : (Jvm.Cond.selects "TreeDiffer$Reader" ({ cls := "java/lang/Object", name := "toString", desc := "()Ljava/lang/String;" } : Jvm.MethodName) ({ cls := "java/lang/Object", name := "toString", desc := "()Ljava/lang/String;" } : Jvm.MethodName)) ∈ lw_all := lw_g (lw_at lw_m6 36 rfl) rfl
theorem q1428 : (Jvm.Cond.instantiable "TreeDiffer$Reader" (3 : Nat)) ∈ lw_all := lw_g (lw_at lw_m6 165 rfl) rfl
theorem q1430 : (Jvm.Cond.instanceMethod ({ cls := "TreeDiffer$Reader", name := "<init>", desc := "(LTreeDiffer;)V" } : Jvm.MethodName)) ∈ lw_all := lw_g (lw_at lw_m6 167 rfl) rfl
theorem q1431 : (Jvm.Cond.code ({ cls := "TreeDiffer$Reader", name := "<init>", desc := "(LTreeDiffer;)V" } : Jvm.MethodName) prog_11_method_1_code (2 : Nat) (Option.none : Option Jvm.ClassFile.FieldType)) ∈ lw_all := lw_g (lw_at lw_m6 168 rfl) rfl
theorem q1432 : (Jvm.Cond.methodLink "TreeDiffer$Reader" (9 : Nat) ({ cls := "java/lang/Object", name := "<init>", desc := "()V" } : Jvm.MethodName)) ∈ lw_all := lw_g (lw_at lw_m6 169 rfl) rfl
theorem q1433 : (Jvm.Cond.fieldLink "TreeDiffer$Reader" (15 : Nat) "TreeDiffer$Reader" "place" "I") ∈ lw_all := lw_g (lw_at lw_m6 170 rfl) rfl
theorem q1434 : (Jvm.Cond.fieldLink "TreeDiffer$Reader" (42 : Nat) "TreeDiffer$Reader" "count" "I") ∈ lw_all := lw_g (lw_at lw_m6 171 rfl) rfl
theorem q1435 : (Jvm.Cond.fieldLink "TreeDiffer$Reader" (3 : Nat) "TreeDiffer$Reader" "this$0" "LTreeDiffer;") ∈ lw_all := lw_g (lw_at lw_m6 172 rfl) rfl
theorem q1436 : (Jvm.Cond.lays "TreeDiffer$Reader" "TreeDiffer$Reader" "place" "I") ∈ lw_all := lw_g (lw_at lw_m6 173 rfl) rfl
theorem q1437 : (Jvm.Cond.soleField "TreeDiffer$Reader" "place") ∈ lw_all := lw_g (lw_at lw_m6 174 rfl) rfl
theorem q1438 : (Jvm.Cond.lays "TreeDiffer$Reader" "TreeDiffer$Reader" "count" "I") ∈ lw_all := lw_g (lw_at lw_m6 175 rfl) rfl
theorem q1439 : (Jvm.Cond.soleField "TreeDiffer$Reader" "count") ∈ lw_all := lw_g (lw_at lw_m6 176 rfl) rfl
theorem q1440 : (Jvm.Cond.laysFinal "TreeDiffer$Reader" "TreeDiffer$Reader" "this$0" "LTreeDiffer;") ∈ lw_all := lw_g (lw_at lw_m6 177 rfl) rfl
theorem q1441 : (Jvm.Cond.soleField "TreeDiffer$Reader" "this$0") ∈ lw_all := lw_g (lw_at lw_m6 178 rfl) rfl
theorem q1442 : (Jvm.Cond.superclass "TreeDiffer$Reader" "java/lang/Object") ∈ lw_all := lw_g (lw_at lw_m6 179 rfl) rfl
theorem q1444 : (Jvm.Cond.instanceMethod ({ cls := "TreeDiffer$Reader", name := "read", desc := "()LTreeDiffer$Tree;" } : Jvm.MethodName)) ∈ lw_all := lw_g (lw_at lw_m6 181 rfl) rfl
theorem q1445 : (Jvm.Cond.selects "TreeDiffer$Reader" ({ cls := "TreeDiffer$Reader", name := "read", desc := "()LTreeDiffer$Tree;" } : Jvm.MethodName) ({ cls := "TreeDiffer$Reader", name := "read", desc := "()LTreeDiffer$Tree;" } : Jvm.MethodName)) ∈ lw_all := lw_g (lw_at lw_m6 182 rfl) rfl
theorem q1446 : (Jvm.Cond.code ({ cls := "TreeDiffer$Reader", name := "read", desc := "()LTreeDiffer$Tree;" } : Jvm.MethodName) prog_11_method_6_code (2 : Nat) (Option.some (Jvm.ClassFile.FieldType.object "TreeDiffer$Tree"))) ∈ lw_all := lw_g (lw_at lw_m6 183 rfl) rfl
theorem q1447 : (Jvm.Cond.methodLink "TreeDiffer$Reader" (84 : Nat) ({ cls := "TreeDiffer$Reader", name := "readNode", desc := "(LTreeDiffer$Node;)LTreeDiffer$Node;" } : Jvm.MethodName)) ∈ lw_all := lw_g (lw_at lw_m6 184 rfl) rfl
theorem q1448 : (Jvm.Cond.privateMethod ({ cls := "TreeDiffer$Reader", name := "readNode", desc := "(LTreeDiffer$Node;)LTreeDiffer$Node;" } : Jvm.MethodName)) ∈ lw_tbl := lw_at lw_m6 185 rfl
theorem q1449 : (Jvm.Cond.instanceMethod ({ cls := "TreeDiffer$Reader", name := "readNode", desc := "(LTreeDiffer$Node;)LTreeDiffer$Node;" } : Jvm.MethodName)) ∈ lw_all := lw_g (lw_at lw_m6 186 rfl) rfl
theorem q1450 : (Jvm.Cond.code ({ cls := "TreeDiffer$Reader", name := "readNode", desc := "(LTreeDiffer$Node;)LTreeDiffer$Node;" } : Jvm.MethodName) prog_11_method_5_code (4 : Nat) (Option.some (Jvm.ClassFile.FieldType.object "TreeDiffer$Node"))) ∈ lw_all := lw_g (lw_at lw_m6 187 rfl) rfl
theorem q1451 : (Jvm.Cond.methodLink "TreeDiffer$Reader" (33 : Nat) ({ cls := "TreeDiffer$Reader", name := "next", desc := "()C" } : Jvm.MethodName)) ∈ lw_all := lw_g (lw_at lw_m6 188 rfl) rfl
theorem q1452 : (Jvm.Cond.privateMethod ({ cls := "TreeDiffer$Reader", name := "next", desc := "()C" } : Jvm.MethodName)) ∈ lw_tbl := lw_at lw_m6 189 rfl
theorem q1453 : (Jvm.Cond.instanceMethod ({ cls := "TreeDiffer$Reader", name := "next", desc := "()C" } : Jvm.MethodName)) ∈ lw_all := lw_g (lw_at lw_m6 190 rfl) rfl
theorem q1454 : (Jvm.Cond.code ({ cls := "TreeDiffer$Reader", name := "next", desc := "()C" } : Jvm.MethodName) prog_11_method_2_code (1 : Nat) (Option.some Jvm.ClassFile.FieldType.char)) ∈ lw_all := lw_g (lw_at lw_m6 191 rfl) rfl
theorem q1455 : (Jvm.Cond.methodLink "TreeDiffer$Reader" (23 : Nat) ({ cls := "java/lang/StringBuilder", name := "length", desc := "()I" } : Jvm.MethodName)) ∈ lw_all := lw_g (lw_at lw_m6 192 rfl) rfl
theorem q1456 : (Jvm.Cond.methodLink "TreeDiffer$Reader" (29 : Nat) ({ cls := "java/lang/StringBuilder", name := "charAt", desc := "(I)C" } : Jvm.MethodName)) ∈ lw_all := lw_g (lw_at lw_m6 193 rfl) rfl
theorem q1466 : (Jvm.Cond.methodLinkNest "TreeDiffer$Reader" (45 : Nat) ({ cls := "TreeDiffer", name := "isLetter", desc := "(C)Z" } : Jvm.MethodName) "TreeDiffer") ∈ lw_tbl := lw_at lw_m6 203 rfl
theorem q1469 : (Jvm.Cond.classLink "TreeDiffer$Reader" (37 : Nat) "TreeDiffer$WrongText") ∈ lw_all := lw_g (lw_at lw_m6 206 rfl) rfl
theorem q1478 : (Jvm.Cond.methodLink "TreeDiffer$Reader" (39 : Nat) ({ cls := "TreeDiffer$WrongText", name := "<init>", desc := "(I)V" } : Jvm.MethodName)) ∈ lw_all := lw_g (lw_at lw_m6 215 rfl) rfl
theorem q1488 : (Jvm.Cond.classLink "TreeDiffer$Reader" (49 : Nat) "TreeDiffer$Node") ∈ lw_all := lw_g (lw_at lw_m6 225 rfl) rfl
theorem q1489 : (Jvm.Cond.methodLink "TreeDiffer$Reader" (51 : Nat) ({ cls := "TreeDiffer$Reader", name := "expect", desc := "(CC)C" } : Jvm.MethodName)) ∈ lw_all := lw_g (lw_at lw_m6 226 rfl) rfl
theorem q1490 : (Jvm.Cond.privateMethod ({ cls := "TreeDiffer$Reader", name := "expect", desc := "(CC)C" } : Jvm.MethodName)) ∈ lw_tbl := lw_at lw_m6 227 rfl
theorem q1491 : (Jvm.Cond.instanceMethod ({ cls := "TreeDiffer$Reader", name := "expect", desc := "(CC)C" } : Jvm.MethodName)) ∈ lw_all := lw_g (lw_at lw_m6 228 rfl) rfl
theorem q1492 : (Jvm.Cond.code ({ cls := "TreeDiffer$Reader", name := "expect", desc := "(CC)C" } : Jvm.MethodName) prog_11_method_3_code (4 : Nat) (Option.some Jvm.ClassFile.FieldType.char)) ∈ lw_all := lw_g (lw_at lw_m6 229 rfl) rfl
theorem q1493 : (Jvm.Cond.methodLink "TreeDiffer$Reader" (55 : Nat) ({ cls := "TreeDiffer$Node", name := "<init>", desc := "(C)V" } : Jvm.MethodName)) ∈ lw_all := lw_g (lw_at lw_m6 230 rfl) rfl
theorem q1494 : (Jvm.Cond.methodLink "TreeDiffer$Reader" (58 : Nat) ({ cls := "TreeDiffer$Reader", name := "take", desc := "(C)Z" } : Jvm.MethodName)) ∈ lw_all := lw_g (lw_at lw_m6 231 rfl) rfl
theorem q1495 : (Jvm.Cond.privateMethod ({ cls := "TreeDiffer$Reader", name := "take", desc := "(C)Z" } : Jvm.MethodName)) ∈ lw_tbl := lw_at lw_m6 232 rfl
theorem q1496 : (Jvm.Cond.instanceMethod ({ cls := "TreeDiffer$Reader", name := "take", desc := "(C)Z" } : Jvm.MethodName)) ∈ lw_all := lw_g (lw_at lw_m6 233 rfl) rfl
theorem q1497 : (Jvm.Cond.code ({ cls := "TreeDiffer$Reader", name := "take", desc := "(C)Z" } : Jvm.MethodName) prog_11_method_4_code (3 : Nat) (Option.some Jvm.ClassFile.FieldType.boolean)) ∈ lw_all := lw_g (lw_at lw_m6 234 rfl) rfl
theorem q1498 : (Jvm.Cond.methodLink "TreeDiffer$Reader" (61 : Nat) ({ cls := "TreeDiffer$Node", name := "hasChildWithKey", desc := "(I)Z" } : Jvm.MethodName)) ∈ lw_all := lw_g (lw_at lw_m6 235 rfl) rfl
theorem q1499 : (Jvm.Cond.interfaceEntry "TreeDiffer$Reader" (72 : Nat)) ∈ lw_tbl := lw_at lw_m6 236 rfl
theorem q1500 : (Jvm.Cond.methodLink "TreeDiffer$Reader" (72 : Nat) ({ cls := "java/util/List", name := "size", desc := "()I" } : Jvm.MethodName)) ∈ lw_all := lw_g (lw_at lw_m6 237 rfl) rfl
theorem q1501 : (Jvm.Cond.methodLink "TreeDiffer$Reader" (77 : Nat) ({ cls := "TreeDiffer$Node", name := "add", desc := "(ILTreeDiffer$Node;)V" } : Jvm.MethodName)) ∈ lw_all := lw_g (lw_at lw_m6 238 rfl) rfl
theorem q1502 : (Jvm.Cond.classLink "TreeDiffer$Reader" (88 : Nat) "TreeDiffer$Tree") ∈ lw_all := lw_g (lw_at lw_m6 239 rfl) rfl
theorem q1503 : (Jvm.Cond.methodLink "TreeDiffer$Reader" (90 : Nat) ({ cls := "TreeDiffer$Tree", name := "<init>", desc := "(LTreeDiffer$Node;)V" } : Jvm.MethodName)) ∈ lw_all := lw_g (lw_at lw_m7 0 rfl) rfl
theorem q2565 : (Jvm.Cond.castable "TreeDiffer$Reader" "java/lang/Object") ∈ lw_tbl := lw_at lw_m11 102 rfl
theorem in_X6 : ∀ w ∈ wsX60, w ∈ lw_all := lw_in wsX60 [1436, 1438, 1440] (by decide +kernel) (by decide +kernel)

/-! TreeDiffer$WrongText -/
set_option maxRecDepth 100000
def RX7 : String := "TreeDiffer$WrongText"
def TX7 : u_T := fun k => match k with
  | 0 => ("java/lang/Throwable", "cause", "Ljava/lang/Throwable;", false)
  | 1 => ("java/lang/Throwable", "stackTrace", "[Ljava/lang/StackTraceElement;", false)
  | 2 => ("java/lang/Throwable", "suppressedExceptions", "Ljava/util/List;", false)
  | 3 => ("java/lang/Throwable", "detailMessage", "Ljava/lang/String;", false)
  | 4 => ("java/lang/Throwable", "backtrace", "Ljava/lang/Object;", false)
  | 5 => ("java/lang/Throwable", "depth", "I", false)
  | _ => ("TreeDiffer$WrongText", "position", "I", true)
def tyX7 : Nat → FieldType := fun k => match k with
  | 0 => .object "java/lang/Throwable"
  | 1 => .array (.object "java/lang/StackTraceElement")
  | 2 => .object "java/util/List"
  | 3 => .object "java/lang/String"
  | 4 => .object "java/lang/Object"
  | 5 => .int
  | _ => .int
abbrev wsX70 : List Cond := u_ws RX7 TX7 7
theorem nmX7 : ∀ a, a < 7 → ∀ b, b < 7 → a ≠ b → (TX7 a).2.1 ≠ (TX7 b).2.1 := by decide +kernel
theorem tyX7_ok : ∀ k, k < 7 → parseFieldDescriptor (TX7 k).2.2.1 = some (tyX7 k) := by decide +kernel
abbrev cX7_init : ByteArray := prog_18_method_1_code
def yX7_init : MethodName := ⟨RX7, "<init>", "(I)V"⟩
def dkwX7_init_0 : List UInt8 := [42, 183, 0, 1, 42, 27, 181, 0, 7, 177]
abbrev dktX7_init_0 : List UInt8 := dkwX7_init_0 ++ []
theorem dksX7_init_0 : cX7_init.data.toList.drop 0 = dktX7_init_0 := by decide +kernel
theorem dX7_init_0 : decode cX7_init 0 = .ok (.aload_n 0, 1) := dk_42 (dk_at dksX7_init_0 0 rfl rfl)
theorem dX7_init_1 : decode cX7_init 1 = .ok (.invokespecial 1, 3) := dk_183 0 1 (dk_at dksX7_init_0 1 rfl rfl)
theorem dX7_init_4 : decode cX7_init 4 = .ok (.aload_n 0, 1) := dk_42 (dk_at dksX7_init_0 4 rfl rfl)
theorem dX7_init_5 : decode cX7_init 5 = .ok (.iload_n 1, 1) := dk_27 (dk_at dksX7_init_0 5 rfl rfl)
theorem dX7_init_6 : decode cX7_init 6 = .ok (.putfield 7, 3) := dk_181 0 7 (dk_at dksX7_init_0 6 rfl rfl)
theorem dX7_init_9 : decode cX7_init 9 = .ok (.return_, 1) := dk_177 (dk_at dksX7_init_0 9 rfl rfl)
theorem q89 : (Jvm.Cond.initialized "TreeDiffer$WrongText") ∈ lw_all := lw_g (lw_at lw_m1 26 rfl) rfl
theorem q389 : (Jvm.Cond.selects "TreeDiffer$WrongText" ({ cls := "java/lang/Throwable", name := "fillInStackTrace", desc := "()Ljava/lang/Throwable;" } : Jvm.MethodName) ({ cls := "java/lang/Throwable", name := "fillInStackTrace", desc := "()Ljava/lang/Throwable;" } : Jvm.MethodName)) ∈ lw_all := lw_g (lw_at lw_m2 86 rfl) rfl
theorem q535 : (Jvm.Cond.selects "TreeDiffer$WrongText" ({ cls := "java/lang/Object", name := "getClass", desc := "()Ljava/lang/Class;" } : Jvm.MethodName) ({ cls := "java/lang/Object", name := "getClass", desc := "()Ljava/lang/Class;" } : Jvm.MethodName)) ∈ lw_all := lw_g (lw_at lw_m2 232 rfl) rfl
theorem q1261 : (Jvm.Cond.selects "TreeDiffer$WrongText" ({ cls := "java/lang/Throwable", name := "getLocalizedMessage", desc := "()Ljava/lang/String;" } : Jvm.MethodName) ({ cls := "java/lang/Throwable", name := "getLocalizedMessage", desc := "()Ljava/lang/String;" } : Jvm.MethodName)) ∈ lw_all := lw_g (lw_at lw_m5 238 rfl) rfl
theorem q1279 : (Jvm.Cond.selects "TreeDiffer$WrongText" ({ cls := "java/lang/Throwable", name := "getMessage", desc := "()Ljava/lang/String;" } : Jvm.MethodName) ({ cls := "java/lang/Throwable", name := "getMessage", desc := "()Ljava/lang/String;" } : Jvm.MethodName)) ∈ lw_all := lw_g (lw_at lw_m6 16 rfl) rfl
theorem q1305 : (Jvm.Cond.selects "TreeDiffer$WrongText" ({ cls := "java/lang/Object", name := "toString", desc := "()Ljava/lang/String;" } : Jvm.MethodName) ({ cls := "java/lang/Throwable", name := "toString", desc := "()Ljava/lang/String;" } : Jvm.MethodName)) ∈ lw_all := lw_g (lw_at lw_m6 42 rfl) rfl
theorem q1470 : (Jvm.Cond.instantiable "TreeDiffer$WrongText" (7 : Nat)) ∈ lw_all := lw_g (lw_at lw_m6 207 rfl) rfl
theorem q1471 : (Jvm.Cond.castable "TreeDiffer$WrongText" "TreeDiffer$WrongText") ∈ lw_tbl := lw_at lw_m6 208 rfl
theorem q1472 : (Jvm.Cond.selects "TreeDiffer$WrongText" ({ cls := "java/lang/Throwable", name := "fillInStackTrace", desc := "(I)Ljava/lang/Throwable;" } : Jvm.MethodName) ({ cls := "java/lang/Throwable", name := "fillInStackTrace", desc := "(I)Ljava/lang/Throwable;" } : Jvm.MethodName)) ∈ lw_all := lw_g (lw_at lw_m6 209 rfl) rfl
theorem q1473 : (Jvm.Cond.lays "TreeDiffer$WrongText" "java/lang/Throwable" "cause" "Ljava/lang/Throwable;") ∈ lw_all := lw_g (lw_at lw_m6 210 rfl) rfl
theorem q1474 : (Jvm.Cond.lays "TreeDiffer$WrongText" "java/lang/Throwable" "stackTrace" "[Ljava/lang/StackTraceElement;") ∈ lw_all := lw_g (lw_at lw_m6 211 rfl) rfl
theorem q1475 : (Jvm.Cond.lays "TreeDiffer$WrongText" "java/lang/Throwable" "suppressedExceptions" "Ljava/util/List;") ∈ lw_all := lw_g (lw_at lw_m6 212 rfl) rfl
theorem q1476 : (Jvm.Cond.lays "TreeDiffer$WrongText" "java/lang/Throwable" "detailMessage" "Ljava/lang/String;") ∈ lw_all := lw_g (lw_at lw_m6 213 rfl) rfl
theorem q1477 : (Jvm.Cond.lays "TreeDiffer$WrongText" "java/lang/Throwable" "backtrace" "Ljava/lang/Object;") ∈ lw_all := lw_g (lw_at lw_m6 214 rfl) rfl
theorem q1479 : (Jvm.Cond.instanceMethod ({ cls := "TreeDiffer$WrongText", name := "<init>", desc := "(I)V" } : Jvm.MethodName)) ∈ lw_all := lw_g (lw_at lw_m6 216 rfl) rfl
theorem q1480 : (Jvm.Cond.code ({ cls := "TreeDiffer$WrongText", name := "<init>", desc := "(I)V" } : Jvm.MethodName) prog_18_method_1_code (2 : Nat) (Option.none : Option Jvm.ClassFile.FieldType)) ∈ lw_all := lw_g (lw_at lw_m6 217 rfl) rfl
theorem q1481 : (Jvm.Cond.methodLink "TreeDiffer$WrongText" (1 : Nat) ({ cls := "java/lang/Exception", name := "<init>", desc := "()V" } : Jvm.MethodName)) ∈ lw_all := lw_g (lw_at lw_m6 218 rfl) rfl
theorem q1482 : (Jvm.Cond.fieldLink "TreeDiffer$WrongText" (7 : Nat) "TreeDiffer$WrongText" "position" "I") ∈ lw_all := lw_g (lw_at lw_m6 219 rfl) rfl
theorem q1484 : (Jvm.Cond.laysFinal "TreeDiffer$WrongText" "TreeDiffer$WrongText" "position" "I") ∈ lw_all := lw_g (lw_at lw_m6 221 rfl) rfl
theorem q1485 : (Jvm.Cond.soleField "TreeDiffer$WrongText" "position") ∈ lw_all := lw_g (lw_at lw_m6 222 rfl) rfl
theorem q1486 : (Jvm.Cond.lays "TreeDiffer$WrongText" "java/lang/Throwable" "depth" "I") ∈ lw_all := lw_g (lw_at lw_m6 223 rfl) rfl
theorem q1487 : (Jvm.Cond.superclass "TreeDiffer$WrongText" "java/lang/Exception") ∈ lw_all := lw_g (lw_at lw_m6 224 rfl) rfl
theorem q2566 : (Jvm.Cond.castable "TreeDiffer$WrongText" "java/lang/Object") ∈ lw_tbl := lw_at lw_m11 103 rfl
theorem in_X7 : ∀ w ∈ wsX70, w ∈ lw_all := lw_in wsX70 [1473, 1474, 1475, 1476, 1477, 1486, 1484] (by decide +kernel) (by decide +kernel)

/-! TreeDiffer$Tree$1 -/
set_option maxRecDepth 100000
def RX8 : String := "TreeDiffer$Tree$1"
def TX8 : u_T := fun k => match k with
  | 0 => ("TreeDiffer$Tree$1", "val$rest", "Ljava/util/ArrayDeque;", true)
  | _ => ("TreeDiffer$Tree$1", "this$0", "LTreeDiffer$Tree;", true)
def tyX8 : Nat → FieldType := fun k => match k with
  | 0 => .object "java/util/ArrayDeque"
  | _ => .object "TreeDiffer$Tree"
abbrev wsX80 : List Cond := u_ws RX8 TX8 2
theorem nmX8 : ∀ a, a < 2 → ∀ b, b < 2 → a ≠ b → (TX8 a).2.1 ≠ (TX8 b).2.1 := by decide +kernel
theorem tyX8_ok : ∀ k, k < 2 → parseFieldDescriptor (TX8 k).2.2.1 = some (tyX8 k) := by decide +kernel
abbrev cX8_hasNext : ByteArray := prog_16_method_2_code
def yX8_hasNext : MethodName := ⟨RX8, "hasNext", "()Z"⟩
def dkwX8_hasNext_0 : List UInt8 := [42, 180, 0, 7, 182, 0, 17, 154, 0, 7, 4, 167, 0, 4, 3, 172]
abbrev dktX8_hasNext_0 : List UInt8 := dkwX8_hasNext_0 ++ []
theorem dksX8_hasNext_0 : cX8_hasNext.data.toList.drop 0 = dktX8_hasNext_0 := by decide +kernel
theorem dX8_hasNext_0 : decode cX8_hasNext 0 = .ok (.aload_n 0, 1) := dk_42 (dk_at dksX8_hasNext_0 0 rfl rfl)
theorem dX8_hasNext_1 : decode cX8_hasNext 1 = .ok (.getfield 7, 3) := dk_180 0 7 (dk_at dksX8_hasNext_0 1 rfl rfl)
theorem dX8_hasNext_4 : decode cX8_hasNext 4 = .ok (.invokevirtual 17, 3) := dk_182 0 17 (dk_at dksX8_hasNext_0 4 rfl rfl)
theorem dX8_hasNext_7 : decode cX8_hasNext 7 = .ok (.ifCond .ne 7, 3) := dk_154 0 7 (dk_at dksX8_hasNext_0 7 rfl rfl)
theorem dX8_hasNext_10 : decode cX8_hasNext 10 = .ok (.iconst 1, 1) := dk_4 (dk_at dksX8_hasNext_0 10 rfl rfl)
theorem dX8_hasNext_11 : decode cX8_hasNext 11 = .ok (.goto 4, 3) := dk_167 0 4 (dk_at dksX8_hasNext_0 11 rfl rfl)
theorem dX8_hasNext_14 : decode cX8_hasNext 14 = .ok (.iconst 0, 1) := dk_3 (dk_at dksX8_hasNext_0 14 rfl rfl)
theorem dX8_hasNext_15 : decode cX8_hasNext 15 = .ok (.ireturn, 1) := dk_172 (dk_at dksX8_hasNext_0 15 rfl rfl)
abbrev cX8_next : ByteArray := prog_16_method_4_code
def yX8_next : MethodName := ⟨RX8, "next", "()Ljava/lang/Object;"⟩
theorem dX8_next_0 : decode cX8_next 0 = .ok (.aload_n 0, 1) := by decide +kernel
theorem dX8_next_1 : decode cX8_next 1 = .ok (.invokevirtual 50, 3) := by decide +kernel
theorem dX8_next_4 : decode cX8_next 4 = .ok (.areturn, 1) := by decide +kernel
abbrev cX8_next_2 : ByteArray := prog_16_method_3_code
def yX8_next_2 : MethodName := ⟨RX8, "next", "()LTreeDiffer$Node;"⟩
def dkwX8_next_2_3 : List UInt8 := [167, 255, 229, 43, 176]
abbrev dktX8_next_2_3 : List UInt8 := dkwX8_next_2_3 ++ []
def dkwX8_next_2_2 : List UInt8 := [180, 0, 7, 43, 180, 0, 32, 28, 185, 0, 42, 2, 0, 192, 0, 30, 182, 0, 46, 132, 2, 255]
abbrev dktX8_next_2_2 : List UInt8 := dkwX8_next_2_2 ++ dktX8_next_2_3
def dkwX8_next_2_1 : List UInt8 := [182, 0, 26, 192, 0, 30, 76, 43, 180, 0, 32, 185, 0, 36, 1, 0, 4, 100, 61, 28, 155, 0, 29, 42]
abbrev dktX8_next_2_1 : List UInt8 := dkwX8_next_2_1 ++ dktX8_next_2_2
def dkwX8_next_2_0 : List UInt8 := [42, 180, 0, 7, 182, 0, 17, 153, 0, 11, 187, 0, 23, 89, 183, 0, 25, 191, 42, 180, 0, 7]
abbrev dktX8_next_2_0 : List UInt8 := dkwX8_next_2_0 ++ dktX8_next_2_1
theorem dksX8_next_2_0 : cX8_next_2.data.toList.drop 0 = dktX8_next_2_0 := by decide +kernel
theorem dksX8_next_2_1 : cX8_next_2.data.toList.drop 22 = dktX8_next_2_1 := dk_seg dksX8_next_2_0 22 rfl rfl
theorem dksX8_next_2_2 : cX8_next_2.data.toList.drop 46 = dktX8_next_2_2 := dk_seg dksX8_next_2_1 24 rfl rfl
theorem dksX8_next_2_3 : cX8_next_2.data.toList.drop 68 = dktX8_next_2_3 := dk_seg dksX8_next_2_2 22 rfl rfl
theorem dX8_next_2_0 : decode cX8_next_2 0 = .ok (.aload_n 0, 1) := dk_42 (dk_at dksX8_next_2_0 0 rfl rfl)
theorem dX8_next_2_1 : decode cX8_next_2 1 = .ok (.getfield 7, 3) := dk_180 0 7 (dk_at dksX8_next_2_0 1 rfl rfl)
theorem dX8_next_2_4 : decode cX8_next_2 4 = .ok (.invokevirtual 17, 3) := dk_182 0 17 (dk_at dksX8_next_2_0 4 rfl rfl)
theorem dX8_next_2_7 : decode cX8_next_2 7 = .ok (.ifCond .eq 11, 3) := dk_153 0 11 (dk_at dksX8_next_2_0 7 rfl rfl)
theorem dX8_next_2_10 : decode cX8_next_2 10 = .ok (.new 23, 3) := dk_187 0 23 (dk_at dksX8_next_2_0 10 rfl rfl)
theorem dX8_next_2_13 : decode cX8_next_2 13 = .ok (.dup, 1) := dk_89 (dk_at dksX8_next_2_0 13 rfl rfl)
theorem dX8_next_2_14 : decode cX8_next_2 14 = .ok (.invokespecial 25, 3) := dk_183 0 25 (dk_at dksX8_next_2_0 14 rfl rfl)
theorem dX8_next_2_17 : decode cX8_next_2 17 = .ok (.athrow, 1) := dk_191 (dk_at dksX8_next_2_0 17 rfl rfl)
theorem dX8_next_2_18 : decode cX8_next_2 18 = .ok (.aload_n 0, 1) := dk_42 (dk_at dksX8_next_2_0 18 rfl rfl)
theorem dX8_next_2_19 : decode cX8_next_2 19 = .ok (.getfield 7, 3) := dk_180 0 7 (dk_at dksX8_next_2_0 19 rfl rfl)
theorem dX8_next_2_22 : decode cX8_next_2 22 = .ok (.invokevirtual 26, 3) := dk_182 0 26 (dk_at dksX8_next_2_1 0 rfl rfl)
theorem dX8_next_2_25 : decode cX8_next_2 25 = .ok (.checkcast 30, 3) := dk_192 0 30 (dk_at dksX8_next_2_1 3 rfl rfl)
theorem dX8_next_2_28 : decode cX8_next_2 28 = .ok (.astore_n 1, 1) := dk_76 (dk_at dksX8_next_2_1 6 rfl rfl)
theorem dX8_next_2_29 : decode cX8_next_2 29 = .ok (.aload_n 1, 1) := dk_43 (dk_at dksX8_next_2_1 7 rfl rfl)
theorem dX8_next_2_30 : decode cX8_next_2 30 = .ok (.getfield 32, 3) := dk_180 0 32 (dk_at dksX8_next_2_1 8 rfl rfl)
theorem dX8_next_2_33 : decode cX8_next_2 33 = .ok (.invokeinterface 36 1, 5) := by decide +kernel
theorem dX8_next_2_38 : decode cX8_next_2 38 = .ok (.iconst 1, 1) := dk_4 (dk_at dksX8_next_2_1 16 rfl rfl)
theorem dX8_next_2_39 : decode cX8_next_2 39 = .ok (.isub, 1) := dk_100 (dk_at dksX8_next_2_1 17 rfl rfl)
theorem dX8_next_2_40 : decode cX8_next_2 40 = .ok (.istore_n 2, 1) := dk_61 (dk_at dksX8_next_2_1 18 rfl rfl)
theorem dX8_next_2_41 : decode cX8_next_2 41 = .ok (.iload_n 2, 1) := dk_28 (dk_at dksX8_next_2_1 19 rfl rfl)
theorem dX8_next_2_42 : decode cX8_next_2 42 = .ok (.ifCond .lt 29, 3) := dk_155 0 29 (dk_at dksX8_next_2_1 20 rfl rfl)
theorem dX8_next_2_45 : decode cX8_next_2 45 = .ok (.aload_n 0, 1) := dk_42 (dk_at dksX8_next_2_1 23 rfl rfl)
theorem dX8_next_2_46 : decode cX8_next_2 46 = .ok (.getfield 7, 3) := dk_180 0 7 (dk_at dksX8_next_2_2 0 rfl rfl)
theorem dX8_next_2_49 : decode cX8_next_2 49 = .ok (.aload_n 1, 1) := dk_43 (dk_at dksX8_next_2_2 3 rfl rfl)
theorem dX8_next_2_50 : decode cX8_next_2 50 = .ok (.getfield 32, 3) := dk_180 0 32 (dk_at dksX8_next_2_2 4 rfl rfl)
theorem dX8_next_2_53 : decode cX8_next_2 53 = .ok (.iload_n 2, 1) := dk_28 (dk_at dksX8_next_2_2 7 rfl rfl)
theorem dX8_next_2_54 : decode cX8_next_2 54 = .ok (.invokeinterface 42 2, 5) := by decide +kernel
theorem dX8_next_2_59 : decode cX8_next_2 59 = .ok (.checkcast 30, 3) := dk_192 0 30 (dk_at dksX8_next_2_2 13 rfl rfl)
theorem dX8_next_2_62 : decode cX8_next_2 62 = .ok (.invokevirtual 46, 3) := dk_182 0 46 (dk_at dksX8_next_2_2 16 rfl rfl)
theorem dX8_next_2_65 : decode cX8_next_2 65 = .ok (.iinc 2 (-1), 3) := dk_132 2 255 (dk_at dksX8_next_2_2 19 rfl rfl)
theorem dX8_next_2_68 : decode cX8_next_2 68 = .ok (.goto (-27), 3) := dk_167 255 229 (dk_at dksX8_next_2_3 0 rfl rfl)
theorem dX8_next_2_71 : decode cX8_next_2 71 = .ok (.aload_n 1, 1) := dk_43 (dk_at dksX8_next_2_3 3 rfl rfl)
theorem dX8_next_2_72 : decode cX8_next_2 72 = .ok (.areturn, 1) := dk_176 (dk_at dksX8_next_2_3 4 rfl rfl)
abbrev cX8_init : ByteArray := prog_16_method_1_code
def yX8_init : MethodName := ⟨RX8, "<init>", "(LTreeDiffer$Tree;Ljava/util/ArrayDeque;)V"⟩
def dkwX8_init_0 : List UInt8 := [42, 43, 181, 0, 1, 42, 44, 181, 0, 7, 42, 183, 0, 11, 177]
abbrev dktX8_init_0 : List UInt8 := dkwX8_init_0 ++ []
theorem dksX8_init_0 : cX8_init.data.toList.drop 0 = dktX8_init_0 := by decide +kernel
theorem dX8_init_0 : decode cX8_init 0 = .ok (.aload_n 0, 1) := dk_42 (dk_at dksX8_init_0 0 rfl rfl)
theorem dX8_init_1 : decode cX8_init 1 = .ok (.aload_n 1, 1) := dk_43 (dk_at dksX8_init_0 1 rfl rfl)
theorem dX8_init_2 : decode cX8_init 2 = .ok (.putfield 1, 3) := dk_181 0 1 (dk_at dksX8_init_0 2 rfl rfl)
theorem dX8_init_5 : decode cX8_init 5 = .ok (.aload_n 0, 1) := dk_42 (dk_at dksX8_init_0 5 rfl rfl)
theorem dX8_init_6 : decode cX8_init 6 = .ok (.aload_n 2, 1) := dk_44 (dk_at dksX8_init_0 6 rfl rfl)
theorem dX8_init_7 : decode cX8_init 7 = .ok (.putfield 7, 3) := dk_181 0 7 (dk_at dksX8_init_0 7 rfl rfl)
theorem dX8_init_10 : decode cX8_init 10 = .ok (.aload_n 0, 1) := dk_42 (dk_at dksX8_init_0 10 rfl rfl)
theorem dX8_init_11 : decode cX8_init 11 = .ok (.invokespecial 11, 3) := dk_183 0 11 (dk_at dksX8_init_0 11 rfl rfl)
theorem dX8_init_14 : decode cX8_init 14 = .ok (.return_, 1) := dk_177 (dk_at dksX8_init_0 14 rfl rfl)
theorem q98 : (Jvm.Cond.initialized "TreeDiffer$Tree$1") ∈ lw_all := lw_g (lw_at lw_m1 35 rfl) rfl
theorem q211 : (Jvm.Cond.fieldLinkNest "TreeDiffer$Tree$1" (32 : Nat) "TreeDiffer$Node" "children" "Ljava/util/List;" "TreeDiffer") ∈ lw_tbl := lw_at lw_m1 148 rfl
theorem q322 : (Jvm.Cond.castable "TreeDiffer$Tree$1" "java/util/Iterator") ∈ lw_tbl := lw_at lw_m2 19 rfl
theorem q323 : (Jvm.Cond.selects "TreeDiffer$Tree$1" ({ cls := "java/util/Iterator", name := "hasNext", desc := "()Z" } : Jvm.MethodName) ({ cls := "TreeDiffer$Tree$1", name := "hasNext", desc := "()Z" } : Jvm.MethodName)) ∈ lw_all := lw_g (lw_at lw_m2 20 rfl) rfl
theorem q324 : (Jvm.Cond.unhidden "TreeDiffer$Tree$1" "hasNext" "()Z") ∈ lw_tbl := lw_at lw_m2 21 rfl
theorem q325 : (Jvm.Cond.instanceMethod ({ cls := "TreeDiffer$Tree$1", name := "hasNext", desc := "()Z" } : Jvm.MethodName)) ∈ lw_all := lw_g (lw_at lw_m2 22 rfl) rfl
theorem q326 : (Jvm.Cond.publicMethod ({ cls := "TreeDiffer$Tree$1", name := "hasNext", desc := "()Z" } : Jvm.MethodName)) ∈ lw_tbl := lw_at lw_m2 23 rfl
theorem q327 : (Jvm.Cond.code ({ cls := "TreeDiffer$Tree$1", name := "hasNext", desc := "()Z" } : Jvm.MethodName) prog_16_method_2_code (1 : Nat) (Option.some Jvm.ClassFile.FieldType.boolean)) ∈ lw_all := lw_g (lw_at lw_m2 24 rfl) rfl
theorem q328 : (Jvm.Cond.methodLink "TreeDiffer$Tree$1" (17 : Nat) ({ cls := "java/util/ArrayDeque", name := "isEmpty", desc := "()Z" } : Jvm.MethodName)) ∈ lw_all := lw_g (lw_at lw_m2 25 rfl) rfl
theorem q342 : (Jvm.Cond.selects "TreeDiffer$Tree$1" ({ cls := "java/util/Iterator", name := "next", desc := "()Ljava/lang/Object;" } : Jvm.MethodName) ({ cls := "TreeDiffer$Tree$1", name := "next", desc := "()Ljava/lang/Object;" } : Jvm.MethodName)) ∈ lw_all := lw_g (lw_at lw_m2 39 rfl) rfl
theorem q343 : (Jvm.Cond.unhidden "TreeDiffer$Tree$1" "next" "()Ljava/lang/Object;") ∈ lw_tbl := lw_at lw_m2 40 rfl
theorem q344 : (Jvm.Cond.instanceMethod ({ cls := "TreeDiffer$Tree$1", name := "next", desc := "()Ljava/lang/Object;" } : Jvm.MethodName)) ∈ lw_all := lw_g (lw_at lw_m2 41 rfl) rfl
theorem q345 : (Jvm.Cond.publicMethod ({ cls := "TreeDiffer$Tree$1", name := "next", desc := "()Ljava/lang/Object;" } : Jvm.MethodName)) ∈ lw_tbl := lw_at lw_m2 42 rfl
theorem q346 : (Jvm.Cond.code ({ cls := "TreeDiffer$Tree$1", name := "next", desc := "()Ljava/lang/Object;" } : Jvm.MethodName) prog_16_method_4_code (1 : Nat) (Option.some (Jvm.ClassFile.FieldType.object "java/lang/Object"))) ∈ lw_all := lw_g (lw_at lw_m2 43 rfl) rfl
theorem q347 : (Jvm.Cond.methodLink "TreeDiffer$Tree$1" (50 : Nat) ({ cls := "TreeDiffer$Tree$1", name := "next", desc := "()LTreeDiffer$Node;" } : Jvm.MethodName)) ∈ lw_all := lw_g (lw_at lw_m2 44 rfl) rfl
theorem q348 : (Jvm.Cond.instanceMethod ({ cls := "TreeDiffer$Tree$1", name := "next", desc := "()LTreeDiffer$Node;" } : Jvm.MethodName)) ∈ lw_all := lw_g (lw_at lw_m2 45 rfl) rfl
theorem q349 : (Jvm.Cond.selects "TreeDiffer$Tree$1" ({ cls := "TreeDiffer$Tree$1", name := "next", desc := "()LTreeDiffer$Node;" } : Jvm.MethodName) ({ cls := "TreeDiffer$Tree$1", name := "next", desc := "()LTreeDiffer$Node;" } : Jvm.MethodName)) ∈ lw_all := lw_g (lw_at lw_m2 46 rfl) rfl
theorem q350 : (Jvm.Cond.code ({ cls := "TreeDiffer$Tree$1", name := "next", desc := "()LTreeDiffer$Node;" } : Jvm.MethodName) prog_16_method_3_code (3 : Nat) (Option.some (Jvm.ClassFile.FieldType.object "TreeDiffer$Node"))) ∈ lw_all := lw_g (lw_at lw_m2 47 rfl) rfl
theorem q351 : (Jvm.Cond.classLink "TreeDiffer$Tree$1" (23 : Nat) "java/util/NoSuchElementException") ∈ lw_all := lw_g (lw_at lw_m2 48 rfl) rfl
theorem q403 : (Jvm.Cond.methodLink "TreeDiffer$Tree$1" (25 : Nat) ({ cls := "java/util/NoSuchElementException", name := "<init>", desc := "()V" } : Jvm.MethodName)) ∈ lw_all := lw_g (lw_at lw_m2 100 rfl) rfl
theorem q426 : (Jvm.Cond.methodLink "TreeDiffer$Tree$1" (26 : Nat) ({ cls := "java/util/ArrayDeque", name := "removeLast", desc := "()Ljava/lang/Object;" } : Jvm.MethodName)) ∈ lw_all := lw_g (lw_at lw_m2 123 rfl) rfl
theorem q442 : (Jvm.Cond.classLink "TreeDiffer$Tree$1" (30 : Nat) "TreeDiffer$Node") ∈ lw_all := lw_g (lw_at lw_m2 139 rfl) rfl
theorem q443 : (Jvm.Cond.interfaceEntry "TreeDiffer$Tree$1" (36 : Nat)) ∈ lw_tbl := lw_at lw_m2 140 rfl
theorem q444 : (Jvm.Cond.methodLink "TreeDiffer$Tree$1" (36 : Nat) ({ cls := "java/util/List", name := "size", desc := "()I" } : Jvm.MethodName)) ∈ lw_all := lw_g (lw_at lw_m2 141 rfl) rfl
theorem q452 : (Jvm.Cond.interfaceEntry "TreeDiffer$Tree$1" (42 : Nat)) ∈ lw_tbl := lw_at lw_m2 149 rfl
theorem q453 : (Jvm.Cond.methodLink "TreeDiffer$Tree$1" (42 : Nat) ({ cls := "java/util/List", name := "get", desc := "(I)Ljava/lang/Object;" } : Jvm.MethodName)) ∈ lw_all := lw_g (lw_at lw_m2 150 rfl) rfl
theorem q471 : (Jvm.Cond.methodLink "TreeDiffer$Tree$1" (46 : Nat) ({ cls := "java/util/ArrayDeque", name := "addLast", desc := "(Ljava/lang/Object;)V" } : Jvm.MethodName)) ∈ lw_all := lw_g (lw_at lw_m2 168 rfl) rfl
theorem q534 : (Jvm.Cond.selects "TreeDiffer$Tree$1" ({ cls := "java/lang/Object", name := "getClass", desc := "()Ljava/lang/Class;" } : Jvm.MethodName) ({ cls := "java/lang/Object", name := "getClass", desc := "()Ljava/lang/Class;" } : Jvm.MethodName)) ∈ lw_all := lw_g (lw_at lw_m2 231 rfl) rfl
theorem q972 : (Jvm.Cond.instantiable "TreeDiffer$Tree$1" (2 : Nat)) ∈ lw_all := lw_g (lw_at lw_m4 189 rfl) rfl
theorem q974 : (Jvm.Cond.instanceMethod ({ cls := "TreeDiffer$Tree$1", name := "<init>", desc := "(LTreeDiffer$Tree;Ljava/util/ArrayDeque;)V" } : Jvm.MethodName)) ∈ lw_all := lw_g (lw_at lw_m4 191 rfl) rfl
theorem q975 : (Jvm.Cond.code ({ cls := "TreeDiffer$Tree$1", name := "<init>", desc := "(LTreeDiffer$Tree;Ljava/util/ArrayDeque;)V" } : Jvm.MethodName) prog_16_method_1_code (3 : Nat) (Option.none : Option Jvm.ClassFile.FieldType)) ∈ lw_all := lw_g (lw_at lw_m4 192 rfl) rfl
theorem q976 : (Jvm.Cond.methodLink "TreeDiffer$Tree$1" (11 : Nat) ({ cls := "java/lang/Object", name := "<init>", desc := "()V" } : Jvm.MethodName)) ∈ lw_all := lw_g (lw_at lw_m4 193 rfl) rfl
theorem q977 : (Jvm.Cond.fieldLink "TreeDiffer$Tree$1" (7 : Nat) "TreeDiffer$Tree$1" "val$rest" "Ljava/util/ArrayDeque;") ∈ lw_all := lw_g (lw_at lw_m4 194 rfl) rfl
theorem q978 : (Jvm.Cond.fieldLink "TreeDiffer$Tree$1" (1 : Nat) "TreeDiffer$Tree$1" "this$0" "LTreeDiffer$Tree;") ∈ lw_all := lw_g (lw_at lw_m4 195 rfl) rfl
theorem q979 : (Jvm.Cond.laysFinal "TreeDiffer$Tree$1" "TreeDiffer$Tree$1" "val$rest" "Ljava/util/ArrayDeque;") ∈ lw_all := lw_g (lw_at lw_m4 196 rfl) rfl
theorem q980 : (Jvm.Cond.soleField "TreeDiffer$Tree$1" "val$rest") ∈ lw_all := lw_g (lw_at lw_m4 197 rfl) rfl
theorem q981 : (Jvm.Cond.laysFinal "TreeDiffer$Tree$1" "TreeDiffer$Tree$1" "this$0" "LTreeDiffer$Tree;") ∈ lw_all := lw_g (lw_at lw_m4 198 rfl) rfl
theorem q982 : (Jvm.Cond.soleField "TreeDiffer$Tree$1" "this$0") ∈ lw_all := lw_g (lw_at lw_m4 199 rfl) rfl
theorem q983 : (Jvm.Cond.superclass "TreeDiffer$Tree$1" "java/lang/Object") ∈ lw_all := lw_g (lw_at lw_m4 200 rfl) rfl
theorem q1304 : (Jvm.Cond.selects "TreeDiffer$Tree$1" ({ cls := "java/lang/Object", name := "toString", desc := "()Ljava/lang/String;" } : Jvm.MethodName) ({ cls := "java/lang/Object", name := "toString", desc := "()Ljava/lang/String;" } : Jvm.MethodName)) ∈ lw_all := lw_g (lw_at lw_m6 41 rfl) rfl
theorem q1857 : (Jvm.Cond.unhidden "TreeDiffer$Tree$1" "remove" "()V") ∈ lw_tbl := lw_at lw_m8 114 rfl
theorem q2573 : (Jvm.Cond.castable "TreeDiffer$Tree$1" "java/lang/Object") ∈ lw_tbl := lw_at lw_m11 110 rfl
theorem in_X8 : ∀ w ∈ wsX80, w ∈ lw_all := lw_in wsX80 [979, 981] (by decide +kernel) (by decide +kernel)

/-! TreeDiffer$Table -/
set_option maxRecDepth 100000
def RX9 : String := "TreeDiffer$Table"
def TX9 : u_T := fun k => match k with
  | 0 => ("TreeDiffer$Table", "x", "LTreeDiffer$Node;", true)
  | 1 => ("TreeDiffer$Table", "y", "LTreeDiffer$Node;", true)
  | 2 => ("TreeDiffer$Table", "width", "I", true)
  | _ => ("TreeDiffer$Table", "costs", "[I", true)
def tyX9 : Nat → FieldType := fun k => match k with
  | 0 => .object "TreeDiffer$Node"
  | 1 => .object "TreeDiffer$Node"
  | 2 => .int
  | _ => .array .int
abbrev wsX90 : List Cond := u_ws RX9 TX9 4
theorem nmX9 : ∀ a, a < 4 → ∀ b, b < 4 → a ≠ b → (TX9 a).2.1 ≠ (TX9 b).2.1 := by decide +kernel
theorem tyX9_ok : ∀ k, k < 4 → parseFieldDescriptor (TX9 k).2.2.1 = some (tyX9 k) := by decide +kernel
abbrev cX9_init : ByteArray := prog_14_method_1_code
def yX9_init : MethodName := ⟨RX9, "<init>", "(LTreeDiffer$Node;LTreeDiffer$Node;)V"⟩
def dkwX9_init_4 : List UInt8 := [96, 42, 29, 21, 4, 182, 0, 38, 79, 132, 4, 255, 167, 255, 227, 132, 3, 255, 167, 255, 206, 177]
abbrev dktX9_init_4 : List UInt8 := dkwX9_init_4 ++ []
def dkwX9_init_3 : List UInt8 := [185, 0, 24, 1, 0, 54, 4, 21, 4, 155, 0, 30, 42, 180, 0, 34, 29, 42, 180, 0, 30, 104, 21, 4]
abbrev dktX9_init_3 : List UInt8 := dkwX9_init_3 ++ dktX9_init_4
def dkwX9_init_2 : List UInt8 := [181, 0, 34, 43, 180, 0, 18, 185, 0, 24, 1, 0, 62, 29, 155, 0, 52, 44, 180, 0, 18]
abbrev dktX9_init_2 : List UInt8 := dkwX9_init_2 ++ dktX9_init_3
def dkwX9_init_1 : List UInt8 := [4, 96, 181, 0, 30, 42, 43, 180, 0, 18, 185, 0, 24, 1, 0, 4, 96, 42, 180, 0, 30, 104, 188, 10]
abbrev dktX9_init_1 : List UInt8 := dkwX9_init_1 ++ dktX9_init_2
def dkwX9_init_0 : List UInt8 := [42, 183, 0, 3, 42, 43, 181, 0, 9, 42, 44, 181, 0, 15, 42, 44, 180, 0, 18, 185, 0, 24, 1, 0]
abbrev dktX9_init_0 : List UInt8 := dkwX9_init_0 ++ dktX9_init_1
theorem dksX9_init_0 : cX9_init.data.toList.drop 0 = dktX9_init_0 := by decide +kernel
theorem dksX9_init_1 : cX9_init.data.toList.drop 24 = dktX9_init_1 := dk_seg dksX9_init_0 24 rfl rfl
theorem dksX9_init_2 : cX9_init.data.toList.drop 48 = dktX9_init_2 := dk_seg dksX9_init_1 24 rfl rfl
theorem dksX9_init_3 : cX9_init.data.toList.drop 69 = dktX9_init_3 := dk_seg dksX9_init_2 21 rfl rfl
theorem dksX9_init_4 : cX9_init.data.toList.drop 93 = dktX9_init_4 := dk_seg dksX9_init_3 24 rfl rfl
theorem dX9_init_0 : decode cX9_init 0 = .ok (.aload_n 0, 1) := dk_42 (dk_at dksX9_init_0 0 rfl rfl)
theorem dX9_init_1 : decode cX9_init 1 = .ok (.invokespecial 3, 3) := dk_183 0 3 (dk_at dksX9_init_0 1 rfl rfl)
theorem dX9_init_4 : decode cX9_init 4 = .ok (.aload_n 0, 1) := dk_42 (dk_at dksX9_init_0 4 rfl rfl)
theorem dX9_init_5 : decode cX9_init 5 = .ok (.aload_n 1, 1) := dk_43 (dk_at dksX9_init_0 5 rfl rfl)
theorem dX9_init_6 : decode cX9_init 6 = .ok (.putfield 9, 3) := dk_181 0 9 (dk_at dksX9_init_0 6 rfl rfl)
theorem dX9_init_9 : decode cX9_init 9 = .ok (.aload_n 0, 1) := dk_42 (dk_at dksX9_init_0 9 rfl rfl)
theorem dX9_init_10 : decode cX9_init 10 = .ok (.aload_n 2, 1) := dk_44 (dk_at dksX9_init_0 10 rfl rfl)
theorem dX9_init_11 : decode cX9_init 11 = .ok (.putfield 15, 3) := dk_181 0 15 (dk_at dksX9_init_0 11 rfl rfl)
theorem dX9_init_14 : decode cX9_init 14 = .ok (.aload_n 0, 1) := dk_42 (dk_at dksX9_init_0 14 rfl rfl)
theorem dX9_init_15 : decode cX9_init 15 = .ok (.aload_n 2, 1) := dk_44 (dk_at dksX9_init_0 15 rfl rfl)
theorem dX9_init_16 : decode cX9_init 16 = .ok (.getfield 18, 3) := dk_180 0 18 (dk_at dksX9_init_0 16 rfl rfl)
theorem dX9_init_19 : decode cX9_init 19 = .ok (.invokeinterface 24 1, 5) := by decide +kernel
theorem dX9_init_24 : decode cX9_init 24 = .ok (.iconst 1, 1) := dk_4 (dk_at dksX9_init_1 0 rfl rfl)
theorem dX9_init_25 : decode cX9_init 25 = .ok (.iadd, 1) := dk_96 (dk_at dksX9_init_1 1 rfl rfl)
theorem dX9_init_26 : decode cX9_init 26 = .ok (.putfield 30, 3) := dk_181 0 30 (dk_at dksX9_init_1 2 rfl rfl)
theorem dX9_init_29 : decode cX9_init 29 = .ok (.aload_n 0, 1) := dk_42 (dk_at dksX9_init_1 5 rfl rfl)
theorem dX9_init_30 : decode cX9_init 30 = .ok (.aload_n 1, 1) := dk_43 (dk_at dksX9_init_1 6 rfl rfl)
theorem dX9_init_31 : decode cX9_init 31 = .ok (.getfield 18, 3) := dk_180 0 18 (dk_at dksX9_init_1 7 rfl rfl)
theorem dX9_init_34 : decode cX9_init 34 = .ok (.invokeinterface 24 1, 5) := by decide +kernel
theorem dX9_init_39 : decode cX9_init 39 = .ok (.iconst 1, 1) := dk_4 (dk_at dksX9_init_1 15 rfl rfl)
theorem dX9_init_40 : decode cX9_init 40 = .ok (.iadd, 1) := dk_96 (dk_at dksX9_init_1 16 rfl rfl)
theorem dX9_init_41 : decode cX9_init 41 = .ok (.aload_n 0, 1) := dk_42 (dk_at dksX9_init_1 17 rfl rfl)
theorem dX9_init_42 : decode cX9_init 42 = .ok (.getfield 30, 3) := dk_180 0 30 (dk_at dksX9_init_1 18 rfl rfl)
theorem dX9_init_45 : decode cX9_init 45 = .ok (.imul, 1) := dk_104 (dk_at dksX9_init_1 21 rfl rfl)
theorem dX9_init_46 : decode cX9_init 46 = .ok (.newarray .int, 2) := dk_188_10 (dk_at dksX9_init_1 22 rfl rfl)
theorem dX9_init_48 : decode cX9_init 48 = .ok (.putfield 34, 3) := dk_181 0 34 (dk_at dksX9_init_2 0 rfl rfl)
theorem dX9_init_51 : decode cX9_init 51 = .ok (.aload_n 1, 1) := dk_43 (dk_at dksX9_init_2 3 rfl rfl)
theorem dX9_init_52 : decode cX9_init 52 = .ok (.getfield 18, 3) := dk_180 0 18 (dk_at dksX9_init_2 4 rfl rfl)
theorem dX9_init_55 : decode cX9_init 55 = .ok (.invokeinterface 24 1, 5) := by decide +kernel
theorem dX9_init_60 : decode cX9_init 60 = .ok (.istore_n 3, 1) := dk_62 (dk_at dksX9_init_2 12 rfl rfl)
theorem dX9_init_61 : decode cX9_init 61 = .ok (.iload_n 3, 1) := dk_29 (dk_at dksX9_init_2 13 rfl rfl)
theorem dX9_init_62 : decode cX9_init 62 = .ok (.ifCond .lt 52, 3) := dk_155 0 52 (dk_at dksX9_init_2 14 rfl rfl)
theorem dX9_init_65 : decode cX9_init 65 = .ok (.aload_n 2, 1) := dk_44 (dk_at dksX9_init_2 17 rfl rfl)
theorem dX9_init_66 : decode cX9_init 66 = .ok (.getfield 18, 3) := dk_180 0 18 (dk_at dksX9_init_2 18 rfl rfl)
theorem dX9_init_69 : decode cX9_init 69 = .ok (.invokeinterface 24 1, 5) := by decide +kernel
theorem dX9_init_74 : decode cX9_init 74 = .ok (.istore 4, 2) := dk_54 4 (dk_at dksX9_init_3 5 rfl rfl)
theorem dX9_init_76 : decode cX9_init 76 = .ok (.iload 4, 2) := dk_21 4 (dk_at dksX9_init_3 7 rfl rfl)
theorem dX9_init_78 : decode cX9_init 78 = .ok (.ifCond .lt 30, 3) := dk_155 0 30 (dk_at dksX9_init_3 9 rfl rfl)
theorem dX9_init_81 : decode cX9_init 81 = .ok (.aload_n 0, 1) := dk_42 (dk_at dksX9_init_3 12 rfl rfl)
theorem dX9_init_82 : decode cX9_init 82 = .ok (.getfield 34, 3) := dk_180 0 34 (dk_at dksX9_init_3 13 rfl rfl)
theorem dX9_init_85 : decode cX9_init 85 = .ok (.iload_n 3, 1) := dk_29 (dk_at dksX9_init_3 16 rfl rfl)
theorem dX9_init_86 : decode cX9_init 86 = .ok (.aload_n 0, 1) := dk_42 (dk_at dksX9_init_3 17 rfl rfl)
theorem dX9_init_87 : decode cX9_init 87 = .ok (.getfield 30, 3) := dk_180 0 30 (dk_at dksX9_init_3 18 rfl rfl)
theorem dX9_init_90 : decode cX9_init 90 = .ok (.imul, 1) := dk_104 (dk_at dksX9_init_3 21 rfl rfl)
theorem dX9_init_91 : decode cX9_init 91 = .ok (.iload 4, 2) := dk_21 4 (dk_at dksX9_init_3 22 rfl rfl)
theorem dX9_init_93 : decode cX9_init 93 = .ok (.iadd, 1) := dk_96 (dk_at dksX9_init_4 0 rfl rfl)
theorem dX9_init_94 : decode cX9_init 94 = .ok (.aload_n 0, 1) := dk_42 (dk_at dksX9_init_4 1 rfl rfl)
theorem dX9_init_95 : decode cX9_init 95 = .ok (.iload_n 3, 1) := dk_29 (dk_at dksX9_init_4 2 rfl rfl)
theorem dX9_init_96 : decode cX9_init 96 = .ok (.iload 4, 2) := dk_21 4 (dk_at dksX9_init_4 3 rfl rfl)
theorem dX9_init_98 : decode cX9_init 98 = .ok (.invokevirtual 38, 3) := dk_182 0 38 (dk_at dksX9_init_4 5 rfl rfl)
theorem dX9_init_101 : decode cX9_init 101 = .ok (.iastore, 1) := dk_79 (dk_at dksX9_init_4 8 rfl rfl)
theorem dX9_init_102 : decode cX9_init 102 = .ok (.iinc 4 (-1), 3) := dk_132 4 255 (dk_at dksX9_init_4 9 rfl rfl)
theorem dX9_init_105 : decode cX9_init 105 = .ok (.goto (-29), 3) := dk_167 255 227 (dk_at dksX9_init_4 12 rfl rfl)
theorem dX9_init_108 : decode cX9_init 108 = .ok (.iinc 3 (-1), 3) := dk_132 3 255 (dk_at dksX9_init_4 15 rfl rfl)
theorem dX9_init_111 : decode cX9_init 111 = .ok (.goto (-50), 3) := dk_167 255 206 (dk_at dksX9_init_4 18 rfl rfl)
theorem dX9_init_114 : decode cX9_init 114 = .ok (.return_, 1) := dk_177 (dk_at dksX9_init_4 21 rfl rfl)
abbrev cX9_least : ByteArray := prog_14_method_7_code
def yX9_least : MethodName := ⟨RX9, "least", "(II)I"⟩
def dkwX9_least_4 : List UInt8 := [182, 0, 72, 184, 0, 63, 167, 0, 4, 29, 172]
abbrev dktX9_least_4 : List UInt8 := dkwX9_least_4 ++ []
def dkwX9_least_3 : List UInt8 := [42, 27, 28, 182, 0, 57, 184, 0, 63, 62, 42, 27, 28, 182, 0, 68, 153, 0, 16, 29, 42, 27, 28]
abbrev dktX9_least_3 : List UInt8 := dkwX9_least_3 ++ dktX9_least_4
def dkwX9_least_2 : List UInt8 := [180, 0, 18, 185, 0, 24, 1, 0, 160, 0, 10, 42, 27, 28, 182, 0, 60, 172, 42, 27, 28, 182, 0, 60]
abbrev dktX9_least_2 : List UInt8 := dkwX9_least_2 ++ dktX9_least_3
def dkwX9_least_1 : List UInt8 := [185, 0, 24, 1, 0, 160, 0, 7, 3, 167, 0, 9, 42, 27, 28, 182, 0, 57, 172, 28, 42, 180, 0, 15]
abbrev dktX9_least_1 : List UInt8 := dkwX9_least_1 ++ dktX9_least_2
def dkwX9_least_0 : List UInt8 := [27, 42, 180, 0, 9, 180, 0, 18, 185, 0, 24, 1, 0, 160, 0, 30, 28, 42, 180, 0, 15, 180, 0, 18]
abbrev dktX9_least_0 : List UInt8 := dkwX9_least_0 ++ dktX9_least_1
theorem dksX9_least_0 : cX9_least.data.toList.drop 0 = dktX9_least_0 := by decide +kernel
theorem dksX9_least_1 : cX9_least.data.toList.drop 24 = dktX9_least_1 := dk_seg dksX9_least_0 24 rfl rfl
theorem dksX9_least_2 : cX9_least.data.toList.drop 48 = dktX9_least_2 := dk_seg dksX9_least_1 24 rfl rfl
theorem dksX9_least_3 : cX9_least.data.toList.drop 72 = dktX9_least_3 := dk_seg dksX9_least_2 24 rfl rfl
theorem dksX9_least_4 : cX9_least.data.toList.drop 95 = dktX9_least_4 := dk_seg dksX9_least_3 23 rfl rfl
theorem dX9_least_0 : decode cX9_least 0 = .ok (.iload_n 1, 1) := dk_27 (dk_at dksX9_least_0 0 rfl rfl)
theorem dX9_least_1 : decode cX9_least 1 = .ok (.aload_n 0, 1) := dk_42 (dk_at dksX9_least_0 1 rfl rfl)
theorem dX9_least_2 : decode cX9_least 2 = .ok (.getfield 9, 3) := dk_180 0 9 (dk_at dksX9_least_0 2 rfl rfl)
theorem dX9_least_5 : decode cX9_least 5 = .ok (.getfield 18, 3) := dk_180 0 18 (dk_at dksX9_least_0 5 rfl rfl)
theorem dX9_least_8 : decode cX9_least 8 = .ok (.invokeinterface 24 1, 5) := by decide +kernel
theorem dX9_least_13 : decode cX9_least 13 = .ok (.if_icmp .ne 30, 3) := dk_160 0 30 (dk_at dksX9_least_0 13 rfl rfl)
theorem dX9_least_16 : decode cX9_least 16 = .ok (.iload_n 2, 1) := dk_28 (dk_at dksX9_least_0 16 rfl rfl)
theorem dX9_least_17 : decode cX9_least 17 = .ok (.aload_n 0, 1) := dk_42 (dk_at dksX9_least_0 17 rfl rfl)
theorem dX9_least_18 : decode cX9_least 18 = .ok (.getfield 15, 3) := dk_180 0 15 (dk_at dksX9_least_0 18 rfl rfl)
theorem dX9_least_21 : decode cX9_least 21 = .ok (.getfield 18, 3) := dk_180 0 18 (dk_at dksX9_least_0 21 rfl rfl)
theorem dX9_least_24 : decode cX9_least 24 = .ok (.invokeinterface 24 1, 5) := by decide +kernel
theorem dX9_least_29 : decode cX9_least 29 = .ok (.if_icmp .ne 7, 3) := dk_160 0 7 (dk_at dksX9_least_1 5 rfl rfl)
theorem dX9_least_32 : decode cX9_least 32 = .ok (.iconst 0, 1) := dk_3 (dk_at dksX9_least_1 8 rfl rfl)
theorem dX9_least_33 : decode cX9_least 33 = .ok (.goto 9, 3) := dk_167 0 9 (dk_at dksX9_least_1 9 rfl rfl)
theorem dX9_least_36 : decode cX9_least 36 = .ok (.aload_n 0, 1) := dk_42 (dk_at dksX9_least_1 12 rfl rfl)
theorem dX9_least_37 : decode cX9_least 37 = .ok (.iload_n 1, 1) := dk_27 (dk_at dksX9_least_1 13 rfl rfl)
theorem dX9_least_38 : decode cX9_least 38 = .ok (.iload_n 2, 1) := dk_28 (dk_at dksX9_least_1 14 rfl rfl)
theorem dX9_least_39 : decode cX9_least 39 = .ok (.invokevirtual 57, 3) := dk_182 0 57 (dk_at dksX9_least_1 15 rfl rfl)
theorem dX9_least_42 : decode cX9_least 42 = .ok (.ireturn, 1) := dk_172 (dk_at dksX9_least_1 18 rfl rfl)
theorem dX9_least_43 : decode cX9_least 43 = .ok (.iload_n 2, 1) := dk_28 (dk_at dksX9_least_1 19 rfl rfl)
theorem dX9_least_44 : decode cX9_least 44 = .ok (.aload_n 0, 1) := dk_42 (dk_at dksX9_least_1 20 rfl rfl)
theorem dX9_least_45 : decode cX9_least 45 = .ok (.getfield 15, 3) := dk_180 0 15 (dk_at dksX9_least_1 21 rfl rfl)
theorem dX9_least_48 : decode cX9_least 48 = .ok (.getfield 18, 3) := dk_180 0 18 (dk_at dksX9_least_2 0 rfl rfl)
theorem dX9_least_51 : decode cX9_least 51 = .ok (.invokeinterface 24 1, 5) := by decide +kernel
theorem dX9_least_56 : decode cX9_least 56 = .ok (.if_icmp .ne 10, 3) := dk_160 0 10 (dk_at dksX9_least_2 8 rfl rfl)
theorem dX9_least_59 : decode cX9_least 59 = .ok (.aload_n 0, 1) := dk_42 (dk_at dksX9_least_2 11 rfl rfl)
theorem dX9_least_60 : decode cX9_least 60 = .ok (.iload_n 1, 1) := dk_27 (dk_at dksX9_least_2 12 rfl rfl)
theorem dX9_least_61 : decode cX9_least 61 = .ok (.iload_n 2, 1) := dk_28 (dk_at dksX9_least_2 13 rfl rfl)
theorem dX9_least_62 : decode cX9_least 62 = .ok (.invokevirtual 60, 3) := dk_182 0 60 (dk_at dksX9_least_2 14 rfl rfl)
theorem dX9_least_65 : decode cX9_least 65 = .ok (.ireturn, 1) := dk_172 (dk_at dksX9_least_2 17 rfl rfl)
theorem dX9_least_66 : decode cX9_least 66 = .ok (.aload_n 0, 1) := dk_42 (dk_at dksX9_least_2 18 rfl rfl)
theorem dX9_least_67 : decode cX9_least 67 = .ok (.iload_n 1, 1) := dk_27 (dk_at dksX9_least_2 19 rfl rfl)
theorem dX9_least_68 : decode cX9_least 68 = .ok (.iload_n 2, 1) := dk_28 (dk_at dksX9_least_2 20 rfl rfl)
theorem dX9_least_69 : decode cX9_least 69 = .ok (.invokevirtual 60, 3) := dk_182 0 60 (dk_at dksX9_least_2 21 rfl rfl)
theorem dX9_least_72 : decode cX9_least 72 = .ok (.aload_n 0, 1) := dk_42 (dk_at dksX9_least_3 0 rfl rfl)
theorem dX9_least_73 : decode cX9_least 73 = .ok (.iload_n 1, 1) := dk_27 (dk_at dksX9_least_3 1 rfl rfl)
theorem dX9_least_74 : decode cX9_least 74 = .ok (.iload_n 2, 1) := dk_28 (dk_at dksX9_least_3 2 rfl rfl)
theorem dX9_least_75 : decode cX9_least 75 = .ok (.invokevirtual 57, 3) := dk_182 0 57 (dk_at dksX9_least_3 3 rfl rfl)
theorem dX9_least_78 : decode cX9_least 78 = .ok (.invokestatic 63, 3) := dk_184 0 63 (dk_at dksX9_least_3 6 rfl rfl)
theorem dX9_least_81 : decode cX9_least 81 = .ok (.istore_n 3, 1) := dk_62 (dk_at dksX9_least_3 9 rfl rfl)
theorem dX9_least_82 : decode cX9_least 82 = .ok (.aload_n 0, 1) := dk_42 (dk_at dksX9_least_3 10 rfl rfl)
theorem dX9_least_83 : decode cX9_least 83 = .ok (.iload_n 1, 1) := dk_27 (dk_at dksX9_least_3 11 rfl rfl)
theorem dX9_least_84 : decode cX9_least 84 = .ok (.iload_n 2, 1) := dk_28 (dk_at dksX9_least_3 12 rfl rfl)
theorem dX9_least_85 : decode cX9_least 85 = .ok (.invokevirtual 68, 3) := dk_182 0 68 (dk_at dksX9_least_3 13 rfl rfl)
theorem dX9_least_88 : decode cX9_least 88 = .ok (.ifCond .eq 16, 3) := dk_153 0 16 (dk_at dksX9_least_3 16 rfl rfl)
theorem dX9_least_91 : decode cX9_least 91 = .ok (.iload_n 3, 1) := dk_29 (dk_at dksX9_least_3 19 rfl rfl)
theorem dX9_least_92 : decode cX9_least 92 = .ok (.aload_n 0, 1) := dk_42 (dk_at dksX9_least_3 20 rfl rfl)
theorem dX9_least_93 : decode cX9_least 93 = .ok (.iload_n 1, 1) := dk_27 (dk_at dksX9_least_3 21 rfl rfl)
theorem dX9_least_94 : decode cX9_least 94 = .ok (.iload_n 2, 1) := dk_28 (dk_at dksX9_least_3 22 rfl rfl)
theorem dX9_least_95 : decode cX9_least 95 = .ok (.invokevirtual 72, 3) := dk_182 0 72 (dk_at dksX9_least_4 0 rfl rfl)
theorem dX9_least_98 : decode cX9_least 98 = .ok (.invokestatic 63, 3) := dk_184 0 63 (dk_at dksX9_least_4 3 rfl rfl)
theorem dX9_least_101 : decode cX9_least 101 = .ok (.goto 4, 3) := dk_167 0 4 (dk_at dksX9_least_4 6 rfl rfl)
theorem dX9_least_104 : decode cX9_least 104 = .ok (.iload_n 3, 1) := dk_29 (dk_at dksX9_least_4 9 rfl rfl)
theorem dX9_least_105 : decode cX9_least 105 = .ok (.ireturn, 1) := dk_172 (dk_at dksX9_least_4 10 rfl rfl)
abbrev cX9_byInsertion : ByteArray := prog_14_method_6_code
def yX9_byInsertion : MethodName := ⟨RX9, "byInsertion", "(II)I"⟩
def dkwX9_byInsertion_1 : List UInt8 := [4, 96, 182, 0, 53, 96, 172]
abbrev dktX9_byInsertion_1 : List UInt8 := dkwX9_byInsertion_1 ++ []
def dkwX9_byInsertion_0 : List UInt8 := [5, 42, 180, 0, 15, 180, 0, 18, 28, 185, 0, 42, 2, 0, 192, 0, 19, 182, 0, 56, 104, 42, 27, 28]
abbrev dktX9_byInsertion_0 : List UInt8 := dkwX9_byInsertion_0 ++ dktX9_byInsertion_1
theorem dksX9_byInsertion_0 : cX9_byInsertion.data.toList.drop 0 = dktX9_byInsertion_0 := by decide +kernel
theorem dksX9_byInsertion_1 : cX9_byInsertion.data.toList.drop 24 = dktX9_byInsertion_1 := dk_seg dksX9_byInsertion_0 24 rfl rfl
theorem dX9_byInsertion_0 : decode cX9_byInsertion 0 = .ok (.iconst 2, 1) := dk_5 (dk_at dksX9_byInsertion_0 0 rfl rfl)
theorem dX9_byInsertion_1 : decode cX9_byInsertion 1 = .ok (.aload_n 0, 1) := dk_42 (dk_at dksX9_byInsertion_0 1 rfl rfl)
theorem dX9_byInsertion_2 : decode cX9_byInsertion 2 = .ok (.getfield 15, 3) := dk_180 0 15 (dk_at dksX9_byInsertion_0 2 rfl rfl)
theorem dX9_byInsertion_5 : decode cX9_byInsertion 5 = .ok (.getfield 18, 3) := dk_180 0 18 (dk_at dksX9_byInsertion_0 5 rfl rfl)
theorem dX9_byInsertion_8 : decode cX9_byInsertion 8 = .ok (.iload_n 2, 1) := dk_28 (dk_at dksX9_byInsertion_0 8 rfl rfl)
theorem dX9_byInsertion_9 : decode cX9_byInsertion 9 = .ok (.invokeinterface 42 2, 5) := by decide +kernel
theorem dX9_byInsertion_14 : decode cX9_byInsertion 14 = .ok (.checkcast 19, 3) := dk_192 0 19 (dk_at dksX9_byInsertion_0 14 rfl rfl)
theorem dX9_byInsertion_17 : decode cX9_byInsertion 17 = .ok (.invokevirtual 56, 3) := dk_182 0 56 (dk_at dksX9_byInsertion_0 17 rfl rfl)
theorem dX9_byInsertion_20 : decode cX9_byInsertion 20 = .ok (.imul, 1) := dk_104 (dk_at dksX9_byInsertion_0 20 rfl rfl)
theorem dX9_byInsertion_21 : decode cX9_byInsertion 21 = .ok (.aload_n 0, 1) := dk_42 (dk_at dksX9_byInsertion_0 21 rfl rfl)
theorem dX9_byInsertion_22 : decode cX9_byInsertion 22 = .ok (.iload_n 1, 1) := dk_27 (dk_at dksX9_byInsertion_0 22 rfl rfl)
theorem dX9_byInsertion_23 : decode cX9_byInsertion 23 = .ok (.iload_n 2, 1) := dk_28 (dk_at dksX9_byInsertion_0 23 rfl rfl)
theorem dX9_byInsertion_24 : decode cX9_byInsertion 24 = .ok (.iconst 1, 1) := dk_4 (dk_at dksX9_byInsertion_1 0 rfl rfl)
theorem dX9_byInsertion_25 : decode cX9_byInsertion 25 = .ok (.iadd, 1) := dk_96 (dk_at dksX9_byInsertion_1 1 rfl rfl)
theorem dX9_byInsertion_26 : decode cX9_byInsertion 26 = .ok (.invokevirtual 53, 3) := dk_182 0 53 (dk_at dksX9_byInsertion_1 2 rfl rfl)
theorem dX9_byInsertion_29 : decode cX9_byInsertion 29 = .ok (.iadd, 1) := dk_96 (dk_at dksX9_byInsertion_1 5 rfl rfl)
theorem dX9_byInsertion_30 : decode cX9_byInsertion 30 = .ok (.ireturn, 1) := dk_172 (dk_at dksX9_byInsertion_1 6 rfl rfl)
abbrev cX9_at : ByteArray := prog_14_method_2_code
def yX9_at : MethodName := ⟨RX9, "at", "(II)I"⟩
def dkwX9_at_0 : List UInt8 := [42, 180, 0, 34, 27, 42, 180, 0, 30, 104, 28, 96, 46, 172]
abbrev dktX9_at_0 : List UInt8 := dkwX9_at_0 ++ []
theorem dksX9_at_0 : cX9_at.data.toList.drop 0 = dktX9_at_0 := by decide +kernel
theorem dX9_at_0 : decode cX9_at 0 = .ok (.aload_n 0, 1) := dk_42 (dk_at dksX9_at_0 0 rfl rfl)
theorem dX9_at_1 : decode cX9_at 1 = .ok (.getfield 34, 3) := dk_180 0 34 (dk_at dksX9_at_0 1 rfl rfl)
theorem dX9_at_4 : decode cX9_at 4 = .ok (.iload_n 1, 1) := dk_27 (dk_at dksX9_at_0 4 rfl rfl)
theorem dX9_at_5 : decode cX9_at 5 = .ok (.aload_n 0, 1) := dk_42 (dk_at dksX9_at_0 5 rfl rfl)
theorem dX9_at_6 : decode cX9_at 6 = .ok (.getfield 30, 3) := dk_180 0 30 (dk_at dksX9_at_0 6 rfl rfl)
theorem dX9_at_9 : decode cX9_at 9 = .ok (.imul, 1) := dk_104 (dk_at dksX9_at_0 9 rfl rfl)
theorem dX9_at_10 : decode cX9_at 10 = .ok (.iload_n 2, 1) := dk_28 (dk_at dksX9_at_0 10 rfl rfl)
theorem dX9_at_11 : decode cX9_at 11 = .ok (.iadd, 1) := dk_96 (dk_at dksX9_at_0 11 rfl rfl)
theorem dX9_at_12 : decode cX9_at 12 = .ok (.iaload, 1) := dk_46 (dk_at dksX9_at_0 12 rfl rfl)
theorem dX9_at_13 : decode cX9_at 13 = .ok (.ireturn, 1) := dk_172 (dk_at dksX9_at_0 13 rfl rfl)
abbrev cX9_byDeletion : ByteArray := prog_14_method_5_code
def yX9_byDeletion : MethodName := ⟨RX9, "byDeletion", "(II)I"⟩
def dkwX9_byDeletion_1 : List UInt8 := [96, 28, 182, 0, 53, 96, 172]
abbrev dktX9_byDeletion_1 : List UInt8 := dkwX9_byDeletion_1 ++ []
def dkwX9_byDeletion_0 : List UInt8 := [5, 42, 180, 0, 9, 180, 0, 18, 27, 185, 0, 42, 2, 0, 192, 0, 19, 182, 0, 56, 104, 42, 27, 4]
abbrev dktX9_byDeletion_0 : List UInt8 := dkwX9_byDeletion_0 ++ dktX9_byDeletion_1
theorem dksX9_byDeletion_0 : cX9_byDeletion.data.toList.drop 0 = dktX9_byDeletion_0 := by decide +kernel
theorem dksX9_byDeletion_1 : cX9_byDeletion.data.toList.drop 24 = dktX9_byDeletion_1 := dk_seg dksX9_byDeletion_0 24 rfl rfl
theorem dX9_byDeletion_0 : decode cX9_byDeletion 0 = .ok (.iconst 2, 1) := dk_5 (dk_at dksX9_byDeletion_0 0 rfl rfl)
theorem dX9_byDeletion_1 : decode cX9_byDeletion 1 = .ok (.aload_n 0, 1) := dk_42 (dk_at dksX9_byDeletion_0 1 rfl rfl)
theorem dX9_byDeletion_2 : decode cX9_byDeletion 2 = .ok (.getfield 9, 3) := dk_180 0 9 (dk_at dksX9_byDeletion_0 2 rfl rfl)
theorem dX9_byDeletion_5 : decode cX9_byDeletion 5 = .ok (.getfield 18, 3) := dk_180 0 18 (dk_at dksX9_byDeletion_0 5 rfl rfl)
theorem dX9_byDeletion_8 : decode cX9_byDeletion 8 = .ok (.iload_n 1, 1) := dk_27 (dk_at dksX9_byDeletion_0 8 rfl rfl)
theorem dX9_byDeletion_9 : decode cX9_byDeletion 9 = .ok (.invokeinterface 42 2, 5) := by decide +kernel
theorem dX9_byDeletion_14 : decode cX9_byDeletion 14 = .ok (.checkcast 19, 3) := dk_192 0 19 (dk_at dksX9_byDeletion_0 14 rfl rfl)
theorem dX9_byDeletion_17 : decode cX9_byDeletion 17 = .ok (.invokevirtual 56, 3) := dk_182 0 56 (dk_at dksX9_byDeletion_0 17 rfl rfl)
theorem dX9_byDeletion_20 : decode cX9_byDeletion 20 = .ok (.imul, 1) := dk_104 (dk_at dksX9_byDeletion_0 20 rfl rfl)
theorem dX9_byDeletion_21 : decode cX9_byDeletion 21 = .ok (.aload_n 0, 1) := dk_42 (dk_at dksX9_byDeletion_0 21 rfl rfl)
theorem dX9_byDeletion_22 : decode cX9_byDeletion 22 = .ok (.iload_n 1, 1) := dk_27 (dk_at dksX9_byDeletion_0 22 rfl rfl)
theorem dX9_byDeletion_23 : decode cX9_byDeletion 23 = .ok (.iconst 1, 1) := dk_4 (dk_at dksX9_byDeletion_0 23 rfl rfl)
theorem dX9_byDeletion_24 : decode cX9_byDeletion 24 = .ok (.iadd, 1) := dk_96 (dk_at dksX9_byDeletion_1 0 rfl rfl)
theorem dX9_byDeletion_25 : decode cX9_byDeletion 25 = .ok (.iload_n 2, 1) := dk_28 (dk_at dksX9_byDeletion_1 1 rfl rfl)
theorem dX9_byDeletion_26 : decode cX9_byDeletion 26 = .ok (.invokevirtual 53, 3) := dk_182 0 53 (dk_at dksX9_byDeletion_1 2 rfl rfl)
theorem dX9_byDeletion_29 : decode cX9_byDeletion 29 = .ok (.iadd, 1) := dk_96 (dk_at dksX9_byDeletion_1 5 rfl rfl)
theorem dX9_byDeletion_30 : decode cX9_byDeletion 30 = .ok (.ireturn, 1) := dk_172 (dk_at dksX9_byDeletion_1 6 rfl rfl)
abbrev cX9_canPair : ByteArray := prog_14_method_3_code
def yX9_canPair : MethodName := ⟨RX9, "canPair", "(II)Z"⟩
def dkwX9_canPair_3 : List UInt8 := [160, 0, 7, 4, 167, 0, 4, 3, 172]
abbrev dktX9_canPair_3 : List UInt8 := dkwX9_canPair_3 ++ []
def dkwX9_canPair_2 : List UInt8 := [180, 0, 46, 42, 180, 0, 15, 180, 0, 18, 28, 185, 0, 42, 2, 0, 192, 0, 19, 180, 0, 46]
abbrev dktX9_canPair_2 : List UInt8 := dkwX9_canPair_2 ++ dktX9_canPair_3
def dkwX9_canPair_1 : List UInt8 := [185, 0, 24, 1, 0, 162, 0, 48, 42, 180, 0, 9, 180, 0, 18, 27, 185, 0, 42, 2, 0, 192, 0, 19]
abbrev dktX9_canPair_1 : List UInt8 := dkwX9_canPair_1 ++ dktX9_canPair_2
def dkwX9_canPair_0 : List UInt8 := [27, 42, 180, 0, 9, 180, 0, 18, 185, 0, 24, 1, 0, 162, 0, 64, 28, 42, 180, 0, 15, 180, 0, 18]
abbrev dktX9_canPair_0 : List UInt8 := dkwX9_canPair_0 ++ dktX9_canPair_1
theorem dksX9_canPair_0 : cX9_canPair.data.toList.drop 0 = dktX9_canPair_0 := by decide +kernel
theorem dksX9_canPair_1 : cX9_canPair.data.toList.drop 24 = dktX9_canPair_1 := dk_seg dksX9_canPair_0 24 rfl rfl
theorem dksX9_canPair_2 : cX9_canPair.data.toList.drop 48 = dktX9_canPair_2 := dk_seg dksX9_canPair_1 24 rfl rfl
theorem dksX9_canPair_3 : cX9_canPair.data.toList.drop 70 = dktX9_canPair_3 := dk_seg dksX9_canPair_2 22 rfl rfl
theorem dX9_canPair_0 : decode cX9_canPair 0 = .ok (.iload_n 1, 1) := dk_27 (dk_at dksX9_canPair_0 0 rfl rfl)
theorem dX9_canPair_1 : decode cX9_canPair 1 = .ok (.aload_n 0, 1) := dk_42 (dk_at dksX9_canPair_0 1 rfl rfl)
theorem dX9_canPair_2 : decode cX9_canPair 2 = .ok (.getfield 9, 3) := dk_180 0 9 (dk_at dksX9_canPair_0 2 rfl rfl)
theorem dX9_canPair_5 : decode cX9_canPair 5 = .ok (.getfield 18, 3) := dk_180 0 18 (dk_at dksX9_canPair_0 5 rfl rfl)
theorem dX9_canPair_8 : decode cX9_canPair 8 = .ok (.invokeinterface 24 1, 5) := by decide +kernel
theorem dX9_canPair_13 : decode cX9_canPair 13 = .ok (.if_icmp .ge 64, 3) := dk_162 0 64 (dk_at dksX9_canPair_0 13 rfl rfl)
theorem dX9_canPair_16 : decode cX9_canPair 16 = .ok (.iload_n 2, 1) := dk_28 (dk_at dksX9_canPair_0 16 rfl rfl)
theorem dX9_canPair_17 : decode cX9_canPair 17 = .ok (.aload_n 0, 1) := dk_42 (dk_at dksX9_canPair_0 17 rfl rfl)
theorem dX9_canPair_18 : decode cX9_canPair 18 = .ok (.getfield 15, 3) := dk_180 0 15 (dk_at dksX9_canPair_0 18 rfl rfl)
theorem dX9_canPair_21 : decode cX9_canPair 21 = .ok (.getfield 18, 3) := dk_180 0 18 (dk_at dksX9_canPair_0 21 rfl rfl)
theorem dX9_canPair_24 : decode cX9_canPair 24 = .ok (.invokeinterface 24 1, 5) := by decide +kernel
theorem dX9_canPair_29 : decode cX9_canPair 29 = .ok (.if_icmp .ge 48, 3) := dk_162 0 48 (dk_at dksX9_canPair_1 5 rfl rfl)
theorem dX9_canPair_32 : decode cX9_canPair 32 = .ok (.aload_n 0, 1) := dk_42 (dk_at dksX9_canPair_1 8 rfl rfl)
theorem dX9_canPair_33 : decode cX9_canPair 33 = .ok (.getfield 9, 3) := dk_180 0 9 (dk_at dksX9_canPair_1 9 rfl rfl)
theorem dX9_canPair_36 : decode cX9_canPair 36 = .ok (.getfield 18, 3) := dk_180 0 18 (dk_at dksX9_canPair_1 12 rfl rfl)
theorem dX9_canPair_39 : decode cX9_canPair 39 = .ok (.iload_n 1, 1) := dk_27 (dk_at dksX9_canPair_1 15 rfl rfl)
theorem dX9_canPair_40 : decode cX9_canPair 40 = .ok (.invokeinterface 42 2, 5) := by decide +kernel
theorem dX9_canPair_45 : decode cX9_canPair 45 = .ok (.checkcast 19, 3) := dk_192 0 19 (dk_at dksX9_canPair_1 21 rfl rfl)
theorem dX9_canPair_48 : decode cX9_canPair 48 = .ok (.getfield 46, 3) := dk_180 0 46 (dk_at dksX9_canPair_2 0 rfl rfl)
theorem dX9_canPair_51 : decode cX9_canPair 51 = .ok (.aload_n 0, 1) := dk_42 (dk_at dksX9_canPair_2 3 rfl rfl)
theorem dX9_canPair_52 : decode cX9_canPair 52 = .ok (.getfield 15, 3) := dk_180 0 15 (dk_at dksX9_canPair_2 4 rfl rfl)
theorem dX9_canPair_55 : decode cX9_canPair 55 = .ok (.getfield 18, 3) := dk_180 0 18 (dk_at dksX9_canPair_2 7 rfl rfl)
theorem dX9_canPair_58 : decode cX9_canPair 58 = .ok (.iload_n 2, 1) := dk_28 (dk_at dksX9_canPair_2 10 rfl rfl)
theorem dX9_canPair_59 : decode cX9_canPair 59 = .ok (.invokeinterface 42 2, 5) := by decide +kernel
theorem dX9_canPair_64 : decode cX9_canPair 64 = .ok (.checkcast 19, 3) := dk_192 0 19 (dk_at dksX9_canPair_2 16 rfl rfl)
theorem dX9_canPair_67 : decode cX9_canPair 67 = .ok (.getfield 46, 3) := dk_180 0 46 (dk_at dksX9_canPair_2 19 rfl rfl)
theorem dX9_canPair_70 : decode cX9_canPair 70 = .ok (.if_icmp .ne 7, 3) := dk_160 0 7 (dk_at dksX9_canPair_3 0 rfl rfl)
theorem dX9_canPair_73 : decode cX9_canPair 73 = .ok (.iconst 1, 1) := dk_4 (dk_at dksX9_canPair_3 3 rfl rfl)
theorem dX9_canPair_74 : decode cX9_canPair 74 = .ok (.goto 4, 3) := dk_167 0 4 (dk_at dksX9_canPair_3 4 rfl rfl)
theorem dX9_canPair_77 : decode cX9_canPair 77 = .ok (.iconst 0, 1) := dk_3 (dk_at dksX9_canPair_3 7 rfl rfl)
theorem dX9_canPair_78 : decode cX9_canPair 78 = .ok (.ireturn, 1) := dk_172 (dk_at dksX9_canPair_3 8 rfl rfl)
abbrev cX9_byPair : ByteArray := prog_14_method_4_code
def yX9_byPair : MethodName := ⟨RX9, "byPair", "(II)I"⟩
def dkwX9_byPair_1 : List UInt8 := [185, 0, 42, 2, 0, 192, 0, 19, 184, 0, 49, 42, 27, 4, 96, 28, 4, 96, 182, 0, 53, 96, 172]
abbrev dktX9_byPair_1 : List UInt8 := dkwX9_byPair_1 ++ []
def dkwX9_byPair_0 : List UInt8 := [42, 180, 0, 9, 180, 0, 18, 27, 185, 0, 42, 2, 0, 192, 0, 19, 42, 180, 0, 15, 180, 0, 18, 28]
abbrev dktX9_byPair_0 : List UInt8 := dkwX9_byPair_0 ++ dktX9_byPair_1
theorem dksX9_byPair_0 : cX9_byPair.data.toList.drop 0 = dktX9_byPair_0 := by decide +kernel
theorem dksX9_byPair_1 : cX9_byPair.data.toList.drop 24 = dktX9_byPair_1 := dk_seg dksX9_byPair_0 24 rfl rfl
theorem dX9_byPair_0 : decode cX9_byPair 0 = .ok (.aload_n 0, 1) := dk_42 (dk_at dksX9_byPair_0 0 rfl rfl)
theorem dX9_byPair_1 : decode cX9_byPair 1 = .ok (.getfield 9, 3) := dk_180 0 9 (dk_at dksX9_byPair_0 1 rfl rfl)
theorem dX9_byPair_4 : decode cX9_byPair 4 = .ok (.getfield 18, 3) := dk_180 0 18 (dk_at dksX9_byPair_0 4 rfl rfl)
theorem dX9_byPair_7 : decode cX9_byPair 7 = .ok (.iload_n 1, 1) := dk_27 (dk_at dksX9_byPair_0 7 rfl rfl)
theorem dX9_byPair_8 : decode cX9_byPair 8 = .ok (.invokeinterface 42 2, 5) := by decide +kernel
theorem dX9_byPair_13 : decode cX9_byPair 13 = .ok (.checkcast 19, 3) := dk_192 0 19 (dk_at dksX9_byPair_0 13 rfl rfl)
theorem dX9_byPair_16 : decode cX9_byPair 16 = .ok (.aload_n 0, 1) := dk_42 (dk_at dksX9_byPair_0 16 rfl rfl)
theorem dX9_byPair_17 : decode cX9_byPair 17 = .ok (.getfield 15, 3) := dk_180 0 15 (dk_at dksX9_byPair_0 17 rfl rfl)
theorem dX9_byPair_20 : decode cX9_byPair 20 = .ok (.getfield 18, 3) := dk_180 0 18 (dk_at dksX9_byPair_0 20 rfl rfl)
theorem dX9_byPair_23 : decode cX9_byPair 23 = .ok (.iload_n 2, 1) := dk_28 (dk_at dksX9_byPair_0 23 rfl rfl)
theorem dX9_byPair_24 : decode cX9_byPair 24 = .ok (.invokeinterface 42 2, 5) := by decide +kernel
theorem dX9_byPair_29 : decode cX9_byPair 29 = .ok (.checkcast 19, 3) := dk_192 0 19 (dk_at dksX9_byPair_1 5 rfl rfl)
theorem dX9_byPair_32 : decode cX9_byPair 32 = .ok (.invokestatic 49, 3) := dk_184 0 49 (dk_at dksX9_byPair_1 8 rfl rfl)
theorem dX9_byPair_35 : decode cX9_byPair 35 = .ok (.aload_n 0, 1) := dk_42 (dk_at dksX9_byPair_1 11 rfl rfl)
theorem dX9_byPair_36 : decode cX9_byPair 36 = .ok (.iload_n 1, 1) := dk_27 (dk_at dksX9_byPair_1 12 rfl rfl)
theorem dX9_byPair_37 : decode cX9_byPair 37 = .ok (.iconst 1, 1) := dk_4 (dk_at dksX9_byPair_1 13 rfl rfl)
theorem dX9_byPair_38 : decode cX9_byPair 38 = .ok (.iadd, 1) := dk_96 (dk_at dksX9_byPair_1 14 rfl rfl)
theorem dX9_byPair_39 : decode cX9_byPair 39 = .ok (.iload_n 2, 1) := dk_28 (dk_at dksX9_byPair_1 15 rfl rfl)
theorem dX9_byPair_40 : decode cX9_byPair 40 = .ok (.iconst 1, 1) := dk_4 (dk_at dksX9_byPair_1 16 rfl rfl)
theorem dX9_byPair_41 : decode cX9_byPair 41 = .ok (.iadd, 1) := dk_96 (dk_at dksX9_byPair_1 17 rfl rfl)
theorem dX9_byPair_42 : decode cX9_byPair 42 = .ok (.invokevirtual 53, 3) := dk_182 0 53 (dk_at dksX9_byPair_1 18 rfl rfl)
theorem dX9_byPair_45 : decode cX9_byPair 45 = .ok (.iadd, 1) := dk_96 (dk_at dksX9_byPair_1 21 rfl rfl)
theorem dX9_byPair_46 : decode cX9_byPair 46 = .ok (.ireturn, 1) := dk_172 (dk_at dksX9_byPair_1 22 rfl rfl)
theorem q100 : (Jvm.Cond.initialized "TreeDiffer$Table") ∈ lw_all := lw_g (lw_at lw_m1 37 rfl) rfl
theorem q197 : (Jvm.Cond.fieldLinkNest "TreeDiffer$Table" (46 : Nat) "TreeDiffer$Node" "key" "I" "TreeDiffer") ∈ lw_tbl := lw_at lw_m1 134 rfl
theorem q210 : (Jvm.Cond.fieldLinkNest "TreeDiffer$Table" (18 : Nat) "TreeDiffer$Node" "children" "Ljava/util/List;" "TreeDiffer") ∈ lw_tbl := lw_at lw_m1 147 rfl
theorem q532 : (Jvm.Cond.selects "TreeDiffer$Table" ({ cls := "java/lang/Object", name := "getClass", desc := "()Ljava/lang/Class;" } : Jvm.MethodName) ({ cls := "java/lang/Object", name := "getClass", desc := "()Ljava/lang/Class;" } : Jvm.MethodName)) ∈ lw_all := lw_g (lw_at lw_m2 229 rfl) rfl
theorem q580 : (Jvm.Cond.instantiable "TreeDiffer$Table" (4 : Nat)) ∈ lw_all := lw_g (lw_at lw_m3 37 rfl) rfl
theorem q582 : (Jvm.Cond.instanceMethod ({ cls := "TreeDiffer$Table", name := "<init>", desc := "(LTreeDiffer$Node;LTreeDiffer$Node;)V" } : Jvm.MethodName)) ∈ lw_all := lw_g (lw_at lw_m3 39 rfl) rfl
theorem q583 : (Jvm.Cond.code ({ cls := "TreeDiffer$Table", name := "<init>", desc := "(LTreeDiffer$Node;LTreeDiffer$Node;)V" } : Jvm.MethodName) prog_14_method_1_code (5 : Nat) (Option.none : Option Jvm.ClassFile.FieldType)) ∈ lw_all := lw_g (lw_at lw_m3 40 rfl) rfl
theorem q584 : (Jvm.Cond.methodLink "TreeDiffer$Table" (3 : Nat) ({ cls := "java/lang/Object", name := "<init>", desc := "()V" } : Jvm.MethodName)) ∈ lw_all := lw_g (lw_at lw_m3 41 rfl) rfl
theorem q585 : (Jvm.Cond.interfaceEntry "TreeDiffer$Table" (24 : Nat)) ∈ lw_tbl := lw_at lw_m3 42 rfl
theorem q586 : (Jvm.Cond.methodLink "TreeDiffer$Table" (24 : Nat) ({ cls := "java/util/List", name := "size", desc := "()I" } : Jvm.MethodName)) ∈ lw_all := lw_g (lw_at lw_m3 43 rfl) rfl
theorem q587 : (Jvm.Cond.methodLink "TreeDiffer$Table" (38 : Nat) ({ cls := "TreeDiffer$Table", name := "least", desc := "(II)I" } : Jvm.MethodName)) ∈ lw_all := lw_g (lw_at lw_m3 44 rfl) rfl
theorem q588 : (Jvm.Cond.privateMethod ({ cls := "TreeDiffer$Table", name := "least", desc := "(II)I" } : Jvm.MethodName)) ∈ lw_tbl := lw_at lw_m3 45 rfl
theorem q589 : (Jvm.Cond.instanceMethod ({ cls := "TreeDiffer$Table", name := "least", desc := "(II)I" } : Jvm.MethodName)) ∈ lw_all := lw_g (lw_at lw_m3 46 rfl) rfl
theorem q590 : (Jvm.Cond.code ({ cls := "TreeDiffer$Table", name := "least", desc := "(II)I" } : Jvm.MethodName) prog_14_method_7_code (4 : Nat) (Option.some Jvm.ClassFile.FieldType.int)) ∈ lw_all := lw_g (lw_at lw_m3 47 rfl) rfl
theorem q591 : (Jvm.Cond.methodLink "TreeDiffer$Table" (57 : Nat) ({ cls := "TreeDiffer$Table", name := "byInsertion", desc := "(II)I" } : Jvm.MethodName)) ∈ lw_all := lw_g (lw_at lw_m3 48 rfl) rfl
theorem q592 : (Jvm.Cond.instanceMethod ({ cls := "TreeDiffer$Table", name := "byInsertion", desc := "(II)I" } : Jvm.MethodName)) ∈ lw_all := lw_g (lw_at lw_m3 49 rfl) rfl
theorem q593 : (Jvm.Cond.selects "TreeDiffer$Table" ({ cls := "TreeDiffer$Table", name := "byInsertion", desc := "(II)I" } : Jvm.MethodName) ({ cls := "TreeDiffer$Table", name := "byInsertion", desc := "(II)I" } : Jvm.MethodName)) ∈ lw_all := lw_g (lw_at lw_m3 50 rfl) rfl
theorem q594 : (Jvm.Cond.code ({ cls := "TreeDiffer$Table", name := "byInsertion", desc := "(II)I" } : Jvm.MethodName) prog_14_method_6_code (3 : Nat) (Option.some Jvm.ClassFile.FieldType.int)) ∈ lw_all := lw_g (lw_at lw_m3 51 rfl) rfl
theorem q595 : (Jvm.Cond.interfaceEntry "TreeDiffer$Table" (42 : Nat)) ∈ lw_tbl := lw_at lw_m3 52 rfl
theorem q596 : (Jvm.Cond.methodLink "TreeDiffer$Table" (42 : Nat) ({ cls := "java/util/List", name := "get", desc := "(I)Ljava/lang/Object;" } : Jvm.MethodName)) ∈ lw_all := lw_g (lw_at lw_m3 53 rfl) rfl
theorem q597 : (Jvm.Cond.classLink "TreeDiffer$Table" (19 : Nat) "TreeDiffer$Node") ∈ lw_all := lw_g (lw_at lw_m3 54 rfl) rfl
theorem q598 : (Jvm.Cond.methodLink "TreeDiffer$Table" (56 : Nat) ({ cls := "TreeDiffer$Node", name := "size", desc := "()I" } : Jvm.MethodName)) ∈ lw_all := lw_g (lw_at lw_m3 55 rfl) rfl
theorem q599 : (Jvm.Cond.methodLink "TreeDiffer$Table" (53 : Nat) ({ cls := "TreeDiffer$Table", name := "at", desc := "(II)I" } : Jvm.MethodName)) ∈ lw_all := lw_g (lw_at lw_m3 56 rfl) rfl
theorem q600 : (Jvm.Cond.instanceMethod ({ cls := "TreeDiffer$Table", name := "at", desc := "(II)I" } : Jvm.MethodName)) ∈ lw_all := lw_g (lw_at lw_m3 57 rfl) rfl
theorem q601 : (Jvm.Cond.selects "TreeDiffer$Table" ({ cls := "TreeDiffer$Table", name := "at", desc := "(II)I" } : Jvm.MethodName) ({ cls := "TreeDiffer$Table", name := "at", desc := "(II)I" } : Jvm.MethodName)) ∈ lw_all := lw_g (lw_at lw_m3 58 rfl) rfl
theorem q602 : (Jvm.Cond.code ({ cls := "TreeDiffer$Table", name := "at", desc := "(II)I" } : Jvm.MethodName) prog_14_method_2_code (3 : Nat) (Option.some Jvm.ClassFile.FieldType.int)) ∈ lw_all := lw_g (lw_at lw_m3 59 rfl) rfl
theorem q603 : (Jvm.Cond.methodLink "TreeDiffer$Table" (60 : Nat) ({ cls := "TreeDiffer$Table", name := "byDeletion", desc := "(II)I" } : Jvm.MethodName)) ∈ lw_all := lw_g (lw_at lw_m3 60 rfl) rfl
theorem q604 : (Jvm.Cond.instanceMethod ({ cls := "TreeDiffer$Table", name := "byDeletion", desc := "(II)I" } : Jvm.MethodName)) ∈ lw_all := lw_g (lw_at lw_m3 61 rfl) rfl
theorem q605 : (Jvm.Cond.selects "TreeDiffer$Table" ({ cls := "TreeDiffer$Table", name := "byDeletion", desc := "(II)I" } : Jvm.MethodName) ({ cls := "TreeDiffer$Table", name := "byDeletion", desc := "(II)I" } : Jvm.MethodName)) ∈ lw_all := lw_g (lw_at lw_m3 62 rfl) rfl
theorem q606 : (Jvm.Cond.code ({ cls := "TreeDiffer$Table", name := "byDeletion", desc := "(II)I" } : Jvm.MethodName) prog_14_method_5_code (3 : Nat) (Option.some Jvm.ClassFile.FieldType.int)) ∈ lw_all := lw_g (lw_at lw_m3 63 rfl) rfl
theorem q607 : (Jvm.Cond.methodLink "TreeDiffer$Table" (63 : Nat) ({ cls := "java/lang/Math", name := "min", desc := "(II)I" } : Jvm.MethodName)) ∈ lw_all := lw_g (lw_at lw_m3 64 rfl) rfl
theorem q608 : (Jvm.Cond.methodLink "TreeDiffer$Table" (68 : Nat) ({ cls := "TreeDiffer$Table", name := "canPair", desc := "(II)Z" } : Jvm.MethodName)) ∈ lw_all := lw_g (lw_at lw_m3 65 rfl) rfl
theorem q609 : (Jvm.Cond.instanceMethod ({ cls := "TreeDiffer$Table", name := "canPair", desc := "(II)Z" } : Jvm.MethodName)) ∈ lw_all := lw_g (lw_at lw_m3 66 rfl) rfl
theorem q610 : (Jvm.Cond.selects "TreeDiffer$Table" ({ cls := "TreeDiffer$Table", name := "canPair", desc := "(II)Z" } : Jvm.MethodName) ({ cls := "TreeDiffer$Table", name := "canPair", desc := "(II)Z" } : Jvm.MethodName)) ∈ lw_all := lw_g (lw_at lw_m3 67 rfl) rfl
theorem q611 : (Jvm.Cond.code ({ cls := "TreeDiffer$Table", name := "canPair", desc := "(II)Z" } : Jvm.MethodName) prog_14_method_3_code (3 : Nat) (Option.some Jvm.ClassFile.FieldType.boolean)) ∈ lw_all := lw_g (lw_at lw_m3 68 rfl) rfl
theorem q612 : (Jvm.Cond.methodLink "TreeDiffer$Table" (72 : Nat) ({ cls := "TreeDiffer$Table", name := "byPair", desc := "(II)I" } : Jvm.MethodName)) ∈ lw_all := lw_g (lw_at lw_m3 69 rfl) rfl
theorem q613 : (Jvm.Cond.instanceMethod ({ cls := "TreeDiffer$Table", name := "byPair", desc := "(II)I" } : Jvm.MethodName)) ∈ lw_all := lw_g (lw_at lw_m3 70 rfl) rfl
theorem q614 : (Jvm.Cond.selects "TreeDiffer$Table" ({ cls := "TreeDiffer$Table", name := "byPair", desc := "(II)I" } : Jvm.MethodName) ({ cls := "TreeDiffer$Table", name := "byPair", desc := "(II)I" } : Jvm.MethodName)) ∈ lw_all := lw_g (lw_at lw_m3 71 rfl) rfl
theorem q615 : (Jvm.Cond.code ({ cls := "TreeDiffer$Table", name := "byPair", desc := "(II)I" } : Jvm.MethodName) prog_14_method_4_code (3 : Nat) (Option.some Jvm.ClassFile.FieldType.int)) ∈ lw_all := lw_g (lw_at lw_m3 72 rfl) rfl
theorem q616 : (Jvm.Cond.methodLinkNest "TreeDiffer$Table" (49 : Nat) ({ cls := "TreeDiffer", name := "cost", desc := "(LTreeDiffer$Node;LTreeDiffer$Node;)I" } : Jvm.MethodName) "TreeDiffer") ∈ lw_tbl := lw_at lw_m3 73 rfl
theorem q617 : (Jvm.Cond.fieldLink "TreeDiffer$Table" (9 : Nat) "TreeDiffer$Table" "x" "LTreeDiffer$Node;") ∈ lw_all := lw_g (lw_at lw_m3 74 rfl) rfl
theorem q618 : (Jvm.Cond.fieldLink "TreeDiffer$Table" (15 : Nat) "TreeDiffer$Table" "y" "LTreeDiffer$Node;") ∈ lw_all := lw_g (lw_at lw_m3 75 rfl) rfl
theorem q619 : (Jvm.Cond.fieldLink "TreeDiffer$Table" (30 : Nat) "TreeDiffer$Table" "width" "I") ∈ lw_all := lw_g (lw_at lw_m3 76 rfl) rfl
theorem q620 : (Jvm.Cond.fieldLink "TreeDiffer$Table" (34 : Nat) "TreeDiffer$Table" "costs" "[I") ∈ lw_all := lw_g (lw_at lw_m3 77 rfl) rfl
theorem q621 : (Jvm.Cond.laysFinal "TreeDiffer$Table" "TreeDiffer$Table" "x" "LTreeDiffer$Node;") ∈ lw_all := lw_g (lw_at lw_m3 78 rfl) rfl
theorem q622 : (Jvm.Cond.soleField "TreeDiffer$Table" "x") ∈ lw_all := lw_g (lw_at lw_m3 79 rfl) rfl
theorem q623 : (Jvm.Cond.laysFinal "TreeDiffer$Table" "TreeDiffer$Table" "y" "LTreeDiffer$Node;") ∈ lw_all := lw_g (lw_at lw_m3 80 rfl) rfl
theorem q624 : (Jvm.Cond.soleField "TreeDiffer$Table" "y") ∈ lw_all := lw_g (lw_at lw_m3 81 rfl) rfl
theorem q625 : (Jvm.Cond.laysFinal "TreeDiffer$Table" "TreeDiffer$Table" "width" "I") ∈ lw_all := lw_g (lw_at lw_m3 82 rfl) rfl
theorem q626 : (Jvm.Cond.soleField "TreeDiffer$Table" "width") ∈ lw_all := lw_g (lw_at lw_m3 83 rfl) rfl
theorem q627 : (Jvm.Cond.laysFinal "TreeDiffer$Table" "TreeDiffer$Table" "costs" "[I") ∈ lw_all := lw_g (lw_at lw_m3 84 rfl) rfl
theorem q628 : (Jvm.Cond.soleField "TreeDiffer$Table" "costs") ∈ lw_all := lw_g (lw_at lw_m3 85 rfl) rfl
theorem q629 : (Jvm.Cond.superclass "TreeDiffer$Table" "java/lang/Object") ∈ lw_all := lw_g (lw_at lw_m3 86 rfl) rfl
theorem q1302 : (Jvm.Cond.selects "TreeDiffer$Table" ({ cls := "java/lang/Object", name := "toString", desc := "()Ljava/lang/String;" } : Jvm.MethodName) ({ cls := "java/lang/Object", name := "toString", desc := "()Ljava/lang/String;" } : Jvm.MethodName)) ∈ lw_all := lw_g (lw_at lw_m6 39 rfl) rfl
theorem q2575 : (Jvm.Cond.castable "TreeDiffer$Table" "java/lang/Object") ∈ lw_tbl := lw_at lw_m11 112 rfl
theorem in_X9 : ∀ w ∈ wsX90, w ∈ lw_all := lw_in wsX90 [621, 623, 625, 627] (by decide +kernel) (by decide +kernel)

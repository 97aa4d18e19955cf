/-! TreeDifferModel$Tree -/
set_option maxRecDepth 100000
def RX5 : String := "TreeDifferModel$Tree"
def TX5 : u_T := fun k => match k with
  | 0 => ("TreeDifferModel$Tree", "labels", "[I", true)
  | 1 => ("TreeDifferModel$Tree", "keys", "[I", true)
  | 2 => ("TreeDifferModel$Tree", "values", "[I", true)
  | 3 => ("TreeDifferModel$Tree", "parents", "[I", true)
  | _ => ("TreeDifferModel$Tree", "size", "I", false)
def tyX5 : Nat → FieldType := fun k => match k with
  | 0 => .array .int
  | 1 => .array .int
  | 2 => .array .int
  | 3 => .array .int
  | _ => .int
abbrev wsX50 : List Cond := u_ws RX5 TX5 5
theorem nmX5 : ∀ a, a < 5 → ∀ b, b < 5 → a ≠ b → (TX5 a).2.1 ≠ (TX5 b).2.1 := by decide +kernel
theorem tyX5_ok : ∀ k, k < 5 → parseFieldDescriptor (TX5 k).2.2.1 = some (tyX5 k) := by decide +kernel
abbrev cX5_init : ByteArray := prog_22_method_1_code
def yX5_init : MethodName := ⟨RX5, "<init>", "()V"⟩
def dkwX5_init_1 : List UInt8 := [188, 10, 181, 0, 18, 42, 16, 20, 188, 10, 181, 0, 21, 177]
abbrev dktX5_init_1 : List UInt8 := dkwX5_init_1 ++ []
def dkwX5_init_0 : List UInt8 := [42, 183, 0, 3, 42, 16, 20, 188, 10, 181, 0, 9, 42, 16, 20, 188, 10, 181, 0, 15, 42, 16, 20]
abbrev dktX5_init_0 : List UInt8 := dkwX5_init_0 ++ dktX5_init_1
theorem dksX5_init_0 : cX5_init.data.toList.drop 0 = dktX5_init_0 := by decide +kernel
theorem dksX5_init_1 : cX5_init.data.toList.drop 23 = dktX5_init_1 := dk_seg dksX5_init_0 23 rfl rfl
theorem dX5_init_0 : decode cX5_init 0 = .ok (.aload_n 0, 1) := dk_42 (dk_at dksX5_init_0 0 rfl rfl)
theorem dX5_init_1 : decode cX5_init 1 = .ok (.invokespecial 3, 3) := dk_183 0 3 (dk_at dksX5_init_0 1 rfl rfl)
theorem dX5_init_4 : decode cX5_init 4 = .ok (.aload_n 0, 1) := dk_42 (dk_at dksX5_init_0 4 rfl rfl)
theorem dX5_init_5 : decode cX5_init 5 = .ok (.bipush 20, 2) := dk_16 20 (dk_at dksX5_init_0 5 rfl rfl)
theorem dX5_init_7 : decode cX5_init 7 = .ok (.newarray .int, 2) := dk_188_10 (dk_at dksX5_init_0 7 rfl rfl)
theorem dX5_init_9 : decode cX5_init 9 = .ok (.putfield 9, 3) := dk_181 0 9 (dk_at dksX5_init_0 9 rfl rfl)
theorem dX5_init_12 : decode cX5_init 12 = .ok (.aload_n 0, 1) := dk_42 (dk_at dksX5_init_0 12 rfl rfl)
theorem dX5_init_13 : decode cX5_init 13 = .ok (.bipush 20, 2) := dk_16 20 (dk_at dksX5_init_0 13 rfl rfl)
theorem dX5_init_15 : decode cX5_init 15 = .ok (.newarray .int, 2) := dk_188_10 (dk_at dksX5_init_0 15 rfl rfl)
theorem dX5_init_17 : decode cX5_init 17 = .ok (.putfield 15, 3) := dk_181 0 15 (dk_at dksX5_init_0 17 rfl rfl)
theorem dX5_init_20 : decode cX5_init 20 = .ok (.aload_n 0, 1) := dk_42 (dk_at dksX5_init_0 20 rfl rfl)
theorem dX5_init_21 : decode cX5_init 21 = .ok (.bipush 20, 2) := dk_16 20 (dk_at dksX5_init_0 21 rfl rfl)
theorem dX5_init_23 : decode cX5_init 23 = .ok (.newarray .int, 2) := dk_188_10 (dk_at dksX5_init_1 0 rfl rfl)
theorem dX5_init_25 : decode cX5_init 25 = .ok (.putfield 18, 3) := dk_181 0 18 (dk_at dksX5_init_1 2 rfl rfl)
theorem dX5_init_28 : decode cX5_init 28 = .ok (.aload_n 0, 1) := dk_42 (dk_at dksX5_init_1 5 rfl rfl)
theorem dX5_init_29 : decode cX5_init 29 = .ok (.bipush 20, 2) := dk_16 20 (dk_at dksX5_init_1 6 rfl rfl)
theorem dX5_init_31 : decode cX5_init 31 = .ok (.newarray .int, 2) := dk_188_10 (dk_at dksX5_init_1 8 rfl rfl)
theorem dX5_init_33 : decode cX5_init 33 = .ok (.putfield 21, 3) := dk_181 0 21 (dk_at dksX5_init_1 10 rfl rfl)
theorem dX5_init_36 : decode cX5_init 36 = .ok (.return_, 1) := dk_177 (dk_at dksX5_init_1 13 rfl rfl)
abbrev cX5_adds : ByteArray := prog_22_method_4_code
def yX5_adds : MethodName := ⟨RX5, "adds", "(IIII)V"⟩
def dkwX5_adds_0 : List UInt8 := [42, 42, 180, 0, 24, 27, 28, 29, 21, 4, 182, 0, 28, 42, 89, 180, 0, 24, 4, 96, 181, 0, 24, 177]
abbrev dktX5_adds_0 : List UInt8 := dkwX5_adds_0 ++ []
theorem dksX5_adds_0 : cX5_adds.data.toList.drop 0 = dktX5_adds_0 := by decide +kernel
theorem dX5_adds_0 : decode cX5_adds 0 = .ok (.aload_n 0, 1) := dk_42 (dk_at dksX5_adds_0 0 rfl rfl)
theorem dX5_adds_1 : decode cX5_adds 1 = .ok (.aload_n 0, 1) := dk_42 (dk_at dksX5_adds_0 1 rfl rfl)
theorem dX5_adds_2 : decode cX5_adds 2 = .ok (.getfield 24, 3) := dk_180 0 24 (dk_at dksX5_adds_0 2 rfl rfl)
theorem dX5_adds_5 : decode cX5_adds 5 = .ok (.iload_n 1, 1) := dk_27 (dk_at dksX5_adds_0 5 rfl rfl)
theorem dX5_adds_6 : decode cX5_adds 6 = .ok (.iload_n 2, 1) := dk_28 (dk_at dksX5_adds_0 6 rfl rfl)
theorem dX5_adds_7 : decode cX5_adds 7 = .ok (.iload_n 3, 1) := dk_29 (dk_at dksX5_adds_0 7 rfl rfl)
theorem dX5_adds_8 : decode cX5_adds 8 = .ok (.iload 4, 2) := dk_21 4 (dk_at dksX5_adds_0 8 rfl rfl)
theorem dX5_adds_10 : decode cX5_adds 10 = .ok (.invokevirtual 28, 3) := dk_182 0 28 (dk_at dksX5_adds_0 10 rfl rfl)
theorem dX5_adds_13 : decode cX5_adds 13 = .ok (.aload_n 0, 1) := dk_42 (dk_at dksX5_adds_0 13 rfl rfl)
theorem dX5_adds_14 : decode cX5_adds 14 = .ok (.dup, 1) := dk_89 (dk_at dksX5_adds_0 14 rfl rfl)
theorem dX5_adds_15 : decode cX5_adds 15 = .ok (.getfield 24, 3) := dk_180 0 24 (dk_at dksX5_adds_0 15 rfl rfl)
theorem dX5_adds_18 : decode cX5_adds 18 = .ok (.iconst 1, 1) := dk_4 (dk_at dksX5_adds_0 18 rfl rfl)
theorem dX5_adds_19 : decode cX5_adds 19 = .ok (.iadd, 1) := dk_96 (dk_at dksX5_adds_0 19 rfl rfl)
theorem dX5_adds_20 : decode cX5_adds 20 = .ok (.putfield 24, 3) := dk_181 0 24 (dk_at dksX5_adds_0 20 rfl rfl)
theorem dX5_adds_23 : decode cX5_adds 23 = .ok (.return_, 1) := dk_177 (dk_at dksX5_adds_0 23 rfl rfl)
abbrev cX5_sets : ByteArray := prog_22_method_3_code
def yX5_sets : MethodName := ⟨RX5, "sets", "(IIIII)V"⟩
def dkwX5_sets_1 : List UInt8 := [180, 0, 21, 27, 21, 5, 79, 177]
abbrev dktX5_sets_1 : List UInt8 := dkwX5_sets_1 ++ []
def dkwX5_sets_0 : List UInt8 := [42, 180, 0, 9, 27, 28, 79, 42, 180, 0, 15, 27, 29, 79, 42, 180, 0, 18, 27, 21, 4, 79, 42]
abbrev dktX5_sets_0 : List UInt8 := dkwX5_sets_0 ++ dktX5_sets_1
theorem dksX5_sets_0 : cX5_sets.data.toList.drop 0 = dktX5_sets_0 := by decide +kernel
theorem dksX5_sets_1 : cX5_sets.data.toList.drop 23 = dktX5_sets_1 := dk_seg dksX5_sets_0 23 rfl rfl
theorem dX5_sets_0 : decode cX5_sets 0 = .ok (.aload_n 0, 1) := dk_42 (dk_at dksX5_sets_0 0 rfl rfl)
theorem dX5_sets_1 : decode cX5_sets 1 = .ok (.getfield 9, 3) := dk_180 0 9 (dk_at dksX5_sets_0 1 rfl rfl)
theorem dX5_sets_4 : decode cX5_sets 4 = .ok (.iload_n 1, 1) := dk_27 (dk_at dksX5_sets_0 4 rfl rfl)
theorem dX5_sets_5 : decode cX5_sets 5 = .ok (.iload_n 2, 1) := dk_28 (dk_at dksX5_sets_0 5 rfl rfl)
theorem dX5_sets_6 : decode cX5_sets 6 = .ok (.iastore, 1) := dk_79 (dk_at dksX5_sets_0 6 rfl rfl)
theorem dX5_sets_7 : decode cX5_sets 7 = .ok (.aload_n 0, 1) := dk_42 (dk_at dksX5_sets_0 7 rfl rfl)
theorem dX5_sets_8 : decode cX5_sets 8 = .ok (.getfield 15, 3) := dk_180 0 15 (dk_at dksX5_sets_0 8 rfl rfl)
theorem dX5_sets_11 : decode cX5_sets 11 = .ok (.iload_n 1, 1) := dk_27 (dk_at dksX5_sets_0 11 rfl rfl)
theorem dX5_sets_12 : decode cX5_sets 12 = .ok (.iload_n 3, 1) := dk_29 (dk_at dksX5_sets_0 12 rfl rfl)
theorem dX5_sets_13 : decode cX5_sets 13 = .ok (.iastore, 1) := dk_79 (dk_at dksX5_sets_0 13 rfl rfl)
theorem dX5_sets_14 : decode cX5_sets 14 = .ok (.aload_n 0, 1) := dk_42 (dk_at dksX5_sets_0 14 rfl rfl)
theorem dX5_sets_15 : decode cX5_sets 15 = .ok (.getfield 18, 3) := dk_180 0 18 (dk_at dksX5_sets_0 15 rfl rfl)
theorem dX5_sets_18 : decode cX5_sets 18 = .ok (.iload_n 1, 1) := dk_27 (dk_at dksX5_sets_0 18 rfl rfl)
theorem dX5_sets_19 : decode cX5_sets 19 = .ok (.iload 4, 2) := dk_21 4 (dk_at dksX5_sets_0 19 rfl rfl)
theorem dX5_sets_21 : decode cX5_sets 21 = .ok (.iastore, 1) := dk_79 (dk_at dksX5_sets_0 21 rfl rfl)
theorem dX5_sets_22 : decode cX5_sets 22 = .ok (.aload_n 0, 1) := dk_42 (dk_at dksX5_sets_0 22 rfl rfl)
theorem dX5_sets_23 : decode cX5_sets 23 = .ok (.getfield 21, 3) := dk_180 0 21 (dk_at dksX5_sets_1 0 rfl rfl)
theorem dX5_sets_26 : decode cX5_sets 26 = .ok (.iload_n 1, 1) := dk_27 (dk_at dksX5_sets_1 3 rfl rfl)
theorem dX5_sets_27 : decode cX5_sets 27 = .ok (.iload 5, 2) := dk_21 5 (dk_at dksX5_sets_1 4 rfl rfl)
theorem dX5_sets_29 : decode cX5_sets 29 = .ok (.iastore, 1) := dk_79 (dk_at dksX5_sets_1 6 rfl rfl)
theorem dX5_sets_30 : decode cX5_sets 30 = .ok (.return_, 1) := dk_177 (dk_at dksX5_sets_1 7 rfl rfl)
abbrev cX5_isUsed : ByteArray := prog_22_method_9_code
def yX5_isUsed : MethodName := ⟨RX5, "isUsed", "(III)Z"⟩
def dkwX5_isUsed_2 : List UInt8 := [132, 4, 1, 167, 255, 210, 3, 172]
abbrev dktX5_isUsed_2 : List UInt8 := dkwX5_isUsed_2 ++ []
def dkwX5_isUsed_1 : List UInt8 := [21, 4, 46, 27, 160, 0, 20, 42, 180, 0, 15, 21, 4, 46, 28, 160, 0, 9, 28, 153, 0, 5, 4, 172]
abbrev dktX5_isUsed_1 : List UInt8 := dkwX5_isUsed_1 ++ dktX5_isUsed_2
def dkwX5_isUsed_0 : List UInt8 := [27, 4, 96, 54, 4, 21, 4, 42, 180, 0, 24, 162, 0, 43, 21, 4, 29, 159, 0, 31, 42, 180, 0, 21]
abbrev dktX5_isUsed_0 : List UInt8 := dkwX5_isUsed_0 ++ dktX5_isUsed_1
theorem dksX5_isUsed_0 : cX5_isUsed.data.toList.drop 0 = dktX5_isUsed_0 := by decide +kernel
theorem dksX5_isUsed_1 : cX5_isUsed.data.toList.drop 24 = dktX5_isUsed_1 := dk_seg dksX5_isUsed_0 24 rfl rfl
theorem dksX5_isUsed_2 : cX5_isUsed.data.toList.drop 48 = dktX5_isUsed_2 := dk_seg dksX5_isUsed_1 24 rfl rfl
theorem dX5_isUsed_0 : decode cX5_isUsed 0 = .ok (.iload_n 1, 1) := dk_27 (dk_at dksX5_isUsed_0 0 rfl rfl)
theorem dX5_isUsed_1 : decode cX5_isUsed 1 = .ok (.iconst 1, 1) := dk_4 (dk_at dksX5_isUsed_0 1 rfl rfl)
theorem dX5_isUsed_2 : decode cX5_isUsed 2 = .ok (.iadd, 1) := dk_96 (dk_at dksX5_isUsed_0 2 rfl rfl)
theorem dX5_isUsed_3 : decode cX5_isUsed 3 = .ok (.istore 4, 2) := dk_54 4 (dk_at dksX5_isUsed_0 3 rfl rfl)
theorem dX5_isUsed_5 : decode cX5_isUsed 5 = .ok (.iload 4, 2) := dk_21 4 (dk_at dksX5_isUsed_0 5 rfl rfl)
theorem dX5_isUsed_7 : decode cX5_isUsed 7 = .ok (.aload_n 0, 1) := dk_42 (dk_at dksX5_isUsed_0 7 rfl rfl)
theorem dX5_isUsed_8 : decode cX5_isUsed 8 = .ok (.getfield 24, 3) := dk_180 0 24 (dk_at dksX5_isUsed_0 8 rfl rfl)
theorem dX5_isUsed_11 : decode cX5_isUsed 11 = .ok (.if_icmp .ge 43, 3) := dk_162 0 43 (dk_at dksX5_isUsed_0 11 rfl rfl)
theorem dX5_isUsed_14 : decode cX5_isUsed 14 = .ok (.iload 4, 2) := dk_21 4 (dk_at dksX5_isUsed_0 14 rfl rfl)
theorem dX5_isUsed_16 : decode cX5_isUsed 16 = .ok (.iload_n 3, 1) := dk_29 (dk_at dksX5_isUsed_0 16 rfl rfl)
theorem dX5_isUsed_17 : decode cX5_isUsed 17 = .ok (.if_icmp .eq 31, 3) := dk_159 0 31 (dk_at dksX5_isUsed_0 17 rfl rfl)
theorem dX5_isUsed_20 : decode cX5_isUsed 20 = .ok (.aload_n 0, 1) := dk_42 (dk_at dksX5_isUsed_0 20 rfl rfl)
theorem dX5_isUsed_21 : decode cX5_isUsed 21 = .ok (.getfield 21, 3) := dk_180 0 21 (dk_at dksX5_isUsed_0 21 rfl rfl)
theorem dX5_isUsed_24 : decode cX5_isUsed 24 = .ok (.iload 4, 2) := dk_21 4 (dk_at dksX5_isUsed_1 0 rfl rfl)
theorem dX5_isUsed_26 : decode cX5_isUsed 26 = .ok (.iaload, 1) := dk_46 (dk_at dksX5_isUsed_1 2 rfl rfl)
theorem dX5_isUsed_27 : decode cX5_isUsed 27 = .ok (.iload_n 1, 1) := dk_27 (dk_at dksX5_isUsed_1 3 rfl rfl)
theorem dX5_isUsed_28 : decode cX5_isUsed 28 = .ok (.if_icmp .ne 20, 3) := dk_160 0 20 (dk_at dksX5_isUsed_1 4 rfl rfl)
theorem dX5_isUsed_31 : decode cX5_isUsed 31 = .ok (.aload_n 0, 1) := dk_42 (dk_at dksX5_isUsed_1 7 rfl rfl)
theorem dX5_isUsed_32 : decode cX5_isUsed 32 = .ok (.getfield 15, 3) := dk_180 0 15 (dk_at dksX5_isUsed_1 8 rfl rfl)
theorem dX5_isUsed_35 : decode cX5_isUsed 35 = .ok (.iload 4, 2) := dk_21 4 (dk_at dksX5_isUsed_1 11 rfl rfl)
theorem dX5_isUsed_37 : decode cX5_isUsed 37 = .ok (.iaload, 1) := dk_46 (dk_at dksX5_isUsed_1 13 rfl rfl)
theorem dX5_isUsed_38 : decode cX5_isUsed 38 = .ok (.iload_n 2, 1) := dk_28 (dk_at dksX5_isUsed_1 14 rfl rfl)
theorem dX5_isUsed_39 : decode cX5_isUsed 39 = .ok (.if_icmp .ne 9, 3) := dk_160 0 9 (dk_at dksX5_isUsed_1 15 rfl rfl)
theorem dX5_isUsed_42 : decode cX5_isUsed 42 = .ok (.iload_n 2, 1) := dk_28 (dk_at dksX5_isUsed_1 18 rfl rfl)
theorem dX5_isUsed_43 : decode cX5_isUsed 43 = .ok (.ifCond .eq 5, 3) := dk_153 0 5 (dk_at dksX5_isUsed_1 19 rfl rfl)
theorem dX5_isUsed_46 : decode cX5_isUsed 46 = .ok (.iconst 1, 1) := dk_4 (dk_at dksX5_isUsed_1 22 rfl rfl)
theorem dX5_isUsed_47 : decode cX5_isUsed 47 = .ok (.ireturn, 1) := dk_172 (dk_at dksX5_isUsed_1 23 rfl rfl)
theorem dX5_isUsed_48 : decode cX5_isUsed 48 = .ok (.iinc 4 1, 3) := dk_132 4 1 (dk_at dksX5_isUsed_2 0 rfl rfl)
theorem dX5_isUsed_51 : decode cX5_isUsed 51 = .ok (.goto (-46), 3) := dk_167 255 210 (dk_at dksX5_isUsed_2 3 rfl rfl)
theorem dX5_isUsed_54 : decode cX5_isUsed 54 = .ok (.iconst 0, 1) := dk_3 (dk_at dksX5_isUsed_2 6 rfl rfl)
theorem dX5_isUsed_55 : decode cX5_isUsed 55 = .ok (.ireturn, 1) := dk_172 (dk_at dksX5_isUsed_2 7 rfl rfl)
abbrev cX5_copies : ByteArray := prog_22_method_2_code
def yX5_copies : MethodName := ⟨RX5, "copies", "(LTreeDifferModel$Tree;)V"⟩
def dkwX5_copies_2 : List UInt8 := [132, 2, 1, 167, 255, 216, 177]
abbrev dktX5_copies_2 : List UInt8 := dkwX5_copies_2 ++ []
def dkwX5_copies_1 : List UInt8 := [28, 46, 43, 180, 0, 15, 28, 46, 43, 180, 0, 18, 28, 46, 43, 180, 0, 21, 28, 46, 182, 0, 28]
abbrev dktX5_copies_1 : List UInt8 := dkwX5_copies_1 ++ dktX5_copies_2
def dkwX5_copies_0 : List UInt8 := [42, 43, 180, 0, 24, 181, 0, 24, 3, 61, 28, 42, 180, 0, 24, 162, 0, 38, 42, 28, 43, 180, 0, 9]
abbrev dktX5_copies_0 : List UInt8 := dkwX5_copies_0 ++ dktX5_copies_1
theorem dksX5_copies_0 : cX5_copies.data.toList.drop 0 = dktX5_copies_0 := by decide +kernel
theorem dksX5_copies_1 : cX5_copies.data.toList.drop 24 = dktX5_copies_1 := dk_seg dksX5_copies_0 24 rfl rfl
theorem dksX5_copies_2 : cX5_copies.data.toList.drop 47 = dktX5_copies_2 := dk_seg dksX5_copies_1 23 rfl rfl
theorem dX5_copies_0 : decode cX5_copies 0 = .ok (.aload_n 0, 1) := dk_42 (dk_at dksX5_copies_0 0 rfl rfl)
theorem dX5_copies_1 : decode cX5_copies 1 = .ok (.aload_n 1, 1) := dk_43 (dk_at dksX5_copies_0 1 rfl rfl)
theorem dX5_copies_2 : decode cX5_copies 2 = .ok (.getfield 24, 3) := dk_180 0 24 (dk_at dksX5_copies_0 2 rfl rfl)
theorem dX5_copies_5 : decode cX5_copies 5 = .ok (.putfield 24, 3) := dk_181 0 24 (dk_at dksX5_copies_0 5 rfl rfl)
theorem dX5_copies_8 : decode cX5_copies 8 = .ok (.iconst 0, 1) := dk_3 (dk_at dksX5_copies_0 8 rfl rfl)
theorem dX5_copies_9 : decode cX5_copies 9 = .ok (.istore_n 2, 1) := dk_61 (dk_at dksX5_copies_0 9 rfl rfl)
theorem dX5_copies_10 : decode cX5_copies 10 = .ok (.iload_n 2, 1) := dk_28 (dk_at dksX5_copies_0 10 rfl rfl)
theorem dX5_copies_11 : decode cX5_copies 11 = .ok (.aload_n 0, 1) := dk_42 (dk_at dksX5_copies_0 11 rfl rfl)
theorem dX5_copies_12 : decode cX5_copies 12 = .ok (.getfield 24, 3) := dk_180 0 24 (dk_at dksX5_copies_0 12 rfl rfl)
theorem dX5_copies_15 : decode cX5_copies 15 = .ok (.if_icmp .ge 38, 3) := dk_162 0 38 (dk_at dksX5_copies_0 15 rfl rfl)
theorem dX5_copies_18 : decode cX5_copies 18 = .ok (.aload_n 0, 1) := dk_42 (dk_at dksX5_copies_0 18 rfl rfl)
theorem dX5_copies_19 : decode cX5_copies 19 = .ok (.iload_n 2, 1) := dk_28 (dk_at dksX5_copies_0 19 rfl rfl)
theorem dX5_copies_20 : decode cX5_copies 20 = .ok (.aload_n 1, 1) := dk_43 (dk_at dksX5_copies_0 20 rfl rfl)
theorem dX5_copies_21 : decode cX5_copies 21 = .ok (.getfield 9, 3) := dk_180 0 9 (dk_at dksX5_copies_0 21 rfl rfl)
theorem dX5_copies_24 : decode cX5_copies 24 = .ok (.iload_n 2, 1) := dk_28 (dk_at dksX5_copies_1 0 rfl rfl)
theorem dX5_copies_25 : decode cX5_copies 25 = .ok (.iaload, 1) := dk_46 (dk_at dksX5_copies_1 1 rfl rfl)
theorem dX5_copies_26 : decode cX5_copies 26 = .ok (.aload_n 1, 1) := dk_43 (dk_at dksX5_copies_1 2 rfl rfl)
theorem dX5_copies_27 : decode cX5_copies 27 = .ok (.getfield 15, 3) := dk_180 0 15 (dk_at dksX5_copies_1 3 rfl rfl)
theorem dX5_copies_30 : decode cX5_copies 30 = .ok (.iload_n 2, 1) := dk_28 (dk_at dksX5_copies_1 6 rfl rfl)
theorem dX5_copies_31 : decode cX5_copies 31 = .ok (.iaload, 1) := dk_46 (dk_at dksX5_copies_1 7 rfl rfl)
theorem dX5_copies_32 : decode cX5_copies 32 = .ok (.aload_n 1, 1) := dk_43 (dk_at dksX5_copies_1 8 rfl rfl)
theorem dX5_copies_33 : decode cX5_copies 33 = .ok (.getfield 18, 3) := dk_180 0 18 (dk_at dksX5_copies_1 9 rfl rfl)
theorem dX5_copies_36 : decode cX5_copies 36 = .ok (.iload_n 2, 1) := dk_28 (dk_at dksX5_copies_1 12 rfl rfl)
theorem dX5_copies_37 : decode cX5_copies 37 = .ok (.iaload, 1) := dk_46 (dk_at dksX5_copies_1 13 rfl rfl)
theorem dX5_copies_38 : decode cX5_copies 38 = .ok (.aload_n 1, 1) := dk_43 (dk_at dksX5_copies_1 14 rfl rfl)
theorem dX5_copies_39 : decode cX5_copies 39 = .ok (.getfield 21, 3) := dk_180 0 21 (dk_at dksX5_copies_1 15 rfl rfl)
theorem dX5_copies_42 : decode cX5_copies 42 = .ok (.iload_n 2, 1) := dk_28 (dk_at dksX5_copies_1 18 rfl rfl)
theorem dX5_copies_43 : decode cX5_copies 43 = .ok (.iaload, 1) := dk_46 (dk_at dksX5_copies_1 19 rfl rfl)
theorem dX5_copies_44 : decode cX5_copies 44 = .ok (.invokevirtual 28, 3) := dk_182 0 28 (dk_at dksX5_copies_1 20 rfl rfl)
theorem dX5_copies_47 : decode cX5_copies 47 = .ok (.iinc 2 1, 3) := dk_132 2 1 (dk_at dksX5_copies_2 0 rfl rfl)
theorem dX5_copies_50 : decode cX5_copies 50 = .ok (.goto (-40), 3) := dk_167 255 216 (dk_at dksX5_copies_2 3 rfl rfl)
theorem dX5_copies_53 : decode cX5_copies 53 = .ok (.return_, 1) := dk_177 (dk_at dksX5_copies_2 6 rfl rfl)
abbrev cX5_many : ByteArray := prog_22_method_6_code
def yX5_many : MethodName := ⟨RX5, "many", "(I)I"⟩
def dkwX5_many_1 : List UInt8 := [160, 0, 7, 4, 167, 0, 4, 3, 96, 61, 132, 3, 1, 167, 255, 227, 28, 172]
abbrev dktX5_many_1 : List UInt8 := dkwX5_many_1 ++ []
def dkwX5_many_0 : List UInt8 := [3, 61, 27, 4, 96, 62, 29, 42, 180, 0, 24, 162, 0, 27, 28, 42, 180, 0, 21, 29, 46, 27]
abbrev dktX5_many_0 : List UInt8 := dkwX5_many_0 ++ dktX5_many_1
theorem dksX5_many_0 : cX5_many.data.toList.drop 0 = dktX5_many_0 := by decide +kernel
theorem dksX5_many_1 : cX5_many.data.toList.drop 22 = dktX5_many_1 := dk_seg dksX5_many_0 22 rfl rfl
theorem dX5_many_0 : decode cX5_many 0 = .ok (.iconst 0, 1) := dk_3 (dk_at dksX5_many_0 0 rfl rfl)
theorem dX5_many_1 : decode cX5_many 1 = .ok (.istore_n 2, 1) := dk_61 (dk_at dksX5_many_0 1 rfl rfl)
theorem dX5_many_2 : decode cX5_many 2 = .ok (.iload_n 1, 1) := dk_27 (dk_at dksX5_many_0 2 rfl rfl)
theorem dX5_many_3 : decode cX5_many 3 = .ok (.iconst 1, 1) := dk_4 (dk_at dksX5_many_0 3 rfl rfl)
theorem dX5_many_4 : decode cX5_many 4 = .ok (.iadd, 1) := dk_96 (dk_at dksX5_many_0 4 rfl rfl)
theorem dX5_many_5 : decode cX5_many 5 = .ok (.istore_n 3, 1) := dk_62 (dk_at dksX5_many_0 5 rfl rfl)
theorem dX5_many_6 : decode cX5_many 6 = .ok (.iload_n 3, 1) := dk_29 (dk_at dksX5_many_0 6 rfl rfl)
theorem dX5_many_7 : decode cX5_many 7 = .ok (.aload_n 0, 1) := dk_42 (dk_at dksX5_many_0 7 rfl rfl)
theorem dX5_many_8 : decode cX5_many 8 = .ok (.getfield 24, 3) := dk_180 0 24 (dk_at dksX5_many_0 8 rfl rfl)
theorem dX5_many_11 : decode cX5_many 11 = .ok (.if_icmp .ge 27, 3) := dk_162 0 27 (dk_at dksX5_many_0 11 rfl rfl)
theorem dX5_many_14 : decode cX5_many 14 = .ok (.iload_n 2, 1) := dk_28 (dk_at dksX5_many_0 14 rfl rfl)
theorem dX5_many_15 : decode cX5_many 15 = .ok (.aload_n 0, 1) := dk_42 (dk_at dksX5_many_0 15 rfl rfl)
theorem dX5_many_16 : decode cX5_many 16 = .ok (.getfield 21, 3) := dk_180 0 21 (dk_at dksX5_many_0 16 rfl rfl)
theorem dX5_many_19 : decode cX5_many 19 = .ok (.iload_n 3, 1) := dk_29 (dk_at dksX5_many_0 19 rfl rfl)
theorem dX5_many_20 : decode cX5_many 20 = .ok (.iaload, 1) := dk_46 (dk_at dksX5_many_0 20 rfl rfl)
theorem dX5_many_21 : decode cX5_many 21 = .ok (.iload_n 1, 1) := dk_27 (dk_at dksX5_many_0 21 rfl rfl)
theorem dX5_many_22 : decode cX5_many 22 = .ok (.if_icmp .ne 7, 3) := dk_160 0 7 (dk_at dksX5_many_1 0 rfl rfl)
theorem dX5_many_25 : decode cX5_many 25 = .ok (.iconst 1, 1) := dk_4 (dk_at dksX5_many_1 3 rfl rfl)
theorem dX5_many_26 : decode cX5_many 26 = .ok (.goto 4, 3) := dk_167 0 4 (dk_at dksX5_many_1 4 rfl rfl)
theorem dX5_many_29 : decode cX5_many 29 = .ok (.iconst 0, 1) := dk_3 (dk_at dksX5_many_1 7 rfl rfl)
theorem dX5_many_30 : decode cX5_many 30 = .ok (.iadd, 1) := dk_96 (dk_at dksX5_many_1 8 rfl rfl)
theorem dX5_many_31 : decode cX5_many 31 = .ok (.istore_n 2, 1) := dk_61 (dk_at dksX5_many_1 9 rfl rfl)
theorem dX5_many_32 : decode cX5_many 32 = .ok (.iinc 3 1, 3) := dk_132 3 1 (dk_at dksX5_many_1 10 rfl rfl)
theorem dX5_many_35 : decode cX5_many 35 = .ok (.goto (-29), 3) := dk_167 255 227 (dk_at dksX5_many_1 13 rfl rfl)
theorem dX5_many_38 : decode cX5_many 38 = .ok (.iload_n 2, 1) := dk_28 (dk_at dksX5_many_1 16 rfl rfl)
theorem dX5_many_39 : decode cX5_many 39 = .ok (.ireturn, 1) := dk_172 (dk_at dksX5_many_1 17 rfl rfl)
abbrev cX5_kids : ByteArray := prog_22_method_7_code
def yX5_kids : MethodName := ⟨RX5, "kids", "(I)[I"⟩
def dkwX5_kids_2 : List UInt8 := [132, 4, 1, 167, 255, 222, 44, 176]
abbrev dktX5_kids_2 : List UInt8 := dkwX5_kids_2 ++ []
def dkwX5_kids_1 : List UInt8 := [42, 180, 0, 21, 21, 4, 46, 27, 159, 0, 6, 167, 0, 11, 44, 29, 21, 4, 79, 132, 3, 1]
abbrev dktX5_kids_1 : List UInt8 := dkwX5_kids_1 ++ dktX5_kids_2
def dkwX5_kids_0 : List UInt8 := [42, 27, 182, 0, 32, 188, 10, 77, 3, 62, 27, 4, 96, 54, 4, 21, 4, 42, 180, 0, 24, 162, 0, 31]
abbrev dktX5_kids_0 : List UInt8 := dkwX5_kids_0 ++ dktX5_kids_1
theorem dksX5_kids_0 : cX5_kids.data.toList.drop 0 = dktX5_kids_0 := by decide +kernel
theorem dksX5_kids_1 : cX5_kids.data.toList.drop 24 = dktX5_kids_1 := dk_seg dksX5_kids_0 24 rfl rfl
theorem dksX5_kids_2 : cX5_kids.data.toList.drop 46 = dktX5_kids_2 := dk_seg dksX5_kids_1 22 rfl rfl
theorem dX5_kids_0 : decode cX5_kids 0 = .ok (.aload_n 0, 1) := dk_42 (dk_at dksX5_kids_0 0 rfl rfl)
theorem dX5_kids_1 : decode cX5_kids 1 = .ok (.iload_n 1, 1) := dk_27 (dk_at dksX5_kids_0 1 rfl rfl)
theorem dX5_kids_2 : decode cX5_kids 2 = .ok (.invokevirtual 32, 3) := dk_182 0 32 (dk_at dksX5_kids_0 2 rfl rfl)
theorem dX5_kids_5 : decode cX5_kids 5 = .ok (.newarray .int, 2) := dk_188_10 (dk_at dksX5_kids_0 5 rfl rfl)
theorem dX5_kids_7 : decode cX5_kids 7 = .ok (.astore_n 2, 1) := dk_77 (dk_at dksX5_kids_0 7 rfl rfl)
theorem dX5_kids_8 : decode cX5_kids 8 = .ok (.iconst 0, 1) := dk_3 (dk_at dksX5_kids_0 8 rfl rfl)
theorem dX5_kids_9 : decode cX5_kids 9 = .ok (.istore_n 3, 1) := dk_62 (dk_at dksX5_kids_0 9 rfl rfl)
theorem dX5_kids_10 : decode cX5_kids 10 = .ok (.iload_n 1, 1) := dk_27 (dk_at dksX5_kids_0 10 rfl rfl)
theorem dX5_kids_11 : decode cX5_kids 11 = .ok (.iconst 1, 1) := dk_4 (dk_at dksX5_kids_0 11 rfl rfl)
theorem dX5_kids_12 : decode cX5_kids 12 = .ok (.iadd, 1) := dk_96 (dk_at dksX5_kids_0 12 rfl rfl)
theorem dX5_kids_13 : decode cX5_kids 13 = .ok (.istore 4, 2) := dk_54 4 (dk_at dksX5_kids_0 13 rfl rfl)
theorem dX5_kids_15 : decode cX5_kids 15 = .ok (.iload 4, 2) := dk_21 4 (dk_at dksX5_kids_0 15 rfl rfl)
theorem dX5_kids_17 : decode cX5_kids 17 = .ok (.aload_n 0, 1) := dk_42 (dk_at dksX5_kids_0 17 rfl rfl)
theorem dX5_kids_18 : decode cX5_kids 18 = .ok (.getfield 24, 3) := dk_180 0 24 (dk_at dksX5_kids_0 18 rfl rfl)
theorem dX5_kids_21 : decode cX5_kids 21 = .ok (.if_icmp .ge 31, 3) := dk_162 0 31 (dk_at dksX5_kids_0 21 rfl rfl)
theorem dX5_kids_24 : decode cX5_kids 24 = .ok (.aload_n 0, 1) := dk_42 (dk_at dksX5_kids_1 0 rfl rfl)
theorem dX5_kids_25 : decode cX5_kids 25 = .ok (.getfield 21, 3) := dk_180 0 21 (dk_at dksX5_kids_1 1 rfl rfl)
theorem dX5_kids_28 : decode cX5_kids 28 = .ok (.iload 4, 2) := dk_21 4 (dk_at dksX5_kids_1 4 rfl rfl)
theorem dX5_kids_30 : decode cX5_kids 30 = .ok (.iaload, 1) := dk_46 (dk_at dksX5_kids_1 6 rfl rfl)
theorem dX5_kids_31 : decode cX5_kids 31 = .ok (.iload_n 1, 1) := dk_27 (dk_at dksX5_kids_1 7 rfl rfl)
theorem dX5_kids_32 : decode cX5_kids 32 = .ok (.if_icmp .eq 6, 3) := dk_159 0 6 (dk_at dksX5_kids_1 8 rfl rfl)
theorem dX5_kids_35 : decode cX5_kids 35 = .ok (.goto 11, 3) := dk_167 0 11 (dk_at dksX5_kids_1 11 rfl rfl)
theorem dX5_kids_38 : decode cX5_kids 38 = .ok (.aload_n 2, 1) := dk_44 (dk_at dksX5_kids_1 14 rfl rfl)
theorem dX5_kids_39 : decode cX5_kids 39 = .ok (.iload_n 3, 1) := dk_29 (dk_at dksX5_kids_1 15 rfl rfl)
theorem dX5_kids_40 : decode cX5_kids 40 = .ok (.iload 4, 2) := dk_21 4 (dk_at dksX5_kids_1 16 rfl rfl)
theorem dX5_kids_42 : decode cX5_kids 42 = .ok (.iastore, 1) := dk_79 (dk_at dksX5_kids_1 18 rfl rfl)
theorem dX5_kids_43 : decode cX5_kids 43 = .ok (.iinc 3 1, 3) := dk_132 3 1 (dk_at dksX5_kids_1 19 rfl rfl)
theorem dX5_kids_46 : decode cX5_kids 46 = .ok (.iinc 4 1, 3) := dk_132 4 1 (dk_at dksX5_kids_2 0 rfl rfl)
theorem dX5_kids_49 : decode cX5_kids 49 = .ok (.goto (-34), 3) := dk_167 255 222 (dk_at dksX5_kids_2 3 rfl rfl)
theorem dX5_kids_52 : decode cX5_kids 52 = .ok (.aload_n 2, 1) := dk_44 (dk_at dksX5_kids_2 6 rfl rfl)
theorem dX5_kids_53 : decode cX5_kids 53 = .ok (.areturn, 1) := dk_176 (dk_at dksX5_kids_2 7 rfl rfl)
abbrev cX5_end : ByteArray := prog_22_method_5_code
def yX5_end : MethodName := ⟨RX5, "end", "(I)I"⟩
def dkwX5_end_1 : List UInt8 := [132, 2, 1, 167, 255, 235, 28, 172]
abbrev dktX5_end_1 : List UInt8 := dkwX5_end_1 ++ []
def dkwX5_end_0 : List UInt8 := [27, 4, 96, 61, 28, 42, 180, 0, 24, 162, 0, 19, 42, 180, 0, 21, 28, 46, 27, 161, 0, 9]
abbrev dktX5_end_0 : List UInt8 := dkwX5_end_0 ++ dktX5_end_1
theorem dksX5_end_0 : cX5_end.data.toList.drop 0 = dktX5_end_0 := by decide +kernel
theorem dksX5_end_1 : cX5_end.data.toList.drop 22 = dktX5_end_1 := dk_seg dksX5_end_0 22 rfl rfl
theorem dX5_end_0 : decode cX5_end 0 = .ok (.iload_n 1, 1) := dk_27 (dk_at dksX5_end_0 0 rfl rfl)
theorem dX5_end_1 : decode cX5_end 1 = .ok (.iconst 1, 1) := dk_4 (dk_at dksX5_end_0 1 rfl rfl)
theorem dX5_end_2 : decode cX5_end 2 = .ok (.iadd, 1) := dk_96 (dk_at dksX5_end_0 2 rfl rfl)
theorem dX5_end_3 : decode cX5_end 3 = .ok (.istore_n 2, 1) := dk_61 (dk_at dksX5_end_0 3 rfl rfl)
theorem dX5_end_4 : decode cX5_end 4 = .ok (.iload_n 2, 1) := dk_28 (dk_at dksX5_end_0 4 rfl rfl)
theorem dX5_end_5 : decode cX5_end 5 = .ok (.aload_n 0, 1) := dk_42 (dk_at dksX5_end_0 5 rfl rfl)
theorem dX5_end_6 : decode cX5_end 6 = .ok (.getfield 24, 3) := dk_180 0 24 (dk_at dksX5_end_0 6 rfl rfl)
theorem dX5_end_9 : decode cX5_end 9 = .ok (.if_icmp .ge 19, 3) := dk_162 0 19 (dk_at dksX5_end_0 9 rfl rfl)
theorem dX5_end_12 : decode cX5_end 12 = .ok (.aload_n 0, 1) := dk_42 (dk_at dksX5_end_0 12 rfl rfl)
theorem dX5_end_13 : decode cX5_end 13 = .ok (.getfield 21, 3) := dk_180 0 21 (dk_at dksX5_end_0 13 rfl rfl)
theorem dX5_end_16 : decode cX5_end 16 = .ok (.iload_n 2, 1) := dk_28 (dk_at dksX5_end_0 16 rfl rfl)
theorem dX5_end_17 : decode cX5_end 17 = .ok (.iaload, 1) := dk_46 (dk_at dksX5_end_0 17 rfl rfl)
theorem dX5_end_18 : decode cX5_end 18 = .ok (.iload_n 1, 1) := dk_27 (dk_at dksX5_end_0 18 rfl rfl)
theorem dX5_end_19 : decode cX5_end 19 = .ok (.if_icmp .lt 9, 3) := dk_161 0 9 (dk_at dksX5_end_0 19 rfl rfl)
theorem dX5_end_22 : decode cX5_end 22 = .ok (.iinc 2 1, 3) := dk_132 2 1 (dk_at dksX5_end_1 0 rfl rfl)
theorem dX5_end_25 : decode cX5_end 25 = .ok (.goto (-21), 3) := dk_167 255 235 (dk_at dksX5_end_1 3 rfl rfl)
theorem dX5_end_28 : decode cX5_end 28 = .ok (.iload_n 2, 1) := dk_28 (dk_at dksX5_end_1 6 rfl rfl)
theorem dX5_end_29 : decode cX5_end 29 = .ok (.ireturn, 1) := dk_172 (dk_at dksX5_end_1 7 rfl rfl)
abbrev cX5_moves : ByteArray := prog_22_method_8_code
def yX5_moves : MethodName := ⟨RX5, "moves", "(II)V"⟩
def dkwX5_moves_6 : List UInt8 := [132, 3, 1, 167, 255, 193, 42, 89, 180, 0, 24, 28, 96, 181, 0, 24, 177]
abbrev dktX5_moves_6 : List UInt8 := dkwX5_moves_6 ++ []
def dkwX5_moves_5 : List UInt8 := [161, 0, 14, 42, 180, 0, 21, 29, 46, 28, 96, 167, 0, 9, 42, 180, 0, 21, 29, 46, 182, 0, 28]
abbrev dktX5_moves_5 : List UInt8 := dkwX5_moves_5 ++ dktX5_moves_6
def dkwX5_moves_4 : List UInt8 := [180, 0, 9, 29, 46, 42, 180, 0, 15, 29, 46, 42, 180, 0, 18, 29, 46, 42, 180, 0, 21, 29, 46, 27]
abbrev dktX5_moves_4 : List UInt8 := dkwX5_moves_4 ++ dktX5_moves_5
def dkwX5_moves_3 : List UInt8 := [167, 255, 196, 167, 0, 73, 27, 28, 100, 62, 29, 42, 180, 0, 24, 162, 0, 61, 42, 29, 28, 96, 42]
abbrev dktX5_moves_3 : List UInt8 := dkwX5_moves_3 ++ dktX5_moves_4
def dkwX5_moves_2 : List UInt8 := [42, 180, 0, 21, 29, 46, 28, 96, 167, 0, 9, 42, 180, 0, 21, 29, 46, 182, 0, 28, 132, 3, 255]
abbrev dktX5_moves_2 : List UInt8 := dkwX5_moves_2 ++ dktX5_moves_3
def dkwX5_moves_1 : List UInt8 := [29, 46, 42, 180, 0, 15, 29, 46, 42, 180, 0, 18, 29, 46, 42, 180, 0, 21, 29, 46, 27, 161, 0, 14]
abbrev dktX5_moves_1 : List UInt8 := dkwX5_moves_1 ++ dktX5_moves_2
def dkwX5_moves_0 : List UInt8 := [28, 158, 0, 76, 42, 180, 0, 24, 4, 100, 62, 29, 27, 161, 0, 61, 42, 29, 28, 96, 42, 180, 0, 9]
abbrev dktX5_moves_0 : List UInt8 := dkwX5_moves_0 ++ dktX5_moves_1
theorem dksX5_moves_0 : cX5_moves.data.toList.drop 0 = dktX5_moves_0 := by decide +kernel
theorem dksX5_moves_1 : cX5_moves.data.toList.drop 24 = dktX5_moves_1 := dk_seg dksX5_moves_0 24 rfl rfl
theorem dksX5_moves_2 : cX5_moves.data.toList.drop 48 = dktX5_moves_2 := dk_seg dksX5_moves_1 24 rfl rfl
theorem dksX5_moves_3 : cX5_moves.data.toList.drop 71 = dktX5_moves_3 := dk_seg dksX5_moves_2 23 rfl rfl
theorem dksX5_moves_4 : cX5_moves.data.toList.drop 94 = dktX5_moves_4 := dk_seg dksX5_moves_3 23 rfl rfl
theorem dksX5_moves_5 : cX5_moves.data.toList.drop 118 = dktX5_moves_5 := dk_seg dksX5_moves_4 24 rfl rfl
theorem dksX5_moves_6 : cX5_moves.data.toList.drop 141 = dktX5_moves_6 := dk_seg dksX5_moves_5 23 rfl rfl
theorem dX5_moves_0 : decode cX5_moves 0 = .ok (.iload_n 2, 1) := dk_28 (dk_at dksX5_moves_0 0 rfl rfl)
theorem dX5_moves_1 : decode cX5_moves 1 = .ok (.ifCond .le 76, 3) := dk_158 0 76 (dk_at dksX5_moves_0 1 rfl rfl)
theorem dX5_moves_4 : decode cX5_moves 4 = .ok (.aload_n 0, 1) := dk_42 (dk_at dksX5_moves_0 4 rfl rfl)
theorem dX5_moves_5 : decode cX5_moves 5 = .ok (.getfield 24, 3) := dk_180 0 24 (dk_at dksX5_moves_0 5 rfl rfl)
theorem dX5_moves_8 : decode cX5_moves 8 = .ok (.iconst 1, 1) := dk_4 (dk_at dksX5_moves_0 8 rfl rfl)
theorem dX5_moves_9 : decode cX5_moves 9 = .ok (.isub, 1) := dk_100 (dk_at dksX5_moves_0 9 rfl rfl)
theorem dX5_moves_10 : decode cX5_moves 10 = .ok (.istore_n 3, 1) := dk_62 (dk_at dksX5_moves_0 10 rfl rfl)
theorem dX5_moves_11 : decode cX5_moves 11 = .ok (.iload_n 3, 1) := dk_29 (dk_at dksX5_moves_0 11 rfl rfl)
theorem dX5_moves_12 : decode cX5_moves 12 = .ok (.iload_n 1, 1) := dk_27 (dk_at dksX5_moves_0 12 rfl rfl)
theorem dX5_moves_13 : decode cX5_moves 13 = .ok (.if_icmp .lt 61, 3) := dk_161 0 61 (dk_at dksX5_moves_0 13 rfl rfl)
theorem dX5_moves_16 : decode cX5_moves 16 = .ok (.aload_n 0, 1) := dk_42 (dk_at dksX5_moves_0 16 rfl rfl)
theorem dX5_moves_17 : decode cX5_moves 17 = .ok (.iload_n 3, 1) := dk_29 (dk_at dksX5_moves_0 17 rfl rfl)
theorem dX5_moves_18 : decode cX5_moves 18 = .ok (.iload_n 2, 1) := dk_28 (dk_at dksX5_moves_0 18 rfl rfl)
theorem dX5_moves_19 : decode cX5_moves 19 = .ok (.iadd, 1) := dk_96 (dk_at dksX5_moves_0 19 rfl rfl)
theorem dX5_moves_20 : decode cX5_moves 20 = .ok (.aload_n 0, 1) := dk_42 (dk_at dksX5_moves_0 20 rfl rfl)
theorem dX5_moves_21 : decode cX5_moves 21 = .ok (.getfield 9, 3) := dk_180 0 9 (dk_at dksX5_moves_0 21 rfl rfl)
theorem dX5_moves_24 : decode cX5_moves 24 = .ok (.iload_n 3, 1) := dk_29 (dk_at dksX5_moves_1 0 rfl rfl)
theorem dX5_moves_25 : decode cX5_moves 25 = .ok (.iaload, 1) := dk_46 (dk_at dksX5_moves_1 1 rfl rfl)
theorem dX5_moves_26 : decode cX5_moves 26 = .ok (.aload_n 0, 1) := dk_42 (dk_at dksX5_moves_1 2 rfl rfl)
theorem dX5_moves_27 : decode cX5_moves 27 = .ok (.getfield 15, 3) := dk_180 0 15 (dk_at dksX5_moves_1 3 rfl rfl)
theorem dX5_moves_30 : decode cX5_moves 30 = .ok (.iload_n 3, 1) := dk_29 (dk_at dksX5_moves_1 6 rfl rfl)
theorem dX5_moves_31 : decode cX5_moves 31 = .ok (.iaload, 1) := dk_46 (dk_at dksX5_moves_1 7 rfl rfl)
theorem dX5_moves_32 : decode cX5_moves 32 = .ok (.aload_n 0, 1) := dk_42 (dk_at dksX5_moves_1 8 rfl rfl)
theorem dX5_moves_33 : decode cX5_moves 33 = .ok (.getfield 18, 3) := dk_180 0 18 (dk_at dksX5_moves_1 9 rfl rfl)
theorem dX5_moves_36 : decode cX5_moves 36 = .ok (.iload_n 3, 1) := dk_29 (dk_at dksX5_moves_1 12 rfl rfl)
theorem dX5_moves_37 : decode cX5_moves 37 = .ok (.iaload, 1) := dk_46 (dk_at dksX5_moves_1 13 rfl rfl)
theorem dX5_moves_38 : decode cX5_moves 38 = .ok (.aload_n 0, 1) := dk_42 (dk_at dksX5_moves_1 14 rfl rfl)
theorem dX5_moves_39 : decode cX5_moves 39 = .ok (.getfield 21, 3) := dk_180 0 21 (dk_at dksX5_moves_1 15 rfl rfl)
theorem dX5_moves_42 : decode cX5_moves 42 = .ok (.iload_n 3, 1) := dk_29 (dk_at dksX5_moves_1 18 rfl rfl)
theorem dX5_moves_43 : decode cX5_moves 43 = .ok (.iaload, 1) := dk_46 (dk_at dksX5_moves_1 19 rfl rfl)
theorem dX5_moves_44 : decode cX5_moves 44 = .ok (.iload_n 1, 1) := dk_27 (dk_at dksX5_moves_1 20 rfl rfl)
theorem dX5_moves_45 : decode cX5_moves 45 = .ok (.if_icmp .lt 14, 3) := dk_161 0 14 (dk_at dksX5_moves_1 21 rfl rfl)
theorem dX5_moves_48 : decode cX5_moves 48 = .ok (.aload_n 0, 1) := dk_42 (dk_at dksX5_moves_2 0 rfl rfl)
theorem dX5_moves_49 : decode cX5_moves 49 = .ok (.getfield 21, 3) := dk_180 0 21 (dk_at dksX5_moves_2 1 rfl rfl)
theorem dX5_moves_52 : decode cX5_moves 52 = .ok (.iload_n 3, 1) := dk_29 (dk_at dksX5_moves_2 4 rfl rfl)
theorem dX5_moves_53 : decode cX5_moves 53 = .ok (.iaload, 1) := dk_46 (dk_at dksX5_moves_2 5 rfl rfl)
theorem dX5_moves_54 : decode cX5_moves 54 = .ok (.iload_n 2, 1) := dk_28 (dk_at dksX5_moves_2 6 rfl rfl)
theorem dX5_moves_55 : decode cX5_moves 55 = .ok (.iadd, 1) := dk_96 (dk_at dksX5_moves_2 7 rfl rfl)
theorem dX5_moves_56 : decode cX5_moves 56 = .ok (.goto 9, 3) := dk_167 0 9 (dk_at dksX5_moves_2 8 rfl rfl)
theorem dX5_moves_59 : decode cX5_moves 59 = .ok (.aload_n 0, 1) := dk_42 (dk_at dksX5_moves_2 11 rfl rfl)
theorem dX5_moves_60 : decode cX5_moves 60 = .ok (.getfield 21, 3) := dk_180 0 21 (dk_at dksX5_moves_2 12 rfl rfl)
theorem dX5_moves_63 : decode cX5_moves 63 = .ok (.iload_n 3, 1) := dk_29 (dk_at dksX5_moves_2 15 rfl rfl)
theorem dX5_moves_64 : decode cX5_moves 64 = .ok (.iaload, 1) := dk_46 (dk_at dksX5_moves_2 16 rfl rfl)
theorem dX5_moves_65 : decode cX5_moves 65 = .ok (.invokevirtual 28, 3) := dk_182 0 28 (dk_at dksX5_moves_2 17 rfl rfl)
theorem dX5_moves_68 : decode cX5_moves 68 = .ok (.iinc 3 (-1), 3) := dk_132 3 255 (dk_at dksX5_moves_2 20 rfl rfl)
theorem dX5_moves_71 : decode cX5_moves 71 = .ok (.goto (-60), 3) := dk_167 255 196 (dk_at dksX5_moves_3 0 rfl rfl)
theorem dX5_moves_74 : decode cX5_moves 74 = .ok (.goto 73, 3) := dk_167 0 73 (dk_at dksX5_moves_3 3 rfl rfl)
theorem dX5_moves_77 : decode cX5_moves 77 = .ok (.iload_n 1, 1) := dk_27 (dk_at dksX5_moves_3 6 rfl rfl)
theorem dX5_moves_78 : decode cX5_moves 78 = .ok (.iload_n 2, 1) := dk_28 (dk_at dksX5_moves_3 7 rfl rfl)
theorem dX5_moves_79 : decode cX5_moves 79 = .ok (.isub, 1) := dk_100 (dk_at dksX5_moves_3 8 rfl rfl)
theorem dX5_moves_80 : decode cX5_moves 80 = .ok (.istore_n 3, 1) := dk_62 (dk_at dksX5_moves_3 9 rfl rfl)
theorem dX5_moves_81 : decode cX5_moves 81 = .ok (.iload_n 3, 1) := dk_29 (dk_at dksX5_moves_3 10 rfl rfl)
theorem dX5_moves_82 : decode cX5_moves 82 = .ok (.aload_n 0, 1) := dk_42 (dk_at dksX5_moves_3 11 rfl rfl)
theorem dX5_moves_83 : decode cX5_moves 83 = .ok (.getfield 24, 3) := dk_180 0 24 (dk_at dksX5_moves_3 12 rfl rfl)
theorem dX5_moves_86 : decode cX5_moves 86 = .ok (.if_icmp .ge 61, 3) := dk_162 0 61 (dk_at dksX5_moves_3 15 rfl rfl)
theorem dX5_moves_89 : decode cX5_moves 89 = .ok (.aload_n 0, 1) := dk_42 (dk_at dksX5_moves_3 18 rfl rfl)
theorem dX5_moves_90 : decode cX5_moves 90 = .ok (.iload_n 3, 1) := dk_29 (dk_at dksX5_moves_3 19 rfl rfl)
theorem dX5_moves_91 : decode cX5_moves 91 = .ok (.iload_n 2, 1) := dk_28 (dk_at dksX5_moves_3 20 rfl rfl)
theorem dX5_moves_92 : decode cX5_moves 92 = .ok (.iadd, 1) := dk_96 (dk_at dksX5_moves_3 21 rfl rfl)
theorem dX5_moves_93 : decode cX5_moves 93 = .ok (.aload_n 0, 1) := dk_42 (dk_at dksX5_moves_3 22 rfl rfl)
theorem dX5_moves_94 : decode cX5_moves 94 = .ok (.getfield 9, 3) := dk_180 0 9 (dk_at dksX5_moves_4 0 rfl rfl)
theorem dX5_moves_97 : decode cX5_moves 97 = .ok (.iload_n 3, 1) := dk_29 (dk_at dksX5_moves_4 3 rfl rfl)
theorem dX5_moves_98 : decode cX5_moves 98 = .ok (.iaload, 1) := dk_46 (dk_at dksX5_moves_4 4 rfl rfl)
theorem dX5_moves_99 : decode cX5_moves 99 = .ok (.aload_n 0, 1) := dk_42 (dk_at dksX5_moves_4 5 rfl rfl)
theorem dX5_moves_100 : decode cX5_moves 100 = .ok (.getfield 15, 3) := dk_180 0 15 (dk_at dksX5_moves_4 6 rfl rfl)
theorem dX5_moves_103 : decode cX5_moves 103 = .ok (.iload_n 3, 1) := dk_29 (dk_at dksX5_moves_4 9 rfl rfl)
theorem dX5_moves_104 : decode cX5_moves 104 = .ok (.iaload, 1) := dk_46 (dk_at dksX5_moves_4 10 rfl rfl)
theorem dX5_moves_105 : decode cX5_moves 105 = .ok (.aload_n 0, 1) := dk_42 (dk_at dksX5_moves_4 11 rfl rfl)
theorem dX5_moves_106 : decode cX5_moves 106 = .ok (.getfield 18, 3) := dk_180 0 18 (dk_at dksX5_moves_4 12 rfl rfl)
theorem dX5_moves_109 : decode cX5_moves 109 = .ok (.iload_n 3, 1) := dk_29 (dk_at dksX5_moves_4 15 rfl rfl)
theorem dX5_moves_110 : decode cX5_moves 110 = .ok (.iaload, 1) := dk_46 (dk_at dksX5_moves_4 16 rfl rfl)
theorem dX5_moves_111 : decode cX5_moves 111 = .ok (.aload_n 0, 1) := dk_42 (dk_at dksX5_moves_4 17 rfl rfl)
theorem dX5_moves_112 : decode cX5_moves 112 = .ok (.getfield 21, 3) := dk_180 0 21 (dk_at dksX5_moves_4 18 rfl rfl)
theorem dX5_moves_115 : decode cX5_moves 115 = .ok (.iload_n 3, 1) := dk_29 (dk_at dksX5_moves_4 21 rfl rfl)
theorem dX5_moves_116 : decode cX5_moves 116 = .ok (.iaload, 1) := dk_46 (dk_at dksX5_moves_4 22 rfl rfl)
theorem dX5_moves_117 : decode cX5_moves 117 = .ok (.iload_n 1, 1) := dk_27 (dk_at dksX5_moves_4 23 rfl rfl)
theorem dX5_moves_118 : decode cX5_moves 118 = .ok (.if_icmp .lt 14, 3) := dk_161 0 14 (dk_at dksX5_moves_5 0 rfl rfl)
theorem dX5_moves_121 : decode cX5_moves 121 = .ok (.aload_n 0, 1) := dk_42 (dk_at dksX5_moves_5 3 rfl rfl)
theorem dX5_moves_122 : decode cX5_moves 122 = .ok (.getfield 21, 3) := dk_180 0 21 (dk_at dksX5_moves_5 4 rfl rfl)
theorem dX5_moves_125 : decode cX5_moves 125 = .ok (.iload_n 3, 1) := dk_29 (dk_at dksX5_moves_5 7 rfl rfl)
theorem dX5_moves_126 : decode cX5_moves 126 = .ok (.iaload, 1) := dk_46 (dk_at dksX5_moves_5 8 rfl rfl)
theorem dX5_moves_127 : decode cX5_moves 127 = .ok (.iload_n 2, 1) := dk_28 (dk_at dksX5_moves_5 9 rfl rfl)
theorem dX5_moves_128 : decode cX5_moves 128 = .ok (.iadd, 1) := dk_96 (dk_at dksX5_moves_5 10 rfl rfl)
theorem dX5_moves_129 : decode cX5_moves 129 = .ok (.goto 9, 3) := dk_167 0 9 (dk_at dksX5_moves_5 11 rfl rfl)
theorem dX5_moves_132 : decode cX5_moves 132 = .ok (.aload_n 0, 1) := dk_42 (dk_at dksX5_moves_5 14 rfl rfl)
theorem dX5_moves_133 : decode cX5_moves 133 = .ok (.getfield 21, 3) := dk_180 0 21 (dk_at dksX5_moves_5 15 rfl rfl)
theorem dX5_moves_136 : decode cX5_moves 136 = .ok (.iload_n 3, 1) := dk_29 (dk_at dksX5_moves_5 18 rfl rfl)
theorem dX5_moves_137 : decode cX5_moves 137 = .ok (.iaload, 1) := dk_46 (dk_at dksX5_moves_5 19 rfl rfl)
theorem dX5_moves_138 : decode cX5_moves 138 = .ok (.invokevirtual 28, 3) := dk_182 0 28 (dk_at dksX5_moves_5 20 rfl rfl)
theorem dX5_moves_141 : decode cX5_moves 141 = .ok (.iinc 3 1, 3) := dk_132 3 1 (dk_at dksX5_moves_6 0 rfl rfl)
theorem dX5_moves_144 : decode cX5_moves 144 = .ok (.goto (-63), 3) := dk_167 255 193 (dk_at dksX5_moves_6 3 rfl rfl)
theorem dX5_moves_147 : decode cX5_moves 147 = .ok (.aload_n 0, 1) := dk_42 (dk_at dksX5_moves_6 6 rfl rfl)
theorem dX5_moves_148 : decode cX5_moves 148 = .ok (.dup, 1) := dk_89 (dk_at dksX5_moves_6 7 rfl rfl)
theorem dX5_moves_149 : decode cX5_moves 149 = .ok (.getfield 24, 3) := dk_180 0 24 (dk_at dksX5_moves_6 8 rfl rfl)
theorem dX5_moves_152 : decode cX5_moves 152 = .ok (.iload_n 2, 1) := dk_28 (dk_at dksX5_moves_6 11 rfl rfl)
theorem dX5_moves_153 : decode cX5_moves 153 = .ok (.iadd, 1) := dk_96 (dk_at dksX5_moves_6 12 rfl rfl)
theorem dX5_moves_154 : decode cX5_moves 154 = .ok (.putfield 24, 3) := dk_181 0 24 (dk_at dksX5_moves_6 13 rfl rfl)
theorem dX5_moves_157 : decode cX5_moves 157 = .ok (.return_, 1) := dk_177 (dk_at dksX5_moves_6 16 rfl rfl)
abbrev cX5_hash : ByteArray := prog_22_method_10_code
def yX5_hash : MethodName := ⟨RX5, "hash", "(I)I"⟩
def dkwX5_hash_3 : List UInt8 := [16, 31, 104, 42, 27, 182, 0, 32, 96, 172]
abbrev dktX5_hash_3 : List UInt8 := dkwX5_hash_3 ++ []
def dkwX5_hash_2 : List UInt8 := [21, 5, 46, 54, 6, 28, 16, 31, 104, 42, 21, 6, 182, 0, 40, 96, 61, 132, 5, 1, 167, 255, 228, 28]
abbrev dktX5_hash_2 : List UInt8 := dkwX5_hash_2 ++ dktX5_hash_3
def dkwX5_hash_1 : List UInt8 := [46, 96, 61, 42, 27, 182, 0, 36, 78, 45, 190, 54, 4, 3, 54, 5, 21, 5, 21, 4, 162, 0, 27, 45]
abbrev dktX5_hash_1 : List UInt8 := dkwX5_hash_1 ++ dktX5_hash_2
def dkwX5_hash_0 : List UInt8 := [42, 180, 0, 9, 27, 46, 16, 31, 104, 42, 180, 0, 15, 27, 46, 96, 16, 31, 104, 42, 180, 0, 18, 27]
abbrev dktX5_hash_0 : List UInt8 := dkwX5_hash_0 ++ dktX5_hash_1
theorem dksX5_hash_0 : cX5_hash.data.toList.drop 0 = dktX5_hash_0 := by decide +kernel
theorem dksX5_hash_1 : cX5_hash.data.toList.drop 24 = dktX5_hash_1 := dk_seg dksX5_hash_0 24 rfl rfl
theorem dksX5_hash_2 : cX5_hash.data.toList.drop 48 = dktX5_hash_2 := dk_seg dksX5_hash_1 24 rfl rfl
theorem dksX5_hash_3 : cX5_hash.data.toList.drop 72 = dktX5_hash_3 := dk_seg dksX5_hash_2 24 rfl rfl
theorem dX5_hash_0 : decode cX5_hash 0 = .ok (.aload_n 0, 1) := dk_42 (dk_at dksX5_hash_0 0 rfl rfl)
theorem dX5_hash_1 : decode cX5_hash 1 = .ok (.getfield 9, 3) := dk_180 0 9 (dk_at dksX5_hash_0 1 rfl rfl)
theorem dX5_hash_4 : decode cX5_hash 4 = .ok (.iload_n 1, 1) := dk_27 (dk_at dksX5_hash_0 4 rfl rfl)
theorem dX5_hash_5 : decode cX5_hash 5 = .ok (.iaload, 1) := dk_46 (dk_at dksX5_hash_0 5 rfl rfl)
theorem dX5_hash_6 : decode cX5_hash 6 = .ok (.bipush 31, 2) := dk_16 31 (dk_at dksX5_hash_0 6 rfl rfl)
theorem dX5_hash_8 : decode cX5_hash 8 = .ok (.imul, 1) := dk_104 (dk_at dksX5_hash_0 8 rfl rfl)
theorem dX5_hash_9 : decode cX5_hash 9 = .ok (.aload_n 0, 1) := dk_42 (dk_at dksX5_hash_0 9 rfl rfl)
theorem dX5_hash_10 : decode cX5_hash 10 = .ok (.getfield 15, 3) := dk_180 0 15 (dk_at dksX5_hash_0 10 rfl rfl)
theorem dX5_hash_13 : decode cX5_hash 13 = .ok (.iload_n 1, 1) := dk_27 (dk_at dksX5_hash_0 13 rfl rfl)
theorem dX5_hash_14 : decode cX5_hash 14 = .ok (.iaload, 1) := dk_46 (dk_at dksX5_hash_0 14 rfl rfl)
theorem dX5_hash_15 : decode cX5_hash 15 = .ok (.iadd, 1) := dk_96 (dk_at dksX5_hash_0 15 rfl rfl)
theorem dX5_hash_16 : decode cX5_hash 16 = .ok (.bipush 31, 2) := dk_16 31 (dk_at dksX5_hash_0 16 rfl rfl)
theorem dX5_hash_18 : decode cX5_hash 18 = .ok (.imul, 1) := dk_104 (dk_at dksX5_hash_0 18 rfl rfl)
theorem dX5_hash_19 : decode cX5_hash 19 = .ok (.aload_n 0, 1) := dk_42 (dk_at dksX5_hash_0 19 rfl rfl)
theorem dX5_hash_20 : decode cX5_hash 20 = .ok (.getfield 18, 3) := dk_180 0 18 (dk_at dksX5_hash_0 20 rfl rfl)
theorem dX5_hash_23 : decode cX5_hash 23 = .ok (.iload_n 1, 1) := dk_27 (dk_at dksX5_hash_0 23 rfl rfl)
theorem dX5_hash_24 : decode cX5_hash 24 = .ok (.iaload, 1) := dk_46 (dk_at dksX5_hash_1 0 rfl rfl)
theorem dX5_hash_25 : decode cX5_hash 25 = .ok (.iadd, 1) := dk_96 (dk_at dksX5_hash_1 1 rfl rfl)
theorem dX5_hash_26 : decode cX5_hash 26 = .ok (.istore_n 2, 1) := dk_61 (dk_at dksX5_hash_1 2 rfl rfl)
theorem dX5_hash_27 : decode cX5_hash 27 = .ok (.aload_n 0, 1) := dk_42 (dk_at dksX5_hash_1 3 rfl rfl)
theorem dX5_hash_28 : decode cX5_hash 28 = .ok (.iload_n 1, 1) := dk_27 (dk_at dksX5_hash_1 4 rfl rfl)
theorem dX5_hash_29 : decode cX5_hash 29 = .ok (.invokevirtual 36, 3) := dk_182 0 36 (dk_at dksX5_hash_1 5 rfl rfl)
theorem dX5_hash_32 : decode cX5_hash 32 = .ok (.astore_n 3, 1) := dk_78 (dk_at dksX5_hash_1 8 rfl rfl)
theorem dX5_hash_33 : decode cX5_hash 33 = .ok (.aload_n 3, 1) := dk_45 (dk_at dksX5_hash_1 9 rfl rfl)
theorem dX5_hash_34 : decode cX5_hash 34 = .ok (.arraylength, 1) := dk_190 (dk_at dksX5_hash_1 10 rfl rfl)
theorem dX5_hash_35 : decode cX5_hash 35 = .ok (.istore 4, 2) := dk_54 4 (dk_at dksX5_hash_1 11 rfl rfl)
theorem dX5_hash_37 : decode cX5_hash 37 = .ok (.iconst 0, 1) := dk_3 (dk_at dksX5_hash_1 13 rfl rfl)
theorem dX5_hash_38 : decode cX5_hash 38 = .ok (.istore 5, 2) := dk_54 5 (dk_at dksX5_hash_1 14 rfl rfl)
theorem dX5_hash_40 : decode cX5_hash 40 = .ok (.iload 5, 2) := dk_21 5 (dk_at dksX5_hash_1 16 rfl rfl)
theorem dX5_hash_42 : decode cX5_hash 42 = .ok (.iload 4, 2) := dk_21 4 (dk_at dksX5_hash_1 18 rfl rfl)
theorem dX5_hash_44 : decode cX5_hash 44 = .ok (.if_icmp .ge 27, 3) := dk_162 0 27 (dk_at dksX5_hash_1 20 rfl rfl)
theorem dX5_hash_47 : decode cX5_hash 47 = .ok (.aload_n 3, 1) := dk_45 (dk_at dksX5_hash_1 23 rfl rfl)
theorem dX5_hash_48 : decode cX5_hash 48 = .ok (.iload 5, 2) := dk_21 5 (dk_at dksX5_hash_2 0 rfl rfl)
theorem dX5_hash_50 : decode cX5_hash 50 = .ok (.iaload, 1) := dk_46 (dk_at dksX5_hash_2 2 rfl rfl)
theorem dX5_hash_51 : decode cX5_hash 51 = .ok (.istore 6, 2) := dk_54 6 (dk_at dksX5_hash_2 3 rfl rfl)
theorem dX5_hash_53 : decode cX5_hash 53 = .ok (.iload_n 2, 1) := dk_28 (dk_at dksX5_hash_2 5 rfl rfl)
theorem dX5_hash_54 : decode cX5_hash 54 = .ok (.bipush 31, 2) := dk_16 31 (dk_at dksX5_hash_2 6 rfl rfl)
theorem dX5_hash_56 : decode cX5_hash 56 = .ok (.imul, 1) := dk_104 (dk_at dksX5_hash_2 8 rfl rfl)
theorem dX5_hash_57 : decode cX5_hash 57 = .ok (.aload_n 0, 1) := dk_42 (dk_at dksX5_hash_2 9 rfl rfl)
theorem dX5_hash_58 : decode cX5_hash 58 = .ok (.iload 6, 2) := dk_21 6 (dk_at dksX5_hash_2 10 rfl rfl)
theorem dX5_hash_60 : decode cX5_hash 60 = .ok (.invokevirtual 40, 3) := dk_182 0 40 (dk_at dksX5_hash_2 12 rfl rfl)
theorem dX5_hash_63 : decode cX5_hash 63 = .ok (.iadd, 1) := dk_96 (dk_at dksX5_hash_2 15 rfl rfl)
theorem dX5_hash_64 : decode cX5_hash 64 = .ok (.istore_n 2, 1) := dk_61 (dk_at dksX5_hash_2 16 rfl rfl)
theorem dX5_hash_65 : decode cX5_hash 65 = .ok (.iinc 5 1, 3) := dk_132 5 1 (dk_at dksX5_hash_2 17 rfl rfl)
theorem dX5_hash_68 : decode cX5_hash 68 = .ok (.goto (-28), 3) := dk_167 255 228 (dk_at dksX5_hash_2 20 rfl rfl)
theorem dX5_hash_71 : decode cX5_hash 71 = .ok (.iload_n 2, 1) := dk_28 (dk_at dksX5_hash_2 23 rfl rfl)
theorem dX5_hash_72 : decode cX5_hash 72 = .ok (.bipush 31, 2) := dk_16 31 (dk_at dksX5_hash_3 0 rfl rfl)
theorem dX5_hash_74 : decode cX5_hash 74 = .ok (.imul, 1) := dk_104 (dk_at dksX5_hash_3 2 rfl rfl)
theorem dX5_hash_75 : decode cX5_hash 75 = .ok (.aload_n 0, 1) := dk_42 (dk_at dksX5_hash_3 3 rfl rfl)
theorem dX5_hash_76 : decode cX5_hash 76 = .ok (.iload_n 1, 1) := dk_27 (dk_at dksX5_hash_3 4 rfl rfl)
theorem dX5_hash_77 : decode cX5_hash 77 = .ok (.invokevirtual 32, 3) := dk_182 0 32 (dk_at dksX5_hash_3 5 rfl rfl)
theorem dX5_hash_80 : decode cX5_hash 80 = .ok (.iadd, 1) := dk_96 (dk_at dksX5_hash_3 8 rfl rfl)
theorem dX5_hash_81 : decode cX5_hash 81 = .ok (.ireturn, 1) := dk_172 (dk_at dksX5_hash_3 9 rfl rfl)
theorem q75 : (Jvm.Cond.initialized "TreeDifferModel$Tree") ∈ lw_all := lw_g (lw_at lw_m1 12 rfl) rfl
theorem q538 : (Jvm.Cond.selects "TreeDifferModel$Tree" ({ cls := "java/lang/Object", name := "getClass", desc := "()Ljava/lang/Class;" } : Jvm.MethodName) ({ cls := "java/lang/Object", name := "getClass", desc := "()Ljava/lang/Class;" } : Jvm.MethodName)) ∈ lw_all := lw_g (lw_at lw_m2 235 rfl) rfl
theorem q1308 : (Jvm.Cond.selects "TreeDifferModel$Tree" ({ cls := "java/lang/Object", name := "toString", desc := "()Ljava/lang/String;" } : Jvm.MethodName) ({ cls := "java/lang/Object", name := "toString", desc := "()Ljava/lang/String;" } : Jvm.MethodName)) ∈ lw_all := lw_g (lw_at lw_m6 45 rfl) rfl
theorem q2013 : (Jvm.Cond.instantiable "TreeDifferModel$Tree" (5 : Nat)) ∈ lw_all := lw_g (lw_at lw_m9 30 rfl) rfl
theorem q2015 : (Jvm.Cond.instanceMethod ({ cls := "TreeDifferModel$Tree", name := "<init>", desc := "()V" } : Jvm.MethodName)) ∈ lw_all := lw_g (lw_at lw_m9 32 rfl) rfl
theorem q2016 : (Jvm.Cond.code ({ cls := "TreeDifferModel$Tree", name := "<init>", desc := "()V" } : Jvm.MethodName) prog_22_method_1_code (1 : Nat) (Option.none : Option Jvm.ClassFile.FieldType)) ∈ lw_all := lw_g (lw_at lw_m9 33 rfl) rfl
theorem q2017 : (Jvm.Cond.methodLink "TreeDifferModel$Tree" (3 : Nat) ({ cls := "java/lang/Object", name := "<init>", desc := "()V" } : Jvm.MethodName)) ∈ lw_all := lw_g (lw_at lw_m9 34 rfl) rfl
theorem q2018 : (Jvm.Cond.fieldLink "TreeDifferModel$Tree" (9 : Nat) "TreeDifferModel$Tree" "labels" "[I") ∈ lw_all := lw_g (lw_at lw_m9 35 rfl) rfl
theorem q2020 : (Jvm.Cond.fieldLink "TreeDifferModel$Tree" (15 : Nat) "TreeDifferModel$Tree" "keys" "[I") ∈ lw_all := lw_g (lw_at lw_m9 37 rfl) rfl
theorem q2022 : (Jvm.Cond.fieldLink "TreeDifferModel$Tree" (18 : Nat) "TreeDifferModel$Tree" "values" "[I") ∈ lw_all := lw_g (lw_at lw_m9 39 rfl) rfl
theorem q2024 : (Jvm.Cond.fieldLink "TreeDifferModel$Tree" (21 : Nat) "TreeDifferModel$Tree" "parents" "[I") ∈ lw_all := lw_g (lw_at lw_m9 41 rfl) rfl
theorem q2026 : (Jvm.Cond.fieldLink "TreeDifferModel$Tree" (24 : Nat) "TreeDifferModel$Tree" "size" "I") ∈ lw_all := lw_g (lw_at lw_m9 43 rfl) rfl
theorem q2028 : (Jvm.Cond.laysFinal "TreeDifferModel$Tree" "TreeDifferModel$Tree" "labels" "[I") ∈ lw_all := lw_g (lw_at lw_m9 45 rfl) rfl
theorem q2029 : (Jvm.Cond.soleField "TreeDifferModel$Tree" "labels") ∈ lw_all := lw_g (lw_at lw_m9 46 rfl) rfl
theorem q2030 : (Jvm.Cond.laysFinal "TreeDifferModel$Tree" "TreeDifferModel$Tree" "keys" "[I") ∈ lw_all := lw_g (lw_at lw_m9 47 rfl) rfl
theorem q2031 : (Jvm.Cond.soleField "TreeDifferModel$Tree" "keys") ∈ lw_all := lw_g (lw_at lw_m9 48 rfl) rfl
theorem q2032 : (Jvm.Cond.laysFinal "TreeDifferModel$Tree" "TreeDifferModel$Tree" "values" "[I") ∈ lw_all := lw_g (lw_at lw_m9 49 rfl) rfl
theorem q2033 : (Jvm.Cond.soleField "TreeDifferModel$Tree" "values") ∈ lw_all := lw_g (lw_at lw_m9 50 rfl) rfl
theorem q2034 : (Jvm.Cond.laysFinal "TreeDifferModel$Tree" "TreeDifferModel$Tree" "parents" "[I") ∈ lw_all := lw_g (lw_at lw_m9 51 rfl) rfl
theorem q2035 : (Jvm.Cond.soleField "TreeDifferModel$Tree" "parents") ∈ lw_all := lw_g (lw_at lw_m9 52 rfl) rfl
theorem q2036 : (Jvm.Cond.lays "TreeDifferModel$Tree" "TreeDifferModel$Tree" "size" "I") ∈ lw_all := lw_g (lw_at lw_m9 53 rfl) rfl
theorem q2037 : (Jvm.Cond.soleField "TreeDifferModel$Tree" "size") ∈ lw_all := lw_g (lw_at lw_m9 54 rfl) rfl
theorem q2038 : (Jvm.Cond.superclass "TreeDifferModel$Tree" "java/lang/Object") ∈ lw_all := lw_g (lw_at lw_m9 55 rfl) rfl
theorem q2045 : (Jvm.Cond.privateMethod ({ cls := "TreeDifferModel$Tree", name := "adds", desc := "(IIII)V" } : Jvm.MethodName)) ∈ lw_tbl := lw_at lw_m9 62 rfl
theorem q2046 : (Jvm.Cond.instanceMethod ({ cls := "TreeDifferModel$Tree", name := "adds", desc := "(IIII)V" } : Jvm.MethodName)) ∈ lw_all := lw_g (lw_at lw_m9 63 rfl) rfl
theorem q2047 : (Jvm.Cond.code ({ cls := "TreeDifferModel$Tree", name := "adds", desc := "(IIII)V" } : Jvm.MethodName) prog_22_method_4_code (5 : Nat) (Option.none : Option Jvm.ClassFile.FieldType)) ∈ lw_all := lw_g (lw_at lw_m9 64 rfl) rfl
theorem q2048 : (Jvm.Cond.methodLink "TreeDifferModel$Tree" (28 : Nat) ({ cls := "TreeDifferModel$Tree", name := "sets", desc := "(IIIII)V" } : Jvm.MethodName)) ∈ lw_all := lw_g (lw_at lw_m9 65 rfl) rfl
theorem q2049 : (Jvm.Cond.privateMethod ({ cls := "TreeDifferModel$Tree", name := "sets", desc := "(IIIII)V" } : Jvm.MethodName)) ∈ lw_tbl := lw_at lw_m9 66 rfl
theorem q2050 : (Jvm.Cond.instanceMethod ({ cls := "TreeDifferModel$Tree", name := "sets", desc := "(IIIII)V" } : Jvm.MethodName)) ∈ lw_all := lw_g (lw_at lw_m9 67 rfl) rfl
theorem q2051 : (Jvm.Cond.code ({ cls := "TreeDifferModel$Tree", name := "sets", desc := "(IIIII)V" } : Jvm.MethodName) prog_22_method_3_code (6 : Nat) (Option.none : Option Jvm.ClassFile.FieldType)) ∈ lw_all := lw_g (lw_at lw_m9 68 rfl) rfl
theorem q2186 : (Jvm.Cond.privateMethod ({ cls := "TreeDifferModel$Tree", name := "isUsed", desc := "(III)Z" } : Jvm.MethodName)) ∈ lw_tbl := lw_at lw_m9 203 rfl
theorem q2187 : (Jvm.Cond.instanceMethod ({ cls := "TreeDifferModel$Tree", name := "isUsed", desc := "(III)Z" } : Jvm.MethodName)) ∈ lw_all := lw_g (lw_at lw_m9 204 rfl) rfl
theorem q2188 : (Jvm.Cond.code ({ cls := "TreeDifferModel$Tree", name := "isUsed", desc := "(III)Z" } : Jvm.MethodName) prog_22_method_9_code (5 : Nat) (Option.some Jvm.ClassFile.FieldType.boolean)) ∈ lw_all := lw_g (lw_at lw_m9 205 rfl) rfl
theorem q2194 : (Jvm.Cond.privateMethod ({ cls := "TreeDifferModel$Tree", name := "copies", desc := "(LTreeDifferModel$Tree;)V" } : Jvm.MethodName)) ∈ lw_tbl := lw_at lw_m9 211 rfl
theorem q2195 : (Jvm.Cond.instanceMethod ({ cls := "TreeDifferModel$Tree", name := "copies", desc := "(LTreeDifferModel$Tree;)V" } : Jvm.MethodName)) ∈ lw_all := lw_g (lw_at lw_m9 212 rfl) rfl
theorem q2196 : (Jvm.Cond.code ({ cls := "TreeDifferModel$Tree", name := "copies", desc := "(LTreeDifferModel$Tree;)V" } : Jvm.MethodName) prog_22_method_2_code (3 : Nat) (Option.none : Option Jvm.ClassFile.FieldType)) ∈ lw_all := lw_g (lw_at lw_m9 213 rfl) rfl
theorem q2214 : (Jvm.Cond.privateMethod ({ cls := "TreeDifferModel$Tree", name := "many", desc := "(I)I" } : Jvm.MethodName)) ∈ lw_tbl := lw_at lw_m9 231 rfl
theorem q2215 : (Jvm.Cond.instanceMethod ({ cls := "TreeDifferModel$Tree", name := "many", desc := "(I)I" } : Jvm.MethodName)) ∈ lw_all := lw_g (lw_at lw_m9 232 rfl) rfl
theorem q2216 : (Jvm.Cond.code ({ cls := "TreeDifferModel$Tree", name := "many", desc := "(I)I" } : Jvm.MethodName) prog_22_method_6_code (4 : Nat) (Option.some Jvm.ClassFile.FieldType.int)) ∈ lw_all := lw_g (lw_at lw_m9 233 rfl) rfl
theorem q2218 : (Jvm.Cond.privateMethod ({ cls := "TreeDifferModel$Tree", name := "kids", desc := "(I)[I" } : Jvm.MethodName)) ∈ lw_tbl := lw_at lw_m9 235 rfl
theorem q2219 : (Jvm.Cond.instanceMethod ({ cls := "TreeDifferModel$Tree", name := "kids", desc := "(I)[I" } : Jvm.MethodName)) ∈ lw_all := lw_g (lw_at lw_m9 236 rfl) rfl
theorem q2220 : (Jvm.Cond.code ({ cls := "TreeDifferModel$Tree", name := "kids", desc := "(I)[I" } : Jvm.MethodName) prog_22_method_7_code (5 : Nat) (Option.some (Jvm.ClassFile.FieldType.array Jvm.ClassFile.FieldType.int))) ∈ lw_all := lw_g (lw_at lw_m9 237 rfl) rfl
theorem q2221 : (Jvm.Cond.methodLink "TreeDifferModel$Tree" (32 : Nat) ({ cls := "TreeDifferModel$Tree", name := "many", desc := "(I)I" } : Jvm.MethodName)) ∈ lw_all := lw_g (lw_at lw_m9 238 rfl) rfl
theorem q2263 : (Jvm.Cond.privateMethod ({ cls := "TreeDifferModel$Tree", name := "end", desc := "(I)I" } : Jvm.MethodName)) ∈ lw_tbl := lw_at lw_m10 40 rfl
theorem q2264 : (Jvm.Cond.instanceMethod ({ cls := "TreeDifferModel$Tree", name := "end", desc := "(I)I" } : Jvm.MethodName)) ∈ lw_all := lw_g (lw_at lw_m10 41 rfl) rfl
theorem q2265 : (Jvm.Cond.code ({ cls := "TreeDifferModel$Tree", name := "end", desc := "(I)I" } : Jvm.MethodName) prog_22_method_5_code (3 : Nat) (Option.some Jvm.ClassFile.FieldType.int)) ∈ lw_all := lw_g (lw_at lw_m10 42 rfl) rfl
theorem q2267 : (Jvm.Cond.privateMethod ({ cls := "TreeDifferModel$Tree", name := "moves", desc := "(II)V" } : Jvm.MethodName)) ∈ lw_tbl := lw_at lw_m10 44 rfl
theorem q2268 : (Jvm.Cond.instanceMethod ({ cls := "TreeDifferModel$Tree", name := "moves", desc := "(II)V" } : Jvm.MethodName)) ∈ lw_all := lw_g (lw_at lw_m10 45 rfl) rfl
theorem q2269 : (Jvm.Cond.code ({ cls := "TreeDifferModel$Tree", name := "moves", desc := "(II)V" } : Jvm.MethodName) prog_22_method_8_code (4 : Nat) (Option.none : Option Jvm.ClassFile.FieldType)) ∈ lw_all := lw_g (lw_at lw_m10 46 rfl) rfl
theorem q2328 : (Jvm.Cond.privateMethod ({ cls := "TreeDifferModel$Tree", name := "hash", desc := "(I)I" } : Jvm.MethodName)) ∈ lw_tbl := lw_at lw_m10 105 rfl
theorem q2329 : (Jvm.Cond.instanceMethod ({ cls := "TreeDifferModel$Tree", name := "hash", desc := "(I)I" } : Jvm.MethodName)) ∈ lw_all := lw_g (lw_at lw_m10 106 rfl) rfl
theorem q2330 : (Jvm.Cond.code ({ cls := "TreeDifferModel$Tree", name := "hash", desc := "(I)I" } : Jvm.MethodName) prog_22_method_10_code (7 : Nat) (Option.some Jvm.ClassFile.FieldType.int)) ∈ lw_all := lw_g (lw_at lw_m10 107 rfl) rfl
theorem q2331 : (Jvm.Cond.methodLink "TreeDifferModel$Tree" (36 : Nat) ({ cls := "TreeDifferModel$Tree", name := "kids", desc := "(I)[I" } : Jvm.MethodName)) ∈ lw_all := lw_g (lw_at lw_m10 108 rfl) rfl
theorem q2332 : (Jvm.Cond.methodLink "TreeDifferModel$Tree" (40 : Nat) ({ cls := "TreeDifferModel$Tree", name := "hash", desc := "(I)I" } : Jvm.MethodName)) ∈ lw_all := lw_g (lw_at lw_m10 109 rfl) rfl
theorem q2555 : (Jvm.Cond.castable "TreeDifferModel$Tree" "java/lang/Object") ∈ lw_tbl := lw_at lw_m11 92 rfl
theorem in_X5 : ∀ w ∈ wsX50, w ∈ lw_all := lw_in wsX50 [2028, 2030, 2032, 2034, 2036] (by decide +kernel) (by decide +kernel)

/-! TreeDifferModel$Item -/
set_option maxRecDepth 100000
def RX20 : String := "TreeDifferModel$Item"
def TX20 : u_T := fun k => match k with
  | 0 => ("TreeDifferModel$Item", "label", "I", false)
  | 1 => ("TreeDifferModel$Item", "key", "I", false)
  | 2 => ("TreeDifferModel$Item", "value", "I", false)
  | 3 => ("TreeDifferModel$Item", "many", "I", false)
  | 4 => ("TreeDifferModel$Item", "parent", "LTreeDifferModel$Item;", false)
  | _ => ("TreeDifferModel$Item", "kids", "[LTreeDifferModel$Item;", true)
def tyX20 : Nat → FieldType := fun k => match k with
  | 0 => .int
  | 1 => .int
  | 2 => .int
  | 3 => .int
  | 4 => .object "TreeDifferModel$Item"
  | _ => .array (.object "TreeDifferModel$Item")
abbrev wsX200 : List Cond := u_ws RX20 TX20 6
theorem nmX20 : ∀ a, a < 6 → ∀ b, b < 6 → a ≠ b → (TX20 a).2.1 ≠ (TX20 b).2.1 := by decide +kernel
theorem tyX20_ok : ∀ k, k < 6 → parseFieldDescriptor (TX20 k).2.2.1 = some (tyX20 k) := by decide +kernel
abbrev cX20_init : ByteArray := prog_21_method_1_code
def yX20_init : MethodName := ⟨RX20, "<init>", "()V"⟩
def dkwX20_init_0 : List UInt8 := [42, 183, 0, 3, 42, 16, 20, 189, 0, 9, 181, 0, 11, 177]
abbrev dktX20_init_0 : List UInt8 := dkwX20_init_0 ++ []
theorem dksX20_init_0 : cX20_init.data.toList.drop 0 = dktX20_init_0 := by decide +kernel
theorem dX20_init_0 : decode cX20_init 0 = .ok (.aload_n 0, 1) := dk_42 (dk_at dksX20_init_0 0 rfl rfl)
theorem dX20_init_1 : decode cX20_init 1 = .ok (.invokespecial 3, 3) := dk_183 0 3 (dk_at dksX20_init_0 1 rfl rfl)
theorem dX20_init_4 : decode cX20_init 4 = .ok (.aload_n 0, 1) := dk_42 (dk_at dksX20_init_0 4 rfl rfl)
theorem dX20_init_5 : decode cX20_init 5 = .ok (.bipush 20, 2) := dk_16 20 (dk_at dksX20_init_0 5 rfl rfl)
theorem dX20_init_7 : decode cX20_init 7 = .ok (.anewarray 9, 3) := dk_189 0 9 (dk_at dksX20_init_0 7 rfl rfl)
theorem dX20_init_10 : decode cX20_init 10 = .ok (.putfield 11, 3) := dk_181 0 11 (dk_at dksX20_init_0 10 rfl rfl)
theorem dX20_init_13 : decode cX20_init 13 = .ok (.return_, 1) := dk_177 (dk_at dksX20_init_0 13 rfl rfl)
abbrev cX20_puts : ByteArray := prog_21_method_2_code
def yX20_puts : MethodName := ⟨RX20, "puts", "(LTreeDifferModel$Item;I)V"⟩
def dkwX20_puts_2 : List UInt8 := [96, 181, 0, 15, 177]
abbrev dktX20_puts_2 : List UInt8 := dkwX20_puts_2 ++ []
def dkwX20_puts_1 : List UInt8 := [132, 3, 255, 167, 255, 234, 42, 180, 0, 11, 28, 43, 83, 43, 42, 181, 0, 19, 42, 89, 180, 0, 15, 4]
abbrev dktX20_puts_1 : List UInt8 := dkwX20_puts_1 ++ dktX20_puts_2
def dkwX20_puts_0 : List UInt8 := [42, 180, 0, 15, 62, 29, 28, 164, 0, 23, 42, 180, 0, 11, 29, 42, 180, 0, 11, 29, 4, 100, 50, 83]
abbrev dktX20_puts_0 : List UInt8 := dkwX20_puts_0 ++ dktX20_puts_1
theorem dksX20_puts_0 : cX20_puts.data.toList.drop 0 = dktX20_puts_0 := by decide +kernel
theorem dksX20_puts_1 : cX20_puts.data.toList.drop 24 = dktX20_puts_1 := dk_seg dksX20_puts_0 24 rfl rfl
theorem dksX20_puts_2 : cX20_puts.data.toList.drop 48 = dktX20_puts_2 := dk_seg dksX20_puts_1 24 rfl rfl
theorem dX20_puts_0 : decode cX20_puts 0 = .ok (.aload_n 0, 1) := dk_42 (dk_at dksX20_puts_0 0 rfl rfl)
theorem dX20_puts_1 : decode cX20_puts 1 = .ok (.getfield 15, 3) := dk_180 0 15 (dk_at dksX20_puts_0 1 rfl rfl)
theorem dX20_puts_4 : decode cX20_puts 4 = .ok (.istore_n 3, 1) := dk_62 (dk_at dksX20_puts_0 4 rfl rfl)
theorem dX20_puts_5 : decode cX20_puts 5 = .ok (.iload_n 3, 1) := dk_29 (dk_at dksX20_puts_0 5 rfl rfl)
theorem dX20_puts_6 : decode cX20_puts 6 = .ok (.iload_n 2, 1) := dk_28 (dk_at dksX20_puts_0 6 rfl rfl)
theorem dX20_puts_7 : decode cX20_puts 7 = .ok (.if_icmp .le 23, 3) := dk_164 0 23 (dk_at dksX20_puts_0 7 rfl rfl)
theorem dX20_puts_10 : decode cX20_puts 10 = .ok (.aload_n 0, 1) := dk_42 (dk_at dksX20_puts_0 10 rfl rfl)
theorem dX20_puts_11 : decode cX20_puts 11 = .ok (.getfield 11, 3) := dk_180 0 11 (dk_at dksX20_puts_0 11 rfl rfl)
theorem dX20_puts_14 : decode cX20_puts 14 = .ok (.iload_n 3, 1) := dk_29 (dk_at dksX20_puts_0 14 rfl rfl)
theorem dX20_puts_15 : decode cX20_puts 15 = .ok (.aload_n 0, 1) := dk_42 (dk_at dksX20_puts_0 15 rfl rfl)
theorem dX20_puts_16 : decode cX20_puts 16 = .ok (.getfield 11, 3) := dk_180 0 11 (dk_at dksX20_puts_0 16 rfl rfl)
theorem dX20_puts_19 : decode cX20_puts 19 = .ok (.iload_n 3, 1) := dk_29 (dk_at dksX20_puts_0 19 rfl rfl)
theorem dX20_puts_20 : decode cX20_puts 20 = .ok (.iconst 1, 1) := dk_4 (dk_at dksX20_puts_0 20 rfl rfl)
theorem dX20_puts_21 : decode cX20_puts 21 = .ok (.isub, 1) := dk_100 (dk_at dksX20_puts_0 21 rfl rfl)
theorem dX20_puts_22 : decode cX20_puts 22 = .ok (.aaload, 1) := dk_50 (dk_at dksX20_puts_0 22 rfl rfl)
theorem dX20_puts_23 : decode cX20_puts 23 = .ok (.aastore, 1) := dk_83 (dk_at dksX20_puts_0 23 rfl rfl)
theorem dX20_puts_24 : decode cX20_puts 24 = .ok (.iinc 3 (-1), 3) := dk_132 3 255 (dk_at dksX20_puts_1 0 rfl rfl)
theorem dX20_puts_27 : decode cX20_puts 27 = .ok (.goto (-22), 3) := dk_167 255 234 (dk_at dksX20_puts_1 3 rfl rfl)
theorem dX20_puts_30 : decode cX20_puts 30 = .ok (.aload_n 0, 1) := dk_42 (dk_at dksX20_puts_1 6 rfl rfl)
theorem dX20_puts_31 : decode cX20_puts 31 = .ok (.getfield 11, 3) := dk_180 0 11 (dk_at dksX20_puts_1 7 rfl rfl)
theorem dX20_puts_34 : decode cX20_puts 34 = .ok (.iload_n 2, 1) := dk_28 (dk_at dksX20_puts_1 10 rfl rfl)
theorem dX20_puts_35 : decode cX20_puts 35 = .ok (.aload_n 1, 1) := dk_43 (dk_at dksX20_puts_1 11 rfl rfl)
theorem dX20_puts_36 : decode cX20_puts 36 = .ok (.aastore, 1) := dk_83 (dk_at dksX20_puts_1 12 rfl rfl)
theorem dX20_puts_37 : decode cX20_puts 37 = .ok (.aload_n 1, 1) := dk_43 (dk_at dksX20_puts_1 13 rfl rfl)
theorem dX20_puts_38 : decode cX20_puts 38 = .ok (.aload_n 0, 1) := dk_42 (dk_at dksX20_puts_1 14 rfl rfl)
theorem dX20_puts_39 : decode cX20_puts 39 = .ok (.putfield 19, 3) := dk_181 0 19 (dk_at dksX20_puts_1 15 rfl rfl)
theorem dX20_puts_42 : decode cX20_puts 42 = .ok (.aload_n 0, 1) := dk_42 (dk_at dksX20_puts_1 18 rfl rfl)
theorem dX20_puts_43 : decode cX20_puts 43 = .ok (.dup, 1) := dk_89 (dk_at dksX20_puts_1 19 rfl rfl)
theorem dX20_puts_44 : decode cX20_puts 44 = .ok (.getfield 15, 3) := dk_180 0 15 (dk_at dksX20_puts_1 20 rfl rfl)
theorem dX20_puts_47 : decode cX20_puts 47 = .ok (.iconst 1, 1) := dk_4 (dk_at dksX20_puts_1 23 rfl rfl)
theorem dX20_puts_48 : decode cX20_puts 48 = .ok (.iadd, 1) := dk_96 (dk_at dksX20_puts_2 0 rfl rfl)
theorem dX20_puts_49 : decode cX20_puts 49 = .ok (.putfield 15, 3) := dk_181 0 15 (dk_at dksX20_puts_2 1 rfl rfl)
theorem dX20_puts_52 : decode cX20_puts 52 = .ok (.return_, 1) := dk_177 (dk_at dksX20_puts_2 4 rfl rfl)
abbrev cX20_leaves : ByteArray := prog_21_method_4_code
def yX20_leaves : MethodName := ⟨RX20, "leaves", "()V"⟩
def dkwX20_leaves_2 : List UInt8 := [180, 0, 11, 28, 4, 96, 50, 83, 132, 2, 1, 167, 255, 222, 42, 1, 181, 0, 19, 177]
abbrev dktX20_leaves_2 : List UInt8 := dkwX20_leaves_2 ++ []
def dkwX20_leaves_1 : List UInt8 := [28, 42, 180, 0, 19, 180, 0, 15, 162, 0, 29, 42, 180, 0, 19, 180, 0, 11, 28, 42, 180, 0, 19]
abbrev dktX20_leaves_1 : List UInt8 := dkwX20_leaves_1 ++ dktX20_leaves_2
def dkwX20_leaves_0 : List UInt8 := [42, 180, 0, 19, 42, 182, 0, 23, 60, 42, 180, 0, 19, 89, 180, 0, 15, 4, 100, 181, 0, 15, 27, 61]
abbrev dktX20_leaves_0 : List UInt8 := dkwX20_leaves_0 ++ dktX20_leaves_1
theorem dksX20_leaves_0 : cX20_leaves.data.toList.drop 0 = dktX20_leaves_0 := by decide +kernel
theorem dksX20_leaves_1 : cX20_leaves.data.toList.drop 24 = dktX20_leaves_1 := dk_seg dksX20_leaves_0 24 rfl rfl
theorem dksX20_leaves_2 : cX20_leaves.data.toList.drop 47 = dktX20_leaves_2 := dk_seg dksX20_leaves_1 23 rfl rfl
theorem dX20_leaves_0 : decode cX20_leaves 0 = .ok (.aload_n 0, 1) := dk_42 (dk_at dksX20_leaves_0 0 rfl rfl)
theorem dX20_leaves_1 : decode cX20_leaves 1 = .ok (.getfield 19, 3) := dk_180 0 19 (dk_at dksX20_leaves_0 1 rfl rfl)
theorem dX20_leaves_4 : decode cX20_leaves 4 = .ok (.aload_n 0, 1) := dk_42 (dk_at dksX20_leaves_0 4 rfl rfl)
theorem dX20_leaves_5 : decode cX20_leaves 5 = .ok (.invokevirtual 23, 3) := dk_182 0 23 (dk_at dksX20_leaves_0 5 rfl rfl)
theorem dX20_leaves_8 : decode cX20_leaves 8 = .ok (.istore_n 1, 1) := dk_60 (dk_at dksX20_leaves_0 8 rfl rfl)
theorem dX20_leaves_9 : decode cX20_leaves 9 = .ok (.aload_n 0, 1) := dk_42 (dk_at dksX20_leaves_0 9 rfl rfl)
theorem dX20_leaves_10 : decode cX20_leaves 10 = .ok (.getfield 19, 3) := dk_180 0 19 (dk_at dksX20_leaves_0 10 rfl rfl)
theorem dX20_leaves_13 : decode cX20_leaves 13 = .ok (.dup, 1) := dk_89 (dk_at dksX20_leaves_0 13 rfl rfl)
theorem dX20_leaves_14 : decode cX20_leaves 14 = .ok (.getfield 15, 3) := dk_180 0 15 (dk_at dksX20_leaves_0 14 rfl rfl)
theorem dX20_leaves_17 : decode cX20_leaves 17 = .ok (.iconst 1, 1) := dk_4 (dk_at dksX20_leaves_0 17 rfl rfl)
theorem dX20_leaves_18 : decode cX20_leaves 18 = .ok (.isub, 1) := dk_100 (dk_at dksX20_leaves_0 18 rfl rfl)
theorem dX20_leaves_19 : decode cX20_leaves 19 = .ok (.putfield 15, 3) := dk_181 0 15 (dk_at dksX20_leaves_0 19 rfl rfl)
theorem dX20_leaves_22 : decode cX20_leaves 22 = .ok (.iload_n 1, 1) := dk_27 (dk_at dksX20_leaves_0 22 rfl rfl)
theorem dX20_leaves_23 : decode cX20_leaves 23 = .ok (.istore_n 2, 1) := dk_61 (dk_at dksX20_leaves_0 23 rfl rfl)
theorem dX20_leaves_24 : decode cX20_leaves 24 = .ok (.iload_n 2, 1) := dk_28 (dk_at dksX20_leaves_1 0 rfl rfl)
theorem dX20_leaves_25 : decode cX20_leaves 25 = .ok (.aload_n 0, 1) := dk_42 (dk_at dksX20_leaves_1 1 rfl rfl)
theorem dX20_leaves_26 : decode cX20_leaves 26 = .ok (.getfield 19, 3) := dk_180 0 19 (dk_at dksX20_leaves_1 2 rfl rfl)
theorem dX20_leaves_29 : decode cX20_leaves 29 = .ok (.getfield 15, 3) := dk_180 0 15 (dk_at dksX20_leaves_1 5 rfl rfl)
theorem dX20_leaves_32 : decode cX20_leaves 32 = .ok (.if_icmp .ge 29, 3) := dk_162 0 29 (dk_at dksX20_leaves_1 8 rfl rfl)
theorem dX20_leaves_35 : decode cX20_leaves 35 = .ok (.aload_n 0, 1) := dk_42 (dk_at dksX20_leaves_1 11 rfl rfl)
theorem dX20_leaves_36 : decode cX20_leaves 36 = .ok (.getfield 19, 3) := dk_180 0 19 (dk_at dksX20_leaves_1 12 rfl rfl)
theorem dX20_leaves_39 : decode cX20_leaves 39 = .ok (.getfield 11, 3) := dk_180 0 11 (dk_at dksX20_leaves_1 15 rfl rfl)
theorem dX20_leaves_42 : decode cX20_leaves 42 = .ok (.iload_n 2, 1) := dk_28 (dk_at dksX20_leaves_1 18 rfl rfl)
theorem dX20_leaves_43 : decode cX20_leaves 43 = .ok (.aload_n 0, 1) := dk_42 (dk_at dksX20_leaves_1 19 rfl rfl)
theorem dX20_leaves_44 : decode cX20_leaves 44 = .ok (.getfield 19, 3) := dk_180 0 19 (dk_at dksX20_leaves_1 20 rfl rfl)
theorem dX20_leaves_47 : decode cX20_leaves 47 = .ok (.getfield 11, 3) := dk_180 0 11 (dk_at dksX20_leaves_2 0 rfl rfl)
theorem dX20_leaves_50 : decode cX20_leaves 50 = .ok (.iload_n 2, 1) := dk_28 (dk_at dksX20_leaves_2 3 rfl rfl)
theorem dX20_leaves_51 : decode cX20_leaves 51 = .ok (.iconst 1, 1) := dk_4 (dk_at dksX20_leaves_2 4 rfl rfl)
theorem dX20_leaves_52 : decode cX20_leaves 52 = .ok (.iadd, 1) := dk_96 (dk_at dksX20_leaves_2 5 rfl rfl)
theorem dX20_leaves_53 : decode cX20_leaves 53 = .ok (.aaload, 1) := dk_50 (dk_at dksX20_leaves_2 6 rfl rfl)
theorem dX20_leaves_54 : decode cX20_leaves 54 = .ok (.aastore, 1) := dk_83 (dk_at dksX20_leaves_2 7 rfl rfl)
theorem dX20_leaves_55 : decode cX20_leaves 55 = .ok (.iinc 2 1, 3) := dk_132 2 1 (dk_at dksX20_leaves_2 8 rfl rfl)
theorem dX20_leaves_58 : decode cX20_leaves 58 = .ok (.goto (-34), 3) := dk_167 255 222 (dk_at dksX20_leaves_2 11 rfl rfl)
theorem dX20_leaves_61 : decode cX20_leaves 61 = .ok (.aload_n 0, 1) := dk_42 (dk_at dksX20_leaves_2 14 rfl rfl)
theorem dX20_leaves_62 : decode cX20_leaves 62 = .ok (.aconst_null, 1) := dk_1 (dk_at dksX20_leaves_2 15 rfl rfl)
theorem dX20_leaves_63 : decode cX20_leaves 63 = .ok (.putfield 19, 3) := dk_181 0 19 (dk_at dksX20_leaves_2 16 rfl rfl)
theorem dX20_leaves_66 : decode cX20_leaves 66 = .ok (.return_, 1) := dk_177 (dk_at dksX20_leaves_2 19 rfl rfl)
abbrev cX20_placeOf : ByteArray := prog_21_method_3_code
def yX20_placeOf : MethodName := ⟨RX20, "placeOf", "(LTreeDifferModel$Item;)I"⟩
def dkwX20_placeOf_0 : List UInt8 := [3, 61, 42, 180, 0, 11, 28, 50, 43, 165, 0, 9, 132, 2, 1, 167, 255, 243, 28, 172]
abbrev dktX20_placeOf_0 : List UInt8 := dkwX20_placeOf_0 ++ []
theorem dksX20_placeOf_0 : cX20_placeOf.data.toList.drop 0 = dktX20_placeOf_0 := by decide +kernel
theorem dX20_placeOf_0 : decode cX20_placeOf 0 = .ok (.iconst 0, 1) := dk_3 (dk_at dksX20_placeOf_0 0 rfl rfl)
theorem dX20_placeOf_1 : decode cX20_placeOf 1 = .ok (.istore_n 2, 1) := dk_61 (dk_at dksX20_placeOf_0 1 rfl rfl)
theorem dX20_placeOf_2 : decode cX20_placeOf 2 = .ok (.aload_n 0, 1) := dk_42 (dk_at dksX20_placeOf_0 2 rfl rfl)
theorem dX20_placeOf_3 : decode cX20_placeOf 3 = .ok (.getfield 11, 3) := dk_180 0 11 (dk_at dksX20_placeOf_0 3 rfl rfl)
theorem dX20_placeOf_6 : decode cX20_placeOf 6 = .ok (.iload_n 2, 1) := dk_28 (dk_at dksX20_placeOf_0 6 rfl rfl)
theorem dX20_placeOf_7 : decode cX20_placeOf 7 = .ok (.aaload, 1) := dk_50 (dk_at dksX20_placeOf_0 7 rfl rfl)
theorem dX20_placeOf_8 : decode cX20_placeOf 8 = .ok (.aload_n 1, 1) := dk_43 (dk_at dksX20_placeOf_0 8 rfl rfl)
theorem dX20_placeOf_9 : decode cX20_placeOf 9 = .ok (.if_acmp .eq 9, 3) := dk_165 0 9 (dk_at dksX20_placeOf_0 9 rfl rfl)
theorem dX20_placeOf_12 : decode cX20_placeOf 12 = .ok (.iinc 2 1, 3) := dk_132 2 1 (dk_at dksX20_placeOf_0 12 rfl rfl)
theorem dX20_placeOf_15 : decode cX20_placeOf 15 = .ok (.goto (-13), 3) := dk_167 255 243 (dk_at dksX20_placeOf_0 15 rfl rfl)
theorem dX20_placeOf_18 : decode cX20_placeOf 18 = .ok (.iload_n 2, 1) := dk_28 (dk_at dksX20_placeOf_0 18 rfl rfl)
theorem dX20_placeOf_19 : decode cX20_placeOf 19 = .ok (.ireturn, 1) := dk_172 (dk_at dksX20_placeOf_0 19 rfl rfl)
abbrev cX20_hasKey : ByteArray := prog_21_method_5_code
def yX20_hasKey : MethodName := ⟨RX20, "hasKey", "(I)Z"⟩
def dkwX20_hasKey_1 : List UInt8 := [153, 0, 5, 4, 172, 132, 2, 1, 167, 255, 226, 3, 172]
abbrev dktX20_hasKey_1 : List UInt8 := dkwX20_hasKey_1 ++ []
def dkwX20_hasKey_0 : List UInt8 := [3, 61, 28, 42, 180, 0, 15, 162, 0, 28, 42, 180, 0, 11, 28, 50, 180, 0, 27, 27, 160, 0, 9, 27]
abbrev dktX20_hasKey_0 : List UInt8 := dkwX20_hasKey_0 ++ dktX20_hasKey_1
theorem dksX20_hasKey_0 : cX20_hasKey.data.toList.drop 0 = dktX20_hasKey_0 := by decide +kernel
theorem dksX20_hasKey_1 : cX20_hasKey.data.toList.drop 24 = dktX20_hasKey_1 := dk_seg dksX20_hasKey_0 24 rfl rfl
theorem dX20_hasKey_0 : decode cX20_hasKey 0 = .ok (.iconst 0, 1) := dk_3 (dk_at dksX20_hasKey_0 0 rfl rfl)
theorem dX20_hasKey_1 : decode cX20_hasKey 1 = .ok (.istore_n 2, 1) := dk_61 (dk_at dksX20_hasKey_0 1 rfl rfl)
theorem dX20_hasKey_2 : decode cX20_hasKey 2 = .ok (.iload_n 2, 1) := dk_28 (dk_at dksX20_hasKey_0 2 rfl rfl)
theorem dX20_hasKey_3 : decode cX20_hasKey 3 = .ok (.aload_n 0, 1) := dk_42 (dk_at dksX20_hasKey_0 3 rfl rfl)
theorem dX20_hasKey_4 : decode cX20_hasKey 4 = .ok (.getfield 15, 3) := dk_180 0 15 (dk_at dksX20_hasKey_0 4 rfl rfl)
theorem dX20_hasKey_7 : decode cX20_hasKey 7 = .ok (.if_icmp .ge 28, 3) := dk_162 0 28 (dk_at dksX20_hasKey_0 7 rfl rfl)
theorem dX20_hasKey_10 : decode cX20_hasKey 10 = .ok (.aload_n 0, 1) := dk_42 (dk_at dksX20_hasKey_0 10 rfl rfl)
theorem dX20_hasKey_11 : decode cX20_hasKey 11 = .ok (.getfield 11, 3) := dk_180 0 11 (dk_at dksX20_hasKey_0 11 rfl rfl)
theorem dX20_hasKey_14 : decode cX20_hasKey 14 = .ok (.iload_n 2, 1) := dk_28 (dk_at dksX20_hasKey_0 14 rfl rfl)
theorem dX20_hasKey_15 : decode cX20_hasKey 15 = .ok (.aaload, 1) := dk_50 (dk_at dksX20_hasKey_0 15 rfl rfl)
theorem dX20_hasKey_16 : decode cX20_hasKey 16 = .ok (.getfield 27, 3) := dk_180 0 27 (dk_at dksX20_hasKey_0 16 rfl rfl)
theorem dX20_hasKey_19 : decode cX20_hasKey 19 = .ok (.iload_n 1, 1) := dk_27 (dk_at dksX20_hasKey_0 19 rfl rfl)
theorem dX20_hasKey_20 : decode cX20_hasKey 20 = .ok (.if_icmp .ne 9, 3) := dk_160 0 9 (dk_at dksX20_hasKey_0 20 rfl rfl)
theorem dX20_hasKey_23 : decode cX20_hasKey 23 = .ok (.iload_n 1, 1) := dk_27 (dk_at dksX20_hasKey_0 23 rfl rfl)
theorem dX20_hasKey_24 : decode cX20_hasKey 24 = .ok (.ifCond .eq 5, 3) := dk_153 0 5 (dk_at dksX20_hasKey_1 0 rfl rfl)
theorem dX20_hasKey_27 : decode cX20_hasKey 27 = .ok (.iconst 1, 1) := dk_4 (dk_at dksX20_hasKey_1 3 rfl rfl)
theorem dX20_hasKey_28 : decode cX20_hasKey 28 = .ok (.ireturn, 1) := dk_172 (dk_at dksX20_hasKey_1 4 rfl rfl)
theorem dX20_hasKey_29 : decode cX20_hasKey 29 = .ok (.iinc 2 1, 3) := dk_132 2 1 (dk_at dksX20_hasKey_1 5 rfl rfl)
theorem dX20_hasKey_32 : decode cX20_hasKey 32 = .ok (.goto (-30), 3) := dk_167 255 226 (dk_at dksX20_hasKey_1 8 rfl rfl)
theorem dX20_hasKey_35 : decode cX20_hasKey 35 = .ok (.iconst 0, 1) := dk_3 (dk_at dksX20_hasKey_1 11 rfl rfl)
theorem dX20_hasKey_36 : decode cX20_hasKey 36 = .ok (.ireturn, 1) := dk_172 (dk_at dksX20_hasKey_1 12 rfl rfl)
theorem q112 : (Jvm.Cond.initialized "TreeDifferModel$Item") ∈ lw_all := lw_g (lw_at lw_m1 49 rfl) rfl
theorem q537 : (Jvm.Cond.selects "TreeDifferModel$Item" ({ cls := "java/lang/Object", name := "getClass", desc := "()Ljava/lang/Class;" } : Jvm.MethodName) ({ cls := "java/lang/Object", name := "getClass", desc := "()Ljava/lang/Class;" } : Jvm.MethodName)) ∈ lw_all := lw_g (lw_at lw_m2 234 rfl) rfl
theorem q1307 : (Jvm.Cond.selects "TreeDifferModel$Item" ({ cls := "java/lang/Object", name := "toString", desc := "()Ljava/lang/String;" } : Jvm.MethodName) ({ cls := "java/lang/Object", name := "toString", desc := "()Ljava/lang/String;" } : Jvm.MethodName)) ∈ lw_all := lw_g (lw_at lw_m6 44 rfl) rfl
theorem q2445 : (Jvm.Cond.instantiable "TreeDifferModel$Item" (6 : Nat)) ∈ lw_all := lw_g (lw_at lw_m10 222 rfl) rfl
theorem q2447 : (Jvm.Cond.instanceMethod ({ cls := "TreeDifferModel$Item", name := "<init>", desc := "()V" } : Jvm.MethodName)) ∈ lw_all := lw_g (lw_at lw_m10 224 rfl) rfl
theorem q2448 : (Jvm.Cond.code ({ cls := "TreeDifferModel$Item", name := "<init>", desc := "()V" } : Jvm.MethodName) prog_21_method_1_code (1 : Nat) (Option.none : Option Jvm.ClassFile.FieldType)) ∈ lw_all := lw_g (lw_at lw_m10 225 rfl) rfl
theorem q2449 : (Jvm.Cond.methodLink "TreeDifferModel$Item" (3 : Nat) ({ cls := "java/lang/Object", name := "<init>", desc := "()V" } : Jvm.MethodName)) ∈ lw_all := lw_g (lw_at lw_m10 226 rfl) rfl
theorem q2450 : (Jvm.Cond.classLink "TreeDifferModel$Item" (9 : Nat) "TreeDifferModel$Item") ∈ lw_all := lw_g (lw_at lw_m10 227 rfl) rfl
theorem q2452 : (Jvm.Cond.fieldLink "TreeDifferModel$Item" (27 : Nat) "TreeDifferModel$Item" "key" "I") ∈ lw_all := lw_g (lw_at lw_m10 229 rfl) rfl
theorem q2455 : (Jvm.Cond.fieldLink "TreeDifferModel$Item" (15 : Nat) "TreeDifferModel$Item" "many" "I") ∈ lw_all := lw_g (lw_at lw_m10 232 rfl) rfl
theorem q2457 : (Jvm.Cond.fieldLink "TreeDifferModel$Item" (19 : Nat) "TreeDifferModel$Item" "parent" "LTreeDifferModel$Item;") ∈ lw_all := lw_g (lw_at lw_m10 234 rfl) rfl
theorem q2459 : (Jvm.Cond.fieldLink "TreeDifferModel$Item" (11 : Nat) "TreeDifferModel$Item" "kids" "[LTreeDifferModel$Item;") ∈ lw_all := lw_g (lw_at lw_m10 236 rfl) rfl
theorem q2461 : (Jvm.Cond.lays "TreeDifferModel$Item" "TreeDifferModel$Item" "label" "I") ∈ lw_all := lw_g (lw_at lw_m10 238 rfl) rfl
theorem q2462 : (Jvm.Cond.soleField "TreeDifferModel$Item" "label") ∈ lw_all := lw_g (lw_at lw_m10 239 rfl) rfl
theorem q2463 : (Jvm.Cond.lays "TreeDifferModel$Item" "TreeDifferModel$Item" "key" "I") ∈ lw_all := lw_g (lw_at lw_m11 0 rfl) rfl
theorem q2464 : (Jvm.Cond.soleField "TreeDifferModel$Item" "key") ∈ lw_all := lw_g (lw_at lw_m11 1 rfl) rfl
theorem q2465 : (Jvm.Cond.lays "TreeDifferModel$Item" "TreeDifferModel$Item" "value" "I") ∈ lw_all := lw_g (lw_at lw_m11 2 rfl) rfl
theorem q2466 : (Jvm.Cond.soleField "TreeDifferModel$Item" "value") ∈ lw_all := lw_g (lw_at lw_m11 3 rfl) rfl
theorem q2467 : (Jvm.Cond.lays "TreeDifferModel$Item" "TreeDifferModel$Item" "many" "I") ∈ lw_all := lw_g (lw_at lw_m11 4 rfl) rfl
theorem q2468 : (Jvm.Cond.soleField "TreeDifferModel$Item" "many") ∈ lw_all := lw_g (lw_at lw_m11 5 rfl) rfl
theorem q2469 : (Jvm.Cond.lays "TreeDifferModel$Item" "TreeDifferModel$Item" "parent" "LTreeDifferModel$Item;") ∈ lw_all := lw_g (lw_at lw_m11 6 rfl) rfl
theorem q2470 : (Jvm.Cond.soleField "TreeDifferModel$Item" "parent") ∈ lw_all := lw_g (lw_at lw_m11 7 rfl) rfl
theorem q2471 : (Jvm.Cond.laysFinal "TreeDifferModel$Item" "TreeDifferModel$Item" "kids" "[LTreeDifferModel$Item;") ∈ lw_all := lw_g (lw_at lw_m11 8 rfl) rfl
theorem q2472 : (Jvm.Cond.soleField "TreeDifferModel$Item" "kids") ∈ lw_all := lw_g (lw_at lw_m11 9 rfl) rfl
theorem q2473 : (Jvm.Cond.superclass "TreeDifferModel$Item" "java/lang/Object") ∈ lw_all := lw_g (lw_at lw_m11 10 rfl) rfl
theorem q2475 : (Jvm.Cond.privateMethod ({ cls := "TreeDifferModel$Item", name := "puts", desc := "(LTreeDifferModel$Item;I)V" } : Jvm.MethodName)) ∈ lw_tbl := lw_at lw_m11 12 rfl
theorem q2476 : (Jvm.Cond.instanceMethod ({ cls := "TreeDifferModel$Item", name := "puts", desc := "(LTreeDifferModel$Item;I)V" } : Jvm.MethodName)) ∈ lw_all := lw_g (lw_at lw_m11 13 rfl) rfl
theorem q2477 : (Jvm.Cond.code ({ cls := "TreeDifferModel$Item", name := "puts", desc := "(LTreeDifferModel$Item;I)V" } : Jvm.MethodName) prog_21_method_2_code (4 : Nat) (Option.none : Option Jvm.ClassFile.FieldType)) ∈ lw_all := lw_g (lw_at lw_m11 14 rfl) rfl
theorem q2491 : (Jvm.Cond.privateMethod ({ cls := "TreeDifferModel$Item", name := "leaves", desc := "()V" } : Jvm.MethodName)) ∈ lw_tbl := lw_at lw_m11 28 rfl
theorem q2492 : (Jvm.Cond.instanceMethod ({ cls := "TreeDifferModel$Item", name := "leaves", desc := "()V" } : Jvm.MethodName)) ∈ lw_all := lw_g (lw_at lw_m11 29 rfl) rfl
theorem q2493 : (Jvm.Cond.code ({ cls := "TreeDifferModel$Item", name := "leaves", desc := "()V" } : Jvm.MethodName) prog_21_method_4_code (3 : Nat) (Option.none : Option Jvm.ClassFile.FieldType)) ∈ lw_all := lw_g (lw_at lw_m11 30 rfl) rfl
theorem q2494 : (Jvm.Cond.methodLink "TreeDifferModel$Item" (23 : Nat) ({ cls := "TreeDifferModel$Item", name := "placeOf", desc := "(LTreeDifferModel$Item;)I" } : Jvm.MethodName)) ∈ lw_all := lw_g (lw_at lw_m11 31 rfl) rfl
theorem q2495 : (Jvm.Cond.privateMethod ({ cls := "TreeDifferModel$Item", name := "placeOf", desc := "(LTreeDifferModel$Item;)I" } : Jvm.MethodName)) ∈ lw_tbl := lw_at lw_m11 32 rfl
theorem q2496 : (Jvm.Cond.instanceMethod ({ cls := "TreeDifferModel$Item", name := "placeOf", desc := "(LTreeDifferModel$Item;)I" } : Jvm.MethodName)) ∈ lw_all := lw_g (lw_at lw_m11 33 rfl) rfl
theorem q2497 : (Jvm.Cond.code ({ cls := "TreeDifferModel$Item", name := "placeOf", desc := "(LTreeDifferModel$Item;)I" } : Jvm.MethodName) prog_21_method_3_code (3 : Nat) (Option.some Jvm.ClassFile.FieldType.int)) ∈ lw_all := lw_g (lw_at lw_m11 34 rfl) rfl
theorem q2507 : (Jvm.Cond.privateMethod ({ cls := "TreeDifferModel$Item", name := "hasKey", desc := "(I)Z" } : Jvm.MethodName)) ∈ lw_tbl := lw_at lw_m11 44 rfl
theorem q2508 : (Jvm.Cond.instanceMethod ({ cls := "TreeDifferModel$Item", name := "hasKey", desc := "(I)Z" } : Jvm.MethodName)) ∈ lw_all := lw_g (lw_at lw_m11 45 rfl) rfl
theorem q2509 : (Jvm.Cond.code ({ cls := "TreeDifferModel$Item", name := "hasKey", desc := "(I)Z" } : Jvm.MethodName) prog_21_method_5_code (3 : Nat) (Option.some Jvm.ClassFile.FieldType.boolean)) ∈ lw_all := lw_g (lw_at lw_m11 46 rfl) rfl
theorem q2556 : (Jvm.Cond.castable "TreeDifferModel$Item" "java/lang/Object") ∈ lw_tbl := lw_at lw_m11 93 rfl
theorem in_X20 : ∀ w ∈ wsX200, w ∈ lw_all := lw_in wsX200 [2461, 2463, 2465, 2467, 2469, 2471] (by decide +kernel) (by decide +kernel)

/-! TreeDifferModel -/
set_option maxRecDepth 100000
def RX4 : String := "TreeDifferModel"
def TX4 : u_T := fun k => match k with
  | 0 => ("TreeDifferModel", "trees", "[LTreeDifferModel$Tree;", true)
  | 1 => ("TreeDifferModel", "thrown", "I", false)
  | 2 => ("TreeDifferModel", "buffer", "[C", true)
  | 3 => ("TreeDifferModel", "typed", "I", false)
  | 4 => ("TreeDifferModel", "at", "I", false)
  | 5 => ("TreeDifferModel", "fault", "I", false)
  | 6 => ("TreeDifferModel", "errorAt", "I", false)
  | 7 => ("TreeDifferModel", "line", "Ljava/lang/String;", false)
  | 8 => ("TreeDifferModel", "made", "LTreeDifferModel$Tree;", true)
  | 9 => ("TreeDifferModel", "costs", "[[I", true)
  | 10 => ("TreeDifferModel", "foundKinds", "[C", true)
  | 11 => ("TreeDifferModel", "foundNodes", "[I", true)
  | 12 => ("TreeDifferModel", "foundTargets", "[I", true)
  | 13 => ("TreeDifferModel", "mates", "[I", true)
  | 14 => ("TreeDifferModel", "matesBack", "[I", true)
  | 15 => ("TreeDifferModel", "found", "I", false)
  | 16 => ("TreeDifferModel", "old", "LTreeDifferModel$Tree;", true)
  | 17 => ("TreeDifferModel", "goal", "LTreeDifferModel$Tree;", true)
  | 18 => ("TreeDifferModel", "kinds", "[C", true)
  | 19 => ("TreeDifferModel", "nodes", "[I", true)
  | 20 => ("TreeDifferModel", "targets", "[I", true)
  | 21 => ("TreeDifferModel", "partners", "[I", true)
  | 22 => ("TreeDifferModel", "partnersBack", "[I", true)
  | 23 => ("TreeDifferModel", "isScript", "Z", false)
  | 24 => ("TreeDifferModel", "many", "I", false)
  | 25 => ("TreeDifferModel", "put", "[LTreeDifferModel$Item;", true)
  | 26 => ("TreeDifferModel", "items", "[LTreeDifferModel$Item;", false)
  | 27 => ("TreeDifferModel", "conflictAt", "I", false)
  | 28 => ("TreeDifferModel", "there", "I", false)
  | 29 => ("TreeDifferModel", "conflict", "C", false)
  | _ => ("TreeDifferModel", "reason", "C", false)
def tyX4 : Nat → FieldType := fun k => match k with
  | 0 => .array (.object "TreeDifferModel$Tree")
  | 1 => .int
  | 2 => .array .char
  | 3 => .int
  | 4 => .int
  | 5 => .int
  | 6 => .int
  | 7 => .object "java/lang/String"
  | 8 => .object "TreeDifferModel$Tree"
  | 9 => .array (.array .int)
  | 10 => .array .char
  | 11 => .array .int
  | 12 => .array .int
  | 13 => .array .int
  | 14 => .array .int
  | 15 => .int
  | 16 => .object "TreeDifferModel$Tree"
  | 17 => .object "TreeDifferModel$Tree"
  | 18 => .array .char
  | 19 => .array .int
  | 20 => .array .int
  | 21 => .array .int
  | 22 => .array .int
  | 23 => .boolean
  | 24 => .int
  | 25 => .array (.object "TreeDifferModel$Item")
  | 26 => .array (.object "TreeDifferModel$Item")
  | 27 => .int
  | 28 => .int
  | 29 => .char
  | _ => .char
abbrev wsX40 : List Cond := u_ws RX4 TX4 31
set_option maxRecDepth 100000 in
theorem nmX4 : ∀ a, a < 31 → ∀ b, b < 31 → a ≠ b → (TX4 a).2.1 ≠ (TX4 b).2.1 := by decide +kernel
set_option maxRecDepth 100000 in
theorem tyX4_ok : ∀ k, k < 31 → parseFieldDescriptor (TX4 k).2.2.1 = some (tyX4 k) := by decide +kernel
abbrev cX4_init : ByteArray := prog_20_method_2_code
def yX4_init : MethodName := ⟨RX4, "<init>", "()V"⟩
def dkwX4_init_10 : List UInt8 := [167, 255, 233, 177]
abbrev dktX4_init_10 : List UInt8 := dkwX4_init_10 ++ []
def dkwX4_init_9 : List UInt8 := [28, 162, 0, 24, 43, 29, 50, 58, 4, 25, 4, 16, 97, 3, 3, 2, 182, 0, 101, 132, 3, 1]
abbrev dktX4_init_9 : List UInt8 := dkwX4_init_9 ++ dktX4_init_10
def dkwX4_init_8 : List UInt8 := [16, 20, 189, 0, 92, 181, 0, 94, 42, 2, 181, 0, 98, 42, 180, 0, 27, 76, 43, 190, 61, 3, 62, 29]
abbrev dktX4_init_8 : List UInt8 := dkwX4_init_8 ++ dktX4_init_9
def dkwX4_init_7 : List UInt8 := [16, 80, 188, 10, 181, 0, 83, 42, 16, 20, 188, 10, 181, 0, 86, 42, 16, 20, 188, 10, 181, 0, 89, 42]
abbrev dktX4_init_7 : List UInt8 := dkwX4_init_7 ++ dktX4_init_8
def dkwX4_init_6 : List UInt8 := [183, 0, 26, 181, 0, 74, 42, 16, 80, 188, 5, 181, 0, 77, 42, 16, 80, 188, 10, 181, 0, 80, 42]
abbrev dktX4_init_6 : List UInt8 := dkwX4_init_6 ++ dktX4_init_7
def dkwX4_init_5 : List UInt8 := [16, 20, 188, 10, 181, 0, 68, 42, 187, 0, 2, 89, 183, 0, 26, 181, 0, 71, 42, 187, 0, 2, 89]
abbrev dktX4_init_5 : List UInt8 := dkwX4_init_5 ++ dktX4_init_6
def dkwX4_init_4 : List UInt8 := [16, 80, 188, 10, 181, 0, 59, 42, 16, 80, 188, 10, 181, 0, 62, 42, 16, 20, 188, 10, 181, 0, 65, 42]
abbrev dktX4_init_4 : List UInt8 := dkwX4_init_4 ++ dktX4_init_5
def dkwX4_init_3 : List UInt8 := [181, 0, 47, 42, 16, 20, 16, 20, 197, 0, 51, 2, 181, 0, 53, 42, 16, 80, 188, 5, 181, 0, 56, 42]
abbrev dktX4_init_3 : List UInt8 := dkwX4_init_3 ++ dktX4_init_4
def dkwX4_init_2 : List UInt8 := [181, 0, 33, 42, 2, 181, 0, 37, 42, 18, 41, 181, 0, 43, 42, 187, 0, 2, 89, 183, 0, 26]
abbrev dktX4_init_2 : List UInt8 := dkwX4_init_2 ++ dktX4_init_3
def dkwX4_init_1 : List UInt8 := [89, 183, 0, 26, 83, 89, 5, 187, 0, 2, 89, 183, 0, 26, 83, 181, 0, 27, 42, 16, 80, 188, 5]
abbrev dktX4_init_1 : List UInt8 := dkwX4_init_1 ++ dktX4_init_2
def dkwX4_init_0 : List UInt8 := [42, 183, 0, 20, 42, 6, 189, 0, 2, 89, 3, 187, 0, 2, 89, 183, 0, 26, 83, 89, 4, 187, 0, 2]
abbrev dktX4_init_0 : List UInt8 := dkwX4_init_0 ++ dktX4_init_1
theorem dksX4_init_0 : cX4_init.data.toList.drop 0 = dktX4_init_0 := by decide +kernel
theorem dksX4_init_1 : cX4_init.data.toList.drop 24 = dktX4_init_1 := dk_seg dksX4_init_0 24 rfl rfl
theorem dksX4_init_2 : cX4_init.data.toList.drop 47 = dktX4_init_2 := dk_seg dksX4_init_1 23 rfl rfl
theorem dksX4_init_3 : cX4_init.data.toList.drop 69 = dktX4_init_3 := dk_seg dksX4_init_2 22 rfl rfl
theorem dksX4_init_4 : cX4_init.data.toList.drop 93 = dktX4_init_4 := dk_seg dksX4_init_3 24 rfl rfl
theorem dksX4_init_5 : cX4_init.data.toList.drop 117 = dktX4_init_5 := dk_seg dksX4_init_4 24 rfl rfl
theorem dksX4_init_6 : cX4_init.data.toList.drop 140 = dktX4_init_6 := dk_seg dksX4_init_5 23 rfl rfl
theorem dksX4_init_7 : cX4_init.data.toList.drop 163 = dktX4_init_7 := dk_seg dksX4_init_6 23 rfl rfl
theorem dksX4_init_8 : cX4_init.data.toList.drop 187 = dktX4_init_8 := dk_seg dksX4_init_7 24 rfl rfl
theorem dksX4_init_9 : cX4_init.data.toList.drop 211 = dktX4_init_9 := dk_seg dksX4_init_8 24 rfl rfl
theorem dksX4_init_10 : cX4_init.data.toList.drop 233 = dktX4_init_10 := dk_seg dksX4_init_9 22 rfl rfl
theorem dX4_init_0 : decode cX4_init 0 = .ok (.aload_n 0, 1) := dk_42 (dk_at dksX4_init_0 0 rfl rfl)
theorem dX4_init_1 : decode cX4_init 1 = .ok (.invokespecial 20, 3) := dk_183 0 20 (dk_at dksX4_init_0 1 rfl rfl)
theorem dX4_init_4 : decode cX4_init 4 = .ok (.aload_n 0, 1) := dk_42 (dk_at dksX4_init_0 4 rfl rfl)
theorem dX4_init_5 : decode cX4_init 5 = .ok (.iconst 3, 1) := dk_6 (dk_at dksX4_init_0 5 rfl rfl)
theorem dX4_init_6 : decode cX4_init 6 = .ok (.anewarray 2, 3) := dk_189 0 2 (dk_at dksX4_init_0 6 rfl rfl)
theorem dX4_init_9 : decode cX4_init 9 = .ok (.dup, 1) := dk_89 (dk_at dksX4_init_0 9 rfl rfl)
theorem dX4_init_10 : decode cX4_init 10 = .ok (.iconst 0, 1) := dk_3 (dk_at dksX4_init_0 10 rfl rfl)
theorem dX4_init_11 : decode cX4_init 11 = .ok (.new 2, 3) := dk_187 0 2 (dk_at dksX4_init_0 11 rfl rfl)
theorem dX4_init_14 : decode cX4_init 14 = .ok (.dup, 1) := dk_89 (dk_at dksX4_init_0 14 rfl rfl)
theorem dX4_init_15 : decode cX4_init 15 = .ok (.invokespecial 26, 3) := dk_183 0 26 (dk_at dksX4_init_0 15 rfl rfl)
theorem dX4_init_18 : decode cX4_init 18 = .ok (.aastore, 1) := dk_83 (dk_at dksX4_init_0 18 rfl rfl)
theorem dX4_init_19 : decode cX4_init 19 = .ok (.dup, 1) := dk_89 (dk_at dksX4_init_0 19 rfl rfl)
theorem dX4_init_20 : decode cX4_init 20 = .ok (.iconst 1, 1) := dk_4 (dk_at dksX4_init_0 20 rfl rfl)
theorem dX4_init_21 : decode cX4_init 21 = .ok (.new 2, 3) := dk_187 0 2 (dk_at dksX4_init_0 21 rfl rfl)
theorem dX4_init_24 : decode cX4_init 24 = .ok (.dup, 1) := dk_89 (dk_at dksX4_init_1 0 rfl rfl)
theorem dX4_init_25 : decode cX4_init 25 = .ok (.invokespecial 26, 3) := dk_183 0 26 (dk_at dksX4_init_1 1 rfl rfl)
theorem dX4_init_28 : decode cX4_init 28 = .ok (.aastore, 1) := dk_83 (dk_at dksX4_init_1 4 rfl rfl)
theorem dX4_init_29 : decode cX4_init 29 = .ok (.dup, 1) := dk_89 (dk_at dksX4_init_1 5 rfl rfl)
theorem dX4_init_30 : decode cX4_init 30 = .ok (.iconst 2, 1) := dk_5 (dk_at dksX4_init_1 6 rfl rfl)
theorem dX4_init_31 : decode cX4_init 31 = .ok (.new 2, 3) := dk_187 0 2 (dk_at dksX4_init_1 7 rfl rfl)
theorem dX4_init_34 : decode cX4_init 34 = .ok (.dup, 1) := dk_89 (dk_at dksX4_init_1 10 rfl rfl)
theorem dX4_init_35 : decode cX4_init 35 = .ok (.invokespecial 26, 3) := dk_183 0 26 (dk_at dksX4_init_1 11 rfl rfl)
theorem dX4_init_38 : decode cX4_init 38 = .ok (.aastore, 1) := dk_83 (dk_at dksX4_init_1 14 rfl rfl)
theorem dX4_init_39 : decode cX4_init 39 = .ok (.putfield 27, 3) := dk_181 0 27 (dk_at dksX4_init_1 15 rfl rfl)
theorem dX4_init_42 : decode cX4_init 42 = .ok (.aload_n 0, 1) := dk_42 (dk_at dksX4_init_1 18 rfl rfl)
theorem dX4_init_43 : decode cX4_init 43 = .ok (.bipush 80, 2) := dk_16 80 (dk_at dksX4_init_1 19 rfl rfl)
theorem dX4_init_45 : decode cX4_init 45 = .ok (.newarray .char, 2) := dk_188_5 (dk_at dksX4_init_1 21 rfl rfl)
theorem dX4_init_47 : decode cX4_init 47 = .ok (.putfield 33, 3) := dk_181 0 33 (dk_at dksX4_init_2 0 rfl rfl)
theorem dX4_init_50 : decode cX4_init 50 = .ok (.aload_n 0, 1) := dk_42 (dk_at dksX4_init_2 3 rfl rfl)
theorem dX4_init_51 : decode cX4_init 51 = .ok (.iconst (-1), 1) := dk_2 (dk_at dksX4_init_2 4 rfl rfl)
theorem dX4_init_52 : decode cX4_init 52 = .ok (.putfield 37, 3) := dk_181 0 37 (dk_at dksX4_init_2 5 rfl rfl)
theorem dX4_init_55 : decode cX4_init 55 = .ok (.aload_n 0, 1) := dk_42 (dk_at dksX4_init_2 8 rfl rfl)
theorem dX4_init_56 : decode cX4_init 56 = .ok (.ldc 41, 2) := dk_18 41 (dk_at dksX4_init_2 9 rfl rfl)
theorem dX4_init_58 : decode cX4_init 58 = .ok (.putfield 43, 3) := dk_181 0 43 (dk_at dksX4_init_2 11 rfl rfl)
theorem dX4_init_61 : decode cX4_init 61 = .ok (.aload_n 0, 1) := dk_42 (dk_at dksX4_init_2 14 rfl rfl)
theorem dX4_init_62 : decode cX4_init 62 = .ok (.new 2, 3) := dk_187 0 2 (dk_at dksX4_init_2 15 rfl rfl)
theorem dX4_init_65 : decode cX4_init 65 = .ok (.dup, 1) := dk_89 (dk_at dksX4_init_2 18 rfl rfl)
theorem dX4_init_66 : decode cX4_init 66 = .ok (.invokespecial 26, 3) := dk_183 0 26 (dk_at dksX4_init_2 19 rfl rfl)
theorem dX4_init_69 : decode cX4_init 69 = .ok (.putfield 47, 3) := dk_181 0 47 (dk_at dksX4_init_3 0 rfl rfl)
theorem dX4_init_72 : decode cX4_init 72 = .ok (.aload_n 0, 1) := dk_42 (dk_at dksX4_init_3 3 rfl rfl)
theorem dX4_init_73 : decode cX4_init 73 = .ok (.bipush 20, 2) := dk_16 20 (dk_at dksX4_init_3 4 rfl rfl)
theorem dX4_init_75 : decode cX4_init 75 = .ok (.bipush 20, 2) := dk_16 20 (dk_at dksX4_init_3 6 rfl rfl)
theorem dX4_init_77 : decode cX4_init 77 = .ok (.multianewarray 51 2, 4) := by decide +kernel
theorem dX4_init_81 : decode cX4_init 81 = .ok (.putfield 53, 3) := dk_181 0 53 (dk_at dksX4_init_3 12 rfl rfl)
theorem dX4_init_84 : decode cX4_init 84 = .ok (.aload_n 0, 1) := dk_42 (dk_at dksX4_init_3 15 rfl rfl)
theorem dX4_init_85 : decode cX4_init 85 = .ok (.bipush 80, 2) := dk_16 80 (dk_at dksX4_init_3 16 rfl rfl)
theorem dX4_init_87 : decode cX4_init 87 = .ok (.newarray .char, 2) := dk_188_5 (dk_at dksX4_init_3 18 rfl rfl)
theorem dX4_init_89 : decode cX4_init 89 = .ok (.putfield 56, 3) := dk_181 0 56 (dk_at dksX4_init_3 20 rfl rfl)
theorem dX4_init_92 : decode cX4_init 92 = .ok (.aload_n 0, 1) := dk_42 (dk_at dksX4_init_3 23 rfl rfl)
theorem dX4_init_93 : decode cX4_init 93 = .ok (.bipush 80, 2) := dk_16 80 (dk_at dksX4_init_4 0 rfl rfl)
theorem dX4_init_95 : decode cX4_init 95 = .ok (.newarray .int, 2) := dk_188_10 (dk_at dksX4_init_4 2 rfl rfl)
theorem dX4_init_97 : decode cX4_init 97 = .ok (.putfield 59, 3) := dk_181 0 59 (dk_at dksX4_init_4 4 rfl rfl)
theorem dX4_init_100 : decode cX4_init 100 = .ok (.aload_n 0, 1) := dk_42 (dk_at dksX4_init_4 7 rfl rfl)
theorem dX4_init_101 : decode cX4_init 101 = .ok (.bipush 80, 2) := dk_16 80 (dk_at dksX4_init_4 8 rfl rfl)
theorem dX4_init_103 : decode cX4_init 103 = .ok (.newarray .int, 2) := dk_188_10 (dk_at dksX4_init_4 10 rfl rfl)
theorem dX4_init_105 : decode cX4_init 105 = .ok (.putfield 62, 3) := dk_181 0 62 (dk_at dksX4_init_4 12 rfl rfl)
theorem dX4_init_108 : decode cX4_init 108 = .ok (.aload_n 0, 1) := dk_42 (dk_at dksX4_init_4 15 rfl rfl)
theorem dX4_init_109 : decode cX4_init 109 = .ok (.bipush 20, 2) := dk_16 20 (dk_at dksX4_init_4 16 rfl rfl)
theorem dX4_init_111 : decode cX4_init 111 = .ok (.newarray .int, 2) := dk_188_10 (dk_at dksX4_init_4 18 rfl rfl)
theorem dX4_init_113 : decode cX4_init 113 = .ok (.putfield 65, 3) := dk_181 0 65 (dk_at dksX4_init_4 20 rfl rfl)
theorem dX4_init_116 : decode cX4_init 116 = .ok (.aload_n 0, 1) := dk_42 (dk_at dksX4_init_4 23 rfl rfl)
theorem dX4_init_117 : decode cX4_init 117 = .ok (.bipush 20, 2) := dk_16 20 (dk_at dksX4_init_5 0 rfl rfl)
theorem dX4_init_119 : decode cX4_init 119 = .ok (.newarray .int, 2) := dk_188_10 (dk_at dksX4_init_5 2 rfl rfl)
theorem dX4_init_121 : decode cX4_init 121 = .ok (.putfield 68, 3) := dk_181 0 68 (dk_at dksX4_init_5 4 rfl rfl)
theorem dX4_init_124 : decode cX4_init 124 = .ok (.aload_n 0, 1) := dk_42 (dk_at dksX4_init_5 7 rfl rfl)
theorem dX4_init_125 : decode cX4_init 125 = .ok (.new 2, 3) := dk_187 0 2 (dk_at dksX4_init_5 8 rfl rfl)
theorem dX4_init_128 : decode cX4_init 128 = .ok (.dup, 1) := dk_89 (dk_at dksX4_init_5 11 rfl rfl)
theorem dX4_init_129 : decode cX4_init 129 = .ok (.invokespecial 26, 3) := dk_183 0 26 (dk_at dksX4_init_5 12 rfl rfl)
theorem dX4_init_132 : decode cX4_init 132 = .ok (.putfield 71, 3) := dk_181 0 71 (dk_at dksX4_init_5 15 rfl rfl)
theorem dX4_init_135 : decode cX4_init 135 = .ok (.aload_n 0, 1) := dk_42 (dk_at dksX4_init_5 18 rfl rfl)
theorem dX4_init_136 : decode cX4_init 136 = .ok (.new 2, 3) := dk_187 0 2 (dk_at dksX4_init_5 19 rfl rfl)
theorem dX4_init_139 : decode cX4_init 139 = .ok (.dup, 1) := dk_89 (dk_at dksX4_init_5 22 rfl rfl)
theorem dX4_init_140 : decode cX4_init 140 = .ok (.invokespecial 26, 3) := dk_183 0 26 (dk_at dksX4_init_6 0 rfl rfl)
theorem dX4_init_143 : decode cX4_init 143 = .ok (.putfield 74, 3) := dk_181 0 74 (dk_at dksX4_init_6 3 rfl rfl)
theorem dX4_init_146 : decode cX4_init 146 = .ok (.aload_n 0, 1) := dk_42 (dk_at dksX4_init_6 6 rfl rfl)
theorem dX4_init_147 : decode cX4_init 147 = .ok (.bipush 80, 2) := dk_16 80 (dk_at dksX4_init_6 7 rfl rfl)
theorem dX4_init_149 : decode cX4_init 149 = .ok (.newarray .char, 2) := dk_188_5 (dk_at dksX4_init_6 9 rfl rfl)
theorem dX4_init_151 : decode cX4_init 151 = .ok (.putfield 77, 3) := dk_181 0 77 (dk_at dksX4_init_6 11 rfl rfl)
theorem dX4_init_154 : decode cX4_init 154 = .ok (.aload_n 0, 1) := dk_42 (dk_at dksX4_init_6 14 rfl rfl)
theorem dX4_init_155 : decode cX4_init 155 = .ok (.bipush 80, 2) := dk_16 80 (dk_at dksX4_init_6 15 rfl rfl)
theorem dX4_init_157 : decode cX4_init 157 = .ok (.newarray .int, 2) := dk_188_10 (dk_at dksX4_init_6 17 rfl rfl)
theorem dX4_init_159 : decode cX4_init 159 = .ok (.putfield 80, 3) := dk_181 0 80 (dk_at dksX4_init_6 19 rfl rfl)
theorem dX4_init_162 : decode cX4_init 162 = .ok (.aload_n 0, 1) := dk_42 (dk_at dksX4_init_6 22 rfl rfl)
theorem dX4_init_163 : decode cX4_init 163 = .ok (.bipush 80, 2) := dk_16 80 (dk_at dksX4_init_7 0 rfl rfl)
theorem dX4_init_165 : decode cX4_init 165 = .ok (.newarray .int, 2) := dk_188_10 (dk_at dksX4_init_7 2 rfl rfl)
theorem dX4_init_167 : decode cX4_init 167 = .ok (.putfield 83, 3) := dk_181 0 83 (dk_at dksX4_init_7 4 rfl rfl)
theorem dX4_init_170 : decode cX4_init 170 = .ok (.aload_n 0, 1) := dk_42 (dk_at dksX4_init_7 7 rfl rfl)
theorem dX4_init_171 : decode cX4_init 171 = .ok (.bipush 20, 2) := dk_16 20 (dk_at dksX4_init_7 8 rfl rfl)
theorem dX4_init_173 : decode cX4_init 173 = .ok (.newarray .int, 2) := dk_188_10 (dk_at dksX4_init_7 10 rfl rfl)
theorem dX4_init_175 : decode cX4_init 175 = .ok (.putfield 86, 3) := dk_181 0 86 (dk_at dksX4_init_7 12 rfl rfl)
theorem dX4_init_178 : decode cX4_init 178 = .ok (.aload_n 0, 1) := dk_42 (dk_at dksX4_init_7 15 rfl rfl)
theorem dX4_init_179 : decode cX4_init 179 = .ok (.bipush 20, 2) := dk_16 20 (dk_at dksX4_init_7 16 rfl rfl)
theorem dX4_init_181 : decode cX4_init 181 = .ok (.newarray .int, 2) := dk_188_10 (dk_at dksX4_init_7 18 rfl rfl)
theorem dX4_init_183 : decode cX4_init 183 = .ok (.putfield 89, 3) := dk_181 0 89 (dk_at dksX4_init_7 20 rfl rfl)
theorem dX4_init_186 : decode cX4_init 186 = .ok (.aload_n 0, 1) := dk_42 (dk_at dksX4_init_7 23 rfl rfl)
theorem dX4_init_187 : decode cX4_init 187 = .ok (.bipush 20, 2) := dk_16 20 (dk_at dksX4_init_8 0 rfl rfl)
theorem dX4_init_189 : decode cX4_init 189 = .ok (.anewarray 92, 3) := dk_189 0 92 (dk_at dksX4_init_8 2 rfl rfl)
theorem dX4_init_192 : decode cX4_init 192 = .ok (.putfield 94, 3) := dk_181 0 94 (dk_at dksX4_init_8 5 rfl rfl)
theorem dX4_init_195 : decode cX4_init 195 = .ok (.aload_n 0, 1) := dk_42 (dk_at dksX4_init_8 8 rfl rfl)
theorem dX4_init_196 : decode cX4_init 196 = .ok (.iconst (-1), 1) := dk_2 (dk_at dksX4_init_8 9 rfl rfl)
theorem dX4_init_197 : decode cX4_init 197 = .ok (.putfield 98, 3) := dk_181 0 98 (dk_at dksX4_init_8 10 rfl rfl)
theorem dX4_init_200 : decode cX4_init 200 = .ok (.aload_n 0, 1) := dk_42 (dk_at dksX4_init_8 13 rfl rfl)
theorem dX4_init_201 : decode cX4_init 201 = .ok (.getfield 27, 3) := dk_180 0 27 (dk_at dksX4_init_8 14 rfl rfl)
theorem dX4_init_204 : decode cX4_init 204 = .ok (.astore_n 1, 1) := dk_76 (dk_at dksX4_init_8 17 rfl rfl)
theorem dX4_init_205 : decode cX4_init 205 = .ok (.aload_n 1, 1) := dk_43 (dk_at dksX4_init_8 18 rfl rfl)
theorem dX4_init_206 : decode cX4_init 206 = .ok (.arraylength, 1) := dk_190 (dk_at dksX4_init_8 19 rfl rfl)
theorem dX4_init_207 : decode cX4_init 207 = .ok (.istore_n 2, 1) := dk_61 (dk_at dksX4_init_8 20 rfl rfl)
theorem dX4_init_208 : decode cX4_init 208 = .ok (.iconst 0, 1) := dk_3 (dk_at dksX4_init_8 21 rfl rfl)
theorem dX4_init_209 : decode cX4_init 209 = .ok (.istore_n 3, 1) := dk_62 (dk_at dksX4_init_8 22 rfl rfl)
theorem dX4_init_210 : decode cX4_init 210 = .ok (.iload_n 3, 1) := dk_29 (dk_at dksX4_init_8 23 rfl rfl)
theorem dX4_init_211 : decode cX4_init 211 = .ok (.iload_n 2, 1) := dk_28 (dk_at dksX4_init_9 0 rfl rfl)
theorem dX4_init_212 : decode cX4_init 212 = .ok (.if_icmp .ge 24, 3) := dk_162 0 24 (dk_at dksX4_init_9 1 rfl rfl)
theorem dX4_init_215 : decode cX4_init 215 = .ok (.aload_n 1, 1) := dk_43 (dk_at dksX4_init_9 4 rfl rfl)
theorem dX4_init_216 : decode cX4_init 216 = .ok (.iload_n 3, 1) := dk_29 (dk_at dksX4_init_9 5 rfl rfl)
theorem dX4_init_217 : decode cX4_init 217 = .ok (.aaload, 1) := dk_50 (dk_at dksX4_init_9 6 rfl rfl)
theorem dX4_init_218 : decode cX4_init 218 = .ok (.astore 4, 2) := dk_58 4 (dk_at dksX4_init_9 7 rfl rfl)
theorem dX4_init_220 : decode cX4_init 220 = .ok (.aload 4, 2) := dk_25 4 (dk_at dksX4_init_9 9 rfl rfl)
theorem dX4_init_222 : decode cX4_init 222 = .ok (.bipush 97, 2) := dk_16 97 (dk_at dksX4_init_9 11 rfl rfl)
theorem dX4_init_224 : decode cX4_init 224 = .ok (.iconst 0, 1) := dk_3 (dk_at dksX4_init_9 13 rfl rfl)
theorem dX4_init_225 : decode cX4_init 225 = .ok (.iconst 0, 1) := dk_3 (dk_at dksX4_init_9 14 rfl rfl)
theorem dX4_init_226 : decode cX4_init 226 = .ok (.iconst (-1), 1) := dk_2 (dk_at dksX4_init_9 15 rfl rfl)
theorem dX4_init_227 : decode cX4_init 227 = .ok (.invokevirtual 101, 3) := dk_182 0 101 (dk_at dksX4_init_9 16 rfl rfl)
theorem dX4_init_230 : decode cX4_init 230 = .ok (.iinc 3 1, 3) := dk_132 3 1 (dk_at dksX4_init_9 19 rfl rfl)
theorem dX4_init_233 : decode cX4_init 233 = .ok (.goto (-23), 3) := dk_167 255 233 (dk_at dksX4_init_10 0 rfl rfl)
theorem dX4_init_236 : decode cX4_init 236 = .ok (.return_, 1) := dk_177 (dk_at dksX4_init_10 3 rfl rfl)
abbrev cX4_thrown : ByteArray := prog_20_method_3_code
def yX4_thrown : MethodName := ⟨RX4, "thrown", "()I"⟩
theorem dX4_thrown_0 : decode cX4_thrown 0 = .ok (.aload_n 0, 1) := by decide +kernel
theorem dX4_thrown_1 : decode cX4_thrown 1 = .ok (.getfield 105, 3) := by decide +kernel
theorem dX4_thrown_4 : decode cX4_thrown 4 = .ok (.ireturn, 1) := by decide +kernel
abbrev cX4_type : ByteArray := prog_20_method_10_code
def yX4_type : MethodName := ⟨RX4, "type", "(C)I"⟩
def dkwX4_type_1 : List UInt8 := [42, 180, 0, 123, 27, 85, 42, 89, 180, 0, 123, 4, 96, 181, 0, 123, 42, 180, 0, 123, 172]
abbrev dktX4_type_1 : List UInt8 := dkwX4_type_1 ++ []
def dkwX4_type_0 : List UInt8 := [42, 3, 181, 0, 105, 42, 180, 0, 123, 16, 80, 160, 0, 9, 42, 4, 182, 0, 126, 172, 42, 180, 0, 33]
abbrev dktX4_type_0 : List UInt8 := dkwX4_type_0 ++ dktX4_type_1
theorem dksX4_type_0 : cX4_type.data.toList.drop 0 = dktX4_type_0 := by decide +kernel
theorem dksX4_type_1 : cX4_type.data.toList.drop 24 = dktX4_type_1 := dk_seg dksX4_type_0 24 rfl rfl
theorem dX4_type_0 : decode cX4_type 0 = .ok (.aload_n 0, 1) := dk_42 (dk_at dksX4_type_0 0 rfl rfl)
theorem dX4_type_1 : decode cX4_type 1 = .ok (.iconst 0, 1) := dk_3 (dk_at dksX4_type_0 1 rfl rfl)
theorem dX4_type_2 : decode cX4_type 2 = .ok (.putfield 105, 3) := dk_181 0 105 (dk_at dksX4_type_0 2 rfl rfl)
theorem dX4_type_5 : decode cX4_type 5 = .ok (.aload_n 0, 1) := dk_42 (dk_at dksX4_type_0 5 rfl rfl)
theorem dX4_type_6 : decode cX4_type 6 = .ok (.getfield 123, 3) := dk_180 0 123 (dk_at dksX4_type_0 6 rfl rfl)
theorem dX4_type_9 : decode cX4_type 9 = .ok (.bipush 80, 2) := dk_16 80 (dk_at dksX4_type_0 9 rfl rfl)
theorem dX4_type_11 : decode cX4_type 11 = .ok (.if_icmp .ne 9, 3) := dk_160 0 9 (dk_at dksX4_type_0 11 rfl rfl)
theorem dX4_type_14 : decode cX4_type 14 = .ok (.aload_n 0, 1) := dk_42 (dk_at dksX4_type_0 14 rfl rfl)
theorem dX4_type_15 : decode cX4_type 15 = .ok (.iconst 1, 1) := dk_4 (dk_at dksX4_type_0 15 rfl rfl)
theorem dX4_type_16 : decode cX4_type 16 = .ok (.invokevirtual 126, 3) := dk_182 0 126 (dk_at dksX4_type_0 16 rfl rfl)
theorem dX4_type_19 : decode cX4_type 19 = .ok (.ireturn, 1) := dk_172 (dk_at dksX4_type_0 19 rfl rfl)
theorem dX4_type_20 : decode cX4_type 20 = .ok (.aload_n 0, 1) := dk_42 (dk_at dksX4_type_0 20 rfl rfl)
theorem dX4_type_21 : decode cX4_type 21 = .ok (.getfield 33, 3) := dk_180 0 33 (dk_at dksX4_type_0 21 rfl rfl)
theorem dX4_type_24 : decode cX4_type 24 = .ok (.aload_n 0, 1) := dk_42 (dk_at dksX4_type_1 0 rfl rfl)
theorem dX4_type_25 : decode cX4_type 25 = .ok (.getfield 123, 3) := dk_180 0 123 (dk_at dksX4_type_1 1 rfl rfl)
theorem dX4_type_28 : decode cX4_type 28 = .ok (.iload_n 1, 1) := dk_27 (dk_at dksX4_type_1 4 rfl rfl)
theorem dX4_type_29 : decode cX4_type 29 = .ok (.castore, 1) := dk_85 (dk_at dksX4_type_1 5 rfl rfl)
theorem dX4_type_30 : decode cX4_type 30 = .ok (.aload_n 0, 1) := dk_42 (dk_at dksX4_type_1 6 rfl rfl)
theorem dX4_type_31 : decode cX4_type 31 = .ok (.dup, 1) := dk_89 (dk_at dksX4_type_1 7 rfl rfl)
theorem dX4_type_32 : decode cX4_type 32 = .ok (.getfield 123, 3) := dk_180 0 123 (dk_at dksX4_type_1 8 rfl rfl)
theorem dX4_type_35 : decode cX4_type 35 = .ok (.iconst 1, 1) := dk_4 (dk_at dksX4_type_1 11 rfl rfl)
theorem dX4_type_36 : decode cX4_type 36 = .ok (.iadd, 1) := dk_96 (dk_at dksX4_type_1 12 rfl rfl)
theorem dX4_type_37 : decode cX4_type 37 = .ok (.putfield 123, 3) := dk_181 0 123 (dk_at dksX4_type_1 13 rfl rfl)
theorem dX4_type_40 : decode cX4_type 40 = .ok (.aload_n 0, 1) := dk_42 (dk_at dksX4_type_1 16 rfl rfl)
theorem dX4_type_41 : decode cX4_type 41 = .ok (.getfield 123, 3) := dk_180 0 123 (dk_at dksX4_type_1 17 rfl rfl)
theorem dX4_type_44 : decode cX4_type 44 = .ok (.ireturn, 1) := dk_172 (dk_at dksX4_type_1 20 rfl rfl)
abbrev cX4_fails : ByteArray := prog_20_method_4_code
def yX4_fails : MethodName := ⟨RX4, "fails", "(I)I"⟩
def dkwX4_fails_0 : List UInt8 := [42, 27, 181, 0, 105, 3, 172]
abbrev dktX4_fails_0 : List UInt8 := dkwX4_fails_0 ++ []
theorem dksX4_fails_0 : cX4_fails.data.toList.drop 0 = dktX4_fails_0 := by decide +kernel
theorem dX4_fails_0 : decode cX4_fails 0 = .ok (.aload_n 0, 1) := dk_42 (dk_at dksX4_fails_0 0 rfl rfl)
theorem dX4_fails_1 : decode cX4_fails 1 = .ok (.iload_n 1, 1) := dk_27 (dk_at dksX4_fails_0 1 rfl rfl)
theorem dX4_fails_2 : decode cX4_fails 2 = .ok (.putfield 105, 3) := dk_181 0 105 (dk_at dksX4_fails_0 2 rfl rfl)
theorem dX4_fails_5 : decode cX4_fails 5 = .ok (.iconst 0, 1) := dk_3 (dk_at dksX4_fails_0 5 rfl rfl)
theorem dX4_fails_6 : decode cX4_fails 6 = .ok (.ireturn, 1) := dk_172 (dk_at dksX4_fails_0 6 rfl rfl)
abbrev cX4_read : ByteArray := prog_20_method_16_code
def yX4_read : MethodName := ⟨RX4, "read", "(I)I"⟩
def dkwX4_read_4 : List UInt8 := [182, 0, 157, 42, 180, 0, 47, 180, 0, 116, 172]
abbrev dktX4_read_4 : List UInt8 := dkwX4_read_4 ++ []
def dkwX4_read_3 : List UInt8 := [180, 0, 132, 181, 0, 37, 42, 5, 182, 0, 126, 172, 42, 180, 0, 27, 27, 50, 42, 180, 0, 47]
abbrev dktX4_read_3 : List UInt8 := dkwX4_read_3 ++ dktX4_read_4
def dkwX4_read_2 : List UInt8 := [180, 0, 123, 162, 0, 7, 42, 182, 0, 139, 42, 3, 181, 0, 123, 42, 180, 0, 132, 155, 0, 17, 42, 42]
abbrev dktX4_read_2 : List UInt8 := dkwX4_read_2 ++ dktX4_read_3
def dkwX4_read_1 : List UInt8 := [2, 181, 0, 132, 42, 180, 0, 47, 3, 181, 0, 116, 42, 2, 182, 0, 153, 42, 180, 0, 129, 42]
abbrev dktX4_read_1 : List UInt8 := dkwX4_read_1 ++ dktX4_read_2
def dkwX4_read_0 : List UInt8 := [42, 3, 181, 0, 105, 27, 184, 0, 112, 154, 0, 9, 42, 4, 182, 0, 126, 172, 42, 3, 181, 0, 129, 42]
abbrev dktX4_read_0 : List UInt8 := dkwX4_read_0 ++ dktX4_read_1
theorem dksX4_read_0 : cX4_read.data.toList.drop 0 = dktX4_read_0 := by decide +kernel
theorem dksX4_read_1 : cX4_read.data.toList.drop 24 = dktX4_read_1 := dk_seg dksX4_read_0 24 rfl rfl
theorem dksX4_read_2 : cX4_read.data.toList.drop 46 = dktX4_read_2 := dk_seg dksX4_read_1 22 rfl rfl
theorem dksX4_read_3 : cX4_read.data.toList.drop 70 = dktX4_read_3 := dk_seg dksX4_read_2 24 rfl rfl
theorem dksX4_read_4 : cX4_read.data.toList.drop 92 = dktX4_read_4 := dk_seg dksX4_read_3 22 rfl rfl
theorem dX4_read_0 : decode cX4_read 0 = .ok (.aload_n 0, 1) := dk_42 (dk_at dksX4_read_0 0 rfl rfl)
theorem dX4_read_1 : decode cX4_read 1 = .ok (.iconst 0, 1) := dk_3 (dk_at dksX4_read_0 1 rfl rfl)
theorem dX4_read_2 : decode cX4_read 2 = .ok (.putfield 105, 3) := dk_181 0 105 (dk_at dksX4_read_0 2 rfl rfl)
theorem dX4_read_5 : decode cX4_read 5 = .ok (.iload_n 1, 1) := dk_27 (dk_at dksX4_read_0 5 rfl rfl)
theorem dX4_read_6 : decode cX4_read 6 = .ok (.invokestatic 112, 3) := dk_184 0 112 (dk_at dksX4_read_0 6 rfl rfl)
theorem dX4_read_9 : decode cX4_read 9 = .ok (.ifCond .ne 9, 3) := dk_154 0 9 (dk_at dksX4_read_0 9 rfl rfl)
theorem dX4_read_12 : decode cX4_read 12 = .ok (.aload_n 0, 1) := dk_42 (dk_at dksX4_read_0 12 rfl rfl)
theorem dX4_read_13 : decode cX4_read 13 = .ok (.iconst 1, 1) := dk_4 (dk_at dksX4_read_0 13 rfl rfl)
theorem dX4_read_14 : decode cX4_read 14 = .ok (.invokevirtual 126, 3) := dk_182 0 126 (dk_at dksX4_read_0 14 rfl rfl)
theorem dX4_read_17 : decode cX4_read 17 = .ok (.ireturn, 1) := dk_172 (dk_at dksX4_read_0 17 rfl rfl)
theorem dX4_read_18 : decode cX4_read 18 = .ok (.aload_n 0, 1) := dk_42 (dk_at dksX4_read_0 18 rfl rfl)
theorem dX4_read_19 : decode cX4_read 19 = .ok (.iconst 0, 1) := dk_3 (dk_at dksX4_read_0 19 rfl rfl)
theorem dX4_read_20 : decode cX4_read 20 = .ok (.putfield 129, 3) := dk_181 0 129 (dk_at dksX4_read_0 20 rfl rfl)
theorem dX4_read_23 : decode cX4_read 23 = .ok (.aload_n 0, 1) := dk_42 (dk_at dksX4_read_0 23 rfl rfl)
theorem dX4_read_24 : decode cX4_read 24 = .ok (.iconst (-1), 1) := dk_2 (dk_at dksX4_read_1 0 rfl rfl)
theorem dX4_read_25 : decode cX4_read 25 = .ok (.putfield 132, 3) := dk_181 0 132 (dk_at dksX4_read_1 1 rfl rfl)
theorem dX4_read_28 : decode cX4_read 28 = .ok (.aload_n 0, 1) := dk_42 (dk_at dksX4_read_1 4 rfl rfl)
theorem dX4_read_29 : decode cX4_read 29 = .ok (.getfield 47, 3) := dk_180 0 47 (dk_at dksX4_read_1 5 rfl rfl)
theorem dX4_read_32 : decode cX4_read 32 = .ok (.iconst 0, 1) := dk_3 (dk_at dksX4_read_1 8 rfl rfl)
theorem dX4_read_33 : decode cX4_read 33 = .ok (.putfield 116, 3) := dk_181 0 116 (dk_at dksX4_read_1 9 rfl rfl)
theorem dX4_read_36 : decode cX4_read 36 = .ok (.aload_n 0, 1) := dk_42 (dk_at dksX4_read_1 12 rfl rfl)
theorem dX4_read_37 : decode cX4_read 37 = .ok (.iconst (-1), 1) := dk_2 (dk_at dksX4_read_1 13 rfl rfl)
theorem dX4_read_38 : decode cX4_read 38 = .ok (.invokevirtual 153, 3) := dk_182 0 153 (dk_at dksX4_read_1 14 rfl rfl)
theorem dX4_read_41 : decode cX4_read 41 = .ok (.aload_n 0, 1) := dk_42 (dk_at dksX4_read_1 17 rfl rfl)
theorem dX4_read_42 : decode cX4_read 42 = .ok (.getfield 129, 3) := dk_180 0 129 (dk_at dksX4_read_1 18 rfl rfl)
theorem dX4_read_45 : decode cX4_read 45 = .ok (.aload_n 0, 1) := dk_42 (dk_at dksX4_read_1 21 rfl rfl)
theorem dX4_read_46 : decode cX4_read 46 = .ok (.getfield 123, 3) := dk_180 0 123 (dk_at dksX4_read_2 0 rfl rfl)
theorem dX4_read_49 : decode cX4_read 49 = .ok (.if_icmp .ge 7, 3) := dk_162 0 7 (dk_at dksX4_read_2 3 rfl rfl)
theorem dX4_read_52 : decode cX4_read 52 = .ok (.aload_n 0, 1) := dk_42 (dk_at dksX4_read_2 6 rfl rfl)
theorem dX4_read_53 : decode cX4_read 53 = .ok (.invokevirtual 139, 3) := dk_182 0 139 (dk_at dksX4_read_2 7 rfl rfl)
theorem dX4_read_56 : decode cX4_read 56 = .ok (.aload_n 0, 1) := dk_42 (dk_at dksX4_read_2 10 rfl rfl)
theorem dX4_read_57 : decode cX4_read 57 = .ok (.iconst 0, 1) := dk_3 (dk_at dksX4_read_2 11 rfl rfl)
theorem dX4_read_58 : decode cX4_read 58 = .ok (.putfield 123, 3) := dk_181 0 123 (dk_at dksX4_read_2 12 rfl rfl)
theorem dX4_read_61 : decode cX4_read 61 = .ok (.aload_n 0, 1) := dk_42 (dk_at dksX4_read_2 15 rfl rfl)
theorem dX4_read_62 : decode cX4_read 62 = .ok (.getfield 132, 3) := dk_180 0 132 (dk_at dksX4_read_2 16 rfl rfl)
theorem dX4_read_65 : decode cX4_read 65 = .ok (.ifCond .lt 17, 3) := dk_155 0 17 (dk_at dksX4_read_2 19 rfl rfl)
theorem dX4_read_68 : decode cX4_read 68 = .ok (.aload_n 0, 1) := dk_42 (dk_at dksX4_read_2 22 rfl rfl)
theorem dX4_read_69 : decode cX4_read 69 = .ok (.aload_n 0, 1) := dk_42 (dk_at dksX4_read_2 23 rfl rfl)
theorem dX4_read_70 : decode cX4_read 70 = .ok (.getfield 132, 3) := dk_180 0 132 (dk_at dksX4_read_3 0 rfl rfl)
theorem dX4_read_73 : decode cX4_read 73 = .ok (.putfield 37, 3) := dk_181 0 37 (dk_at dksX4_read_3 3 rfl rfl)
theorem dX4_read_76 : decode cX4_read 76 = .ok (.aload_n 0, 1) := dk_42 (dk_at dksX4_read_3 6 rfl rfl)
theorem dX4_read_77 : decode cX4_read 77 = .ok (.iconst 2, 1) := dk_5 (dk_at dksX4_read_3 7 rfl rfl)
theorem dX4_read_78 : decode cX4_read 78 = .ok (.invokevirtual 126, 3) := dk_182 0 126 (dk_at dksX4_read_3 8 rfl rfl)
theorem dX4_read_81 : decode cX4_read 81 = .ok (.ireturn, 1) := dk_172 (dk_at dksX4_read_3 11 rfl rfl)
theorem dX4_read_82 : decode cX4_read 82 = .ok (.aload_n 0, 1) := dk_42 (dk_at dksX4_read_3 12 rfl rfl)
theorem dX4_read_83 : decode cX4_read 83 = .ok (.getfield 27, 3) := dk_180 0 27 (dk_at dksX4_read_3 13 rfl rfl)
theorem dX4_read_86 : decode cX4_read 86 = .ok (.iload_n 1, 1) := dk_27 (dk_at dksX4_read_3 16 rfl rfl)
theorem dX4_read_87 : decode cX4_read 87 = .ok (.aaload, 1) := dk_50 (dk_at dksX4_read_3 17 rfl rfl)
theorem dX4_read_88 : decode cX4_read 88 = .ok (.aload_n 0, 1) := dk_42 (dk_at dksX4_read_3 18 rfl rfl)
theorem dX4_read_89 : decode cX4_read 89 = .ok (.getfield 47, 3) := dk_180 0 47 (dk_at dksX4_read_3 19 rfl rfl)
theorem dX4_read_92 : decode cX4_read 92 = .ok (.invokevirtual 157, 3) := dk_182 0 157 (dk_at dksX4_read_4 0 rfl rfl)
theorem dX4_read_95 : decode cX4_read 95 = .ok (.aload_n 0, 1) := dk_42 (dk_at dksX4_read_4 3 rfl rfl)
theorem dX4_read_96 : decode cX4_read 96 = .ok (.getfield 47, 3) := dk_180 0 47 (dk_at dksX4_read_4 4 rfl rfl)
theorem dX4_read_99 : decode cX4_read 99 = .ok (.getfield 116, 3) := dk_180 0 116 (dk_at dksX4_read_4 7 rfl rfl)
theorem dX4_read_102 : decode cX4_read 102 = .ok (.ireturn, 1) := dk_172 (dk_at dksX4_read_4 10 rfl rfl)
abbrev cX4_isTree : ByteArray := prog_20_method_7_code
def yX4_isTree : MethodName := ⟨RX4, "isTree", "(I)Z"⟩
def dkwX4_isTree_0 : List UInt8 := [26, 3, 5, 184, 0, 108, 172]
abbrev dktX4_isTree_0 : List UInt8 := dkwX4_isTree_0 ++ []
theorem dksX4_isTree_0 : cX4_isTree.data.toList.drop 0 = dktX4_isTree_0 := by decide +kernel
theorem dX4_isTree_0 : decode cX4_isTree 0 = .ok (.iload_n 0, 1) := dk_26 (dk_at dksX4_isTree_0 0 rfl rfl)
theorem dX4_isTree_1 : decode cX4_isTree 1 = .ok (.iconst 0, 1) := dk_3 (dk_at dksX4_isTree_0 1 rfl rfl)
theorem dX4_isTree_2 : decode cX4_isTree 2 = .ok (.iconst 2, 1) := dk_5 (dk_at dksX4_isTree_0 2 rfl rfl)
theorem dX4_isTree_3 : decode cX4_isTree 3 = .ok (.invokestatic 108, 3) := dk_184 0 108 (dk_at dksX4_isTree_0 3 rfl rfl)
theorem dX4_isTree_6 : decode cX4_isTree 6 = .ok (.ireturn, 1) := dk_172 (dk_at dksX4_isTree_0 6 rfl rfl)
abbrev cX4_isBetween : ByteArray := prog_20_method_6_code
def yX4_isBetween : MethodName := ⟨RX4, "isBetween", "(III)Z"⟩
def dkwX4_isBetween_0 : List UInt8 := [27, 26, 163, 0, 12, 26, 28, 163, 0, 7, 4, 167, 0, 4, 3, 172]
abbrev dktX4_isBetween_0 : List UInt8 := dkwX4_isBetween_0 ++ []
theorem dksX4_isBetween_0 : cX4_isBetween.data.toList.drop 0 = dktX4_isBetween_0 := by decide +kernel
theorem dX4_isBetween_0 : decode cX4_isBetween 0 = .ok (.iload_n 1, 1) := dk_27 (dk_at dksX4_isBetween_0 0 rfl rfl)
theorem dX4_isBetween_1 : decode cX4_isBetween 1 = .ok (.iload_n 0, 1) := dk_26 (dk_at dksX4_isBetween_0 1 rfl rfl)
theorem dX4_isBetween_2 : decode cX4_isBetween 2 = .ok (.if_icmp .gt 12, 3) := dk_163 0 12 (dk_at dksX4_isBetween_0 2 rfl rfl)
theorem dX4_isBetween_5 : decode cX4_isBetween 5 = .ok (.iload_n 0, 1) := dk_26 (dk_at dksX4_isBetween_0 5 rfl rfl)
theorem dX4_isBetween_6 : decode cX4_isBetween 6 = .ok (.iload_n 2, 1) := dk_28 (dk_at dksX4_isBetween_0 6 rfl rfl)
theorem dX4_isBetween_7 : decode cX4_isBetween 7 = .ok (.if_icmp .gt 7, 3) := dk_163 0 7 (dk_at dksX4_isBetween_0 7 rfl rfl)
theorem dX4_isBetween_10 : decode cX4_isBetween 10 = .ok (.iconst 1, 1) := dk_4 (dk_at dksX4_isBetween_0 10 rfl rfl)
theorem dX4_isBetween_11 : decode cX4_isBetween 11 = .ok (.goto 4, 3) := dk_167 0 4 (dk_at dksX4_isBetween_0 11 rfl rfl)
theorem dX4_isBetween_14 : decode cX4_isBetween 14 = .ok (.iconst 0, 1) := dk_3 (dk_at dksX4_isBetween_0 14 rfl rfl)
theorem dX4_isBetween_15 : decode cX4_isBetween 15 = .ok (.ireturn, 1) := dk_172 (dk_at dksX4_isBetween_0 15 rfl rfl)
abbrev cX4_readsNode : ByteArray := prog_20_method_15_code
def yX4_readsNode : MethodName := ⟨RX4, "readsNode", "(I)V"⟩
def dkwX4_readsNode_11 : List UInt8 := [16, 122, 184, 0, 108, 153, 0, 11, 42, 29, 182, 0, 153, 167, 255, 219, 42, 182, 0, 139, 167, 255, 212, 177]
abbrev dktX4_readsNode_11 : List UInt8 := dkwX4_readsNode_11 ++ []
def dkwX4_readsNode_10 : List UInt8 := [180, 0, 132, 156, 0, 43, 42, 16, 41, 16, 41, 182, 0, 142, 154, 0, 32, 42, 182, 0, 135, 16, 97]
abbrev dktX4_readsNode_10 : List UInt8 := dkwX4_readsNode_10 ++ dktX4_readsNode_11
def dkwX4_readsNode_9 : List UInt8 := [167, 0, 5, 21, 4, 79, 42, 16, 40, 16, 40, 182, 0, 142, 154, 0, 4, 177, 42, 29, 182, 0, 153, 42]
abbrev dktX4_readsNode_9 : List UInt8 := dkwX4_readsNode_9 ++ dktX4_readsNode_10
def dkwX4_readsNode_8 : List UInt8 := [180, 0, 17, 29, 42, 16, 48, 16, 57, 182, 0, 142, 153, 0, 14, 16, 10, 21, 4, 104, 21, 5, 96]
abbrev dktX4_readsNode_8 : List UInt8 := dkwX4_readsNode_8 ++ dktX4_readsNode_9
def dkwX4_readsNode_7 : List UInt8 := [42, 16, 48, 16, 57, 182, 0, 142, 182, 0, 149, 42, 182, 0, 135, 16, 48, 100, 54, 5, 42, 180, 0, 47]
abbrev dktX4_readsNode_7 : List UInt8 := dkwX4_readsNode_7 ++ dktX4_readsNode_8
def dkwX4_readsNode_6 : List UInt8 := [21, 4, 79, 42, 16, 61, 16, 61, 182, 0, 142, 153, 0, 66, 42, 182, 0, 135, 16, 48, 100, 54, 4, 42]
abbrev dktX4_readsNode_6 : List UInt8 := dkwX4_readsNode_6 ++ dktX4_readsNode_7
def dkwX4_readsNode_5 : List UInt8 := [16, 57, 182, 0, 142, 153, 0, 7, 4, 167, 0, 4, 3, 182, 0, 149, 42, 180, 0, 47, 180, 0, 14, 29]
abbrev dktX4_readsNode_5 : List UInt8 := dkwX4_readsNode_5 ++ dktX4_readsNode_6
def dkwX4_readsNode_4 : List UInt8 := [29, 182, 0, 146, 154, 0, 7, 4, 167, 0, 4, 3, 54, 5, 42, 21, 5, 153, 0, 18, 42, 16, 49]
abbrev dktX4_readsNode_4 : List UInt8 := dkwX4_readsNode_4 ++ dktX4_readsNode_5
def dkwX4_readsNode_3 : List UInt8 := [16, 35, 182, 0, 142, 153, 0, 69, 42, 182, 0, 135, 16, 48, 100, 54, 4, 42, 180, 0, 47, 27, 21, 4]
abbrev dktX4_readsNode_3 : List UInt8 := dkwX4_readsNode_3 ++ dktX4_readsNode_4
def dkwX4_readsNode_2 : List UInt8 := [180, 0, 116, 62, 42, 180, 0, 47, 28, 3, 3, 27, 182, 0, 101, 27, 2, 159, 0, 80, 42, 16, 35]
abbrev dktX4_readsNode_2 : List UInt8 := dkwX4_readsNode_2 ++ dktX4_readsNode_3
def dkwX4_readsNode_1 : List UInt8 := [159, 0, 14, 42, 16, 97, 16, 122, 182, 0, 142, 154, 0, 8, 42, 182, 0, 139, 177, 42, 180, 0, 47]
abbrev dktX4_readsNode_1 : List UInt8 := dkwX4_readsNode_1 ++ dktX4_readsNode_2
def dkwX4_readsNode_0 : List UInt8 := [42, 180, 0, 132, 155, 0, 4, 177, 42, 182, 0, 135, 61, 42, 180, 0, 47, 180, 0, 116, 16, 20]
abbrev dktX4_readsNode_0 : List UInt8 := dkwX4_readsNode_0 ++ dktX4_readsNode_1
theorem dksX4_readsNode_0 : cX4_readsNode.data.toList.drop 0 = dktX4_readsNode_0 := by decide +kernel
theorem dksX4_readsNode_1 : cX4_readsNode.data.toList.drop 22 = dktX4_readsNode_1 := dk_seg dksX4_readsNode_0 22 rfl rfl
theorem dksX4_readsNode_2 : cX4_readsNode.data.toList.drop 45 = dktX4_readsNode_2 := dk_seg dksX4_readsNode_1 23 rfl rfl
theorem dksX4_readsNode_3 : cX4_readsNode.data.toList.drop 68 = dktX4_readsNode_3 := dk_seg dksX4_readsNode_2 23 rfl rfl
theorem dksX4_readsNode_4 : cX4_readsNode.data.toList.drop 92 = dktX4_readsNode_4 := dk_seg dksX4_readsNode_3 24 rfl rfl
theorem dksX4_readsNode_5 : cX4_readsNode.data.toList.drop 115 = dktX4_readsNode_5 := dk_seg dksX4_readsNode_4 23 rfl rfl
theorem dksX4_readsNode_6 : cX4_readsNode.data.toList.drop 139 = dktX4_readsNode_6 := dk_seg dksX4_readsNode_5 24 rfl rfl
theorem dksX4_readsNode_7 : cX4_readsNode.data.toList.drop 163 = dktX4_readsNode_7 := dk_seg dksX4_readsNode_6 24 rfl rfl
theorem dksX4_readsNode_8 : cX4_readsNode.data.toList.drop 187 = dktX4_readsNode_8 := dk_seg dksX4_readsNode_7 24 rfl rfl
theorem dksX4_readsNode_9 : cX4_readsNode.data.toList.drop 210 = dktX4_readsNode_9 := dk_seg dksX4_readsNode_8 23 rfl rfl
theorem dksX4_readsNode_10 : cX4_readsNode.data.toList.drop 234 = dktX4_readsNode_10 := dk_seg dksX4_readsNode_9 24 rfl rfl
theorem dksX4_readsNode_11 : cX4_readsNode.data.toList.drop 257 = dktX4_readsNode_11 := dk_seg dksX4_readsNode_10 23 rfl rfl
theorem dX4_readsNode_0 : decode cX4_readsNode 0 = .ok (.aload_n 0, 1) := dk_42 (dk_at dksX4_readsNode_0 0 rfl rfl)
theorem dX4_readsNode_1 : decode cX4_readsNode 1 = .ok (.getfield 132, 3) := dk_180 0 132 (dk_at dksX4_readsNode_0 1 rfl rfl)
theorem dX4_readsNode_4 : decode cX4_readsNode 4 = .ok (.ifCond .lt 4, 3) := dk_155 0 4 (dk_at dksX4_readsNode_0 4 rfl rfl)
theorem dX4_readsNode_7 : decode cX4_readsNode 7 = .ok (.return_, 1) := dk_177 (dk_at dksX4_readsNode_0 7 rfl rfl)
theorem dX4_readsNode_8 : decode cX4_readsNode 8 = .ok (.aload_n 0, 1) := dk_42 (dk_at dksX4_readsNode_0 8 rfl rfl)
theorem dX4_readsNode_9 : decode cX4_readsNode 9 = .ok (.invokevirtual 135, 3) := dk_182 0 135 (dk_at dksX4_readsNode_0 9 rfl rfl)
theorem dX4_readsNode_12 : decode cX4_readsNode 12 = .ok (.istore_n 2, 1) := dk_61 (dk_at dksX4_readsNode_0 12 rfl rfl)
theorem dX4_readsNode_13 : decode cX4_readsNode 13 = .ok (.aload_n 0, 1) := dk_42 (dk_at dksX4_readsNode_0 13 rfl rfl)
theorem dX4_readsNode_14 : decode cX4_readsNode 14 = .ok (.getfield 47, 3) := dk_180 0 47 (dk_at dksX4_readsNode_0 14 rfl rfl)
theorem dX4_readsNode_17 : decode cX4_readsNode 17 = .ok (.getfield 116, 3) := dk_180 0 116 (dk_at dksX4_readsNode_0 17 rfl rfl)
theorem dX4_readsNode_20 : decode cX4_readsNode 20 = .ok (.bipush 20, 2) := dk_16 20 (dk_at dksX4_readsNode_0 20 rfl rfl)
theorem dX4_readsNode_22 : decode cX4_readsNode 22 = .ok (.if_icmp .eq 14, 3) := dk_159 0 14 (dk_at dksX4_readsNode_1 0 rfl rfl)
theorem dX4_readsNode_25 : decode cX4_readsNode 25 = .ok (.aload_n 0, 1) := dk_42 (dk_at dksX4_readsNode_1 3 rfl rfl)
theorem dX4_readsNode_26 : decode cX4_readsNode 26 = .ok (.bipush 97, 2) := dk_16 97 (dk_at dksX4_readsNode_1 4 rfl rfl)
theorem dX4_readsNode_28 : decode cX4_readsNode 28 = .ok (.bipush 122, 2) := dk_16 122 (dk_at dksX4_readsNode_1 6 rfl rfl)
theorem dX4_readsNode_30 : decode cX4_readsNode 30 = .ok (.invokevirtual 142, 3) := dk_182 0 142 (dk_at dksX4_readsNode_1 8 rfl rfl)
theorem dX4_readsNode_33 : decode cX4_readsNode 33 = .ok (.ifCond .ne 8, 3) := dk_154 0 8 (dk_at dksX4_readsNode_1 11 rfl rfl)
theorem dX4_readsNode_36 : decode cX4_readsNode 36 = .ok (.aload_n 0, 1) := dk_42 (dk_at dksX4_readsNode_1 14 rfl rfl)
theorem dX4_readsNode_37 : decode cX4_readsNode 37 = .ok (.invokevirtual 139, 3) := dk_182 0 139 (dk_at dksX4_readsNode_1 15 rfl rfl)
theorem dX4_readsNode_40 : decode cX4_readsNode 40 = .ok (.return_, 1) := dk_177 (dk_at dksX4_readsNode_1 18 rfl rfl)
theorem dX4_readsNode_41 : decode cX4_readsNode 41 = .ok (.aload_n 0, 1) := dk_42 (dk_at dksX4_readsNode_1 19 rfl rfl)
theorem dX4_readsNode_42 : decode cX4_readsNode 42 = .ok (.getfield 47, 3) := dk_180 0 47 (dk_at dksX4_readsNode_1 20 rfl rfl)
theorem dX4_readsNode_45 : decode cX4_readsNode 45 = .ok (.getfield 116, 3) := dk_180 0 116 (dk_at dksX4_readsNode_2 0 rfl rfl)
theorem dX4_readsNode_48 : decode cX4_readsNode 48 = .ok (.istore_n 3, 1) := dk_62 (dk_at dksX4_readsNode_2 3 rfl rfl)
theorem dX4_readsNode_49 : decode cX4_readsNode 49 = .ok (.aload_n 0, 1) := dk_42 (dk_at dksX4_readsNode_2 4 rfl rfl)
theorem dX4_readsNode_50 : decode cX4_readsNode 50 = .ok (.getfield 47, 3) := dk_180 0 47 (dk_at dksX4_readsNode_2 5 rfl rfl)
theorem dX4_readsNode_53 : decode cX4_readsNode 53 = .ok (.iload_n 2, 1) := dk_28 (dk_at dksX4_readsNode_2 8 rfl rfl)
theorem dX4_readsNode_54 : decode cX4_readsNode 54 = .ok (.iconst 0, 1) := dk_3 (dk_at dksX4_readsNode_2 9 rfl rfl)
theorem dX4_readsNode_55 : decode cX4_readsNode 55 = .ok (.iconst 0, 1) := dk_3 (dk_at dksX4_readsNode_2 10 rfl rfl)
theorem dX4_readsNode_56 : decode cX4_readsNode 56 = .ok (.iload_n 1, 1) := dk_27 (dk_at dksX4_readsNode_2 11 rfl rfl)
theorem dX4_readsNode_57 : decode cX4_readsNode 57 = .ok (.invokevirtual 101, 3) := dk_182 0 101 (dk_at dksX4_readsNode_2 12 rfl rfl)
theorem dX4_readsNode_60 : decode cX4_readsNode 60 = .ok (.iload_n 1, 1) := dk_27 (dk_at dksX4_readsNode_2 15 rfl rfl)
theorem dX4_readsNode_61 : decode cX4_readsNode 61 = .ok (.iconst (-1), 1) := dk_2 (dk_at dksX4_readsNode_2 16 rfl rfl)
theorem dX4_readsNode_62 : decode cX4_readsNode 62 = .ok (.if_icmp .eq 80, 3) := dk_159 0 80 (dk_at dksX4_readsNode_2 17 rfl rfl)
theorem dX4_readsNode_65 : decode cX4_readsNode 65 = .ok (.aload_n 0, 1) := dk_42 (dk_at dksX4_readsNode_2 20 rfl rfl)
theorem dX4_readsNode_66 : decode cX4_readsNode 66 = .ok (.bipush 35, 2) := dk_16 35 (dk_at dksX4_readsNode_2 21 rfl rfl)
theorem dX4_readsNode_68 : decode cX4_readsNode 68 = .ok (.bipush 35, 2) := dk_16 35 (dk_at dksX4_readsNode_3 0 rfl rfl)
theorem dX4_readsNode_70 : decode cX4_readsNode 70 = .ok (.invokevirtual 142, 3) := dk_182 0 142 (dk_at dksX4_readsNode_3 2 rfl rfl)
theorem dX4_readsNode_73 : decode cX4_readsNode 73 = .ok (.ifCond .eq 69, 3) := dk_153 0 69 (dk_at dksX4_readsNode_3 5 rfl rfl)
theorem dX4_readsNode_76 : decode cX4_readsNode 76 = .ok (.aload_n 0, 1) := dk_42 (dk_at dksX4_readsNode_3 8 rfl rfl)
theorem dX4_readsNode_77 : decode cX4_readsNode 77 = .ok (.invokevirtual 135, 3) := dk_182 0 135 (dk_at dksX4_readsNode_3 9 rfl rfl)
theorem dX4_readsNode_80 : decode cX4_readsNode 80 = .ok (.bipush 48, 2) := dk_16 48 (dk_at dksX4_readsNode_3 12 rfl rfl)
theorem dX4_readsNode_82 : decode cX4_readsNode 82 = .ok (.isub, 1) := dk_100 (dk_at dksX4_readsNode_3 14 rfl rfl)
theorem dX4_readsNode_83 : decode cX4_readsNode 83 = .ok (.istore 4, 2) := dk_54 4 (dk_at dksX4_readsNode_3 15 rfl rfl)
theorem dX4_readsNode_85 : decode cX4_readsNode 85 = .ok (.aload_n 0, 1) := dk_42 (dk_at dksX4_readsNode_3 17 rfl rfl)
theorem dX4_readsNode_86 : decode cX4_readsNode 86 = .ok (.getfield 47, 3) := dk_180 0 47 (dk_at dksX4_readsNode_3 18 rfl rfl)
theorem dX4_readsNode_89 : decode cX4_readsNode 89 = .ok (.iload_n 1, 1) := dk_27 (dk_at dksX4_readsNode_3 21 rfl rfl)
theorem dX4_readsNode_90 : decode cX4_readsNode 90 = .ok (.iload 4, 2) := dk_21 4 (dk_at dksX4_readsNode_3 22 rfl rfl)
theorem dX4_readsNode_92 : decode cX4_readsNode 92 = .ok (.iload_n 3, 1) := dk_29 (dk_at dksX4_readsNode_4 0 rfl rfl)
theorem dX4_readsNode_93 : decode cX4_readsNode 93 = .ok (.invokevirtual 146, 3) := dk_182 0 146 (dk_at dksX4_readsNode_4 1 rfl rfl)
theorem dX4_readsNode_96 : decode cX4_readsNode 96 = .ok (.ifCond .ne 7, 3) := dk_154 0 7 (dk_at dksX4_readsNode_4 4 rfl rfl)
theorem dX4_readsNode_99 : decode cX4_readsNode 99 = .ok (.iconst 1, 1) := dk_4 (dk_at dksX4_readsNode_4 7 rfl rfl)
theorem dX4_readsNode_100 : decode cX4_readsNode 100 = .ok (.goto 4, 3) := dk_167 0 4 (dk_at dksX4_readsNode_4 8 rfl rfl)
theorem dX4_readsNode_103 : decode cX4_readsNode 103 = .ok (.iconst 0, 1) := dk_3 (dk_at dksX4_readsNode_4 11 rfl rfl)
theorem dX4_readsNode_104 : decode cX4_readsNode 104 = .ok (.istore 5, 2) := dk_54 5 (dk_at dksX4_readsNode_4 12 rfl rfl)
theorem dX4_readsNode_106 : decode cX4_readsNode 106 = .ok (.aload_n 0, 1) := dk_42 (dk_at dksX4_readsNode_4 14 rfl rfl)
theorem dX4_readsNode_107 : decode cX4_readsNode 107 = .ok (.iload 5, 2) := dk_21 5 (dk_at dksX4_readsNode_4 15 rfl rfl)
theorem dX4_readsNode_109 : decode cX4_readsNode 109 = .ok (.ifCond .eq 18, 3) := dk_153 0 18 (dk_at dksX4_readsNode_4 17 rfl rfl)
theorem dX4_readsNode_112 : decode cX4_readsNode 112 = .ok (.aload_n 0, 1) := dk_42 (dk_at dksX4_readsNode_4 20 rfl rfl)
theorem dX4_readsNode_113 : decode cX4_readsNode 113 = .ok (.bipush 49, 2) := dk_16 49 (dk_at dksX4_readsNode_4 21 rfl rfl)
theorem dX4_readsNode_115 : decode cX4_readsNode 115 = .ok (.bipush 57, 2) := dk_16 57 (dk_at dksX4_readsNode_5 0 rfl rfl)
theorem dX4_readsNode_117 : decode cX4_readsNode 117 = .ok (.invokevirtual 142, 3) := dk_182 0 142 (dk_at dksX4_readsNode_5 2 rfl rfl)
theorem dX4_readsNode_120 : decode cX4_readsNode 120 = .ok (.ifCond .eq 7, 3) := dk_153 0 7 (dk_at dksX4_readsNode_5 5 rfl rfl)
theorem dX4_readsNode_123 : decode cX4_readsNode 123 = .ok (.iconst 1, 1) := dk_4 (dk_at dksX4_readsNode_5 8 rfl rfl)
theorem dX4_readsNode_124 : decode cX4_readsNode 124 = .ok (.goto 4, 3) := dk_167 0 4 (dk_at dksX4_readsNode_5 9 rfl rfl)
theorem dX4_readsNode_127 : decode cX4_readsNode 127 = .ok (.iconst 0, 1) := dk_3 (dk_at dksX4_readsNode_5 12 rfl rfl)
theorem dX4_readsNode_128 : decode cX4_readsNode 128 = .ok (.invokevirtual 149, 3) := dk_182 0 149 (dk_at dksX4_readsNode_5 13 rfl rfl)
theorem dX4_readsNode_131 : decode cX4_readsNode 131 = .ok (.aload_n 0, 1) := dk_42 (dk_at dksX4_readsNode_5 16 rfl rfl)
theorem dX4_readsNode_132 : decode cX4_readsNode 132 = .ok (.getfield 47, 3) := dk_180 0 47 (dk_at dksX4_readsNode_5 17 rfl rfl)
theorem dX4_readsNode_135 : decode cX4_readsNode 135 = .ok (.getfield 14, 3) := dk_180 0 14 (dk_at dksX4_readsNode_5 20 rfl rfl)
theorem dX4_readsNode_138 : decode cX4_readsNode 138 = .ok (.iload_n 3, 1) := dk_29 (dk_at dksX4_readsNode_5 23 rfl rfl)
theorem dX4_readsNode_139 : decode cX4_readsNode 139 = .ok (.iload 4, 2) := dk_21 4 (dk_at dksX4_readsNode_6 0 rfl rfl)
theorem dX4_readsNode_141 : decode cX4_readsNode 141 = .ok (.iastore, 1) := dk_79 (dk_at dksX4_readsNode_6 2 rfl rfl)
theorem dX4_readsNode_142 : decode cX4_readsNode 142 = .ok (.aload_n 0, 1) := dk_42 (dk_at dksX4_readsNode_6 3 rfl rfl)
theorem dX4_readsNode_143 : decode cX4_readsNode 143 = .ok (.bipush 61, 2) := dk_16 61 (dk_at dksX4_readsNode_6 4 rfl rfl)
theorem dX4_readsNode_145 : decode cX4_readsNode 145 = .ok (.bipush 61, 2) := dk_16 61 (dk_at dksX4_readsNode_6 6 rfl rfl)
theorem dX4_readsNode_147 : decode cX4_readsNode 147 = .ok (.invokevirtual 142, 3) := dk_182 0 142 (dk_at dksX4_readsNode_6 8 rfl rfl)
theorem dX4_readsNode_150 : decode cX4_readsNode 150 = .ok (.ifCond .eq 66, 3) := dk_153 0 66 (dk_at dksX4_readsNode_6 11 rfl rfl)
theorem dX4_readsNode_153 : decode cX4_readsNode 153 = .ok (.aload_n 0, 1) := dk_42 (dk_at dksX4_readsNode_6 14 rfl rfl)
theorem dX4_readsNode_154 : decode cX4_readsNode 154 = .ok (.invokevirtual 135, 3) := dk_182 0 135 (dk_at dksX4_readsNode_6 15 rfl rfl)
theorem dX4_readsNode_157 : decode cX4_readsNode 157 = .ok (.bipush 48, 2) := dk_16 48 (dk_at dksX4_readsNode_6 18 rfl rfl)
theorem dX4_readsNode_159 : decode cX4_readsNode 159 = .ok (.isub, 1) := dk_100 (dk_at dksX4_readsNode_6 20 rfl rfl)
theorem dX4_readsNode_160 : decode cX4_readsNode 160 = .ok (.istore 4, 2) := dk_54 4 (dk_at dksX4_readsNode_6 21 rfl rfl)
theorem dX4_readsNode_162 : decode cX4_readsNode 162 = .ok (.aload_n 0, 1) := dk_42 (dk_at dksX4_readsNode_6 23 rfl rfl)
theorem dX4_readsNode_163 : decode cX4_readsNode 163 = .ok (.aload_n 0, 1) := dk_42 (dk_at dksX4_readsNode_7 0 rfl rfl)
theorem dX4_readsNode_164 : decode cX4_readsNode 164 = .ok (.bipush 48, 2) := dk_16 48 (dk_at dksX4_readsNode_7 1 rfl rfl)
theorem dX4_readsNode_166 : decode cX4_readsNode 166 = .ok (.bipush 57, 2) := dk_16 57 (dk_at dksX4_readsNode_7 3 rfl rfl)
theorem dX4_readsNode_168 : decode cX4_readsNode 168 = .ok (.invokevirtual 142, 3) := dk_182 0 142 (dk_at dksX4_readsNode_7 5 rfl rfl)
theorem dX4_readsNode_171 : decode cX4_readsNode 171 = .ok (.invokevirtual 149, 3) := dk_182 0 149 (dk_at dksX4_readsNode_7 8 rfl rfl)
theorem dX4_readsNode_174 : decode cX4_readsNode 174 = .ok (.aload_n 0, 1) := dk_42 (dk_at dksX4_readsNode_7 11 rfl rfl)
theorem dX4_readsNode_175 : decode cX4_readsNode 175 = .ok (.invokevirtual 135, 3) := dk_182 0 135 (dk_at dksX4_readsNode_7 12 rfl rfl)
theorem dX4_readsNode_178 : decode cX4_readsNode 178 = .ok (.bipush 48, 2) := dk_16 48 (dk_at dksX4_readsNode_7 15 rfl rfl)
theorem dX4_readsNode_180 : decode cX4_readsNode 180 = .ok (.isub, 1) := dk_100 (dk_at dksX4_readsNode_7 17 rfl rfl)
theorem dX4_readsNode_181 : decode cX4_readsNode 181 = .ok (.istore 5, 2) := dk_54 5 (dk_at dksX4_readsNode_7 18 rfl rfl)
theorem dX4_readsNode_183 : decode cX4_readsNode 183 = .ok (.aload_n 0, 1) := dk_42 (dk_at dksX4_readsNode_7 20 rfl rfl)
theorem dX4_readsNode_184 : decode cX4_readsNode 184 = .ok (.getfield 47, 3) := dk_180 0 47 (dk_at dksX4_readsNode_7 21 rfl rfl)
theorem dX4_readsNode_187 : decode cX4_readsNode 187 = .ok (.getfield 17, 3) := dk_180 0 17 (dk_at dksX4_readsNode_8 0 rfl rfl)
theorem dX4_readsNode_190 : decode cX4_readsNode 190 = .ok (.iload_n 3, 1) := dk_29 (dk_at dksX4_readsNode_8 3 rfl rfl)
theorem dX4_readsNode_191 : decode cX4_readsNode 191 = .ok (.aload_n 0, 1) := dk_42 (dk_at dksX4_readsNode_8 4 rfl rfl)
theorem dX4_readsNode_192 : decode cX4_readsNode 192 = .ok (.bipush 48, 2) := dk_16 48 (dk_at dksX4_readsNode_8 5 rfl rfl)
theorem dX4_readsNode_194 : decode cX4_readsNode 194 = .ok (.bipush 57, 2) := dk_16 57 (dk_at dksX4_readsNode_8 7 rfl rfl)
theorem dX4_readsNode_196 : decode cX4_readsNode 196 = .ok (.invokevirtual 142, 3) := dk_182 0 142 (dk_at dksX4_readsNode_8 9 rfl rfl)
theorem dX4_readsNode_199 : decode cX4_readsNode 199 = .ok (.ifCond .eq 14, 3) := dk_153 0 14 (dk_at dksX4_readsNode_8 12 rfl rfl)
theorem dX4_readsNode_202 : decode cX4_readsNode 202 = .ok (.bipush 10, 2) := dk_16 10 (dk_at dksX4_readsNode_8 15 rfl rfl)
theorem dX4_readsNode_204 : decode cX4_readsNode 204 = .ok (.iload 4, 2) := dk_21 4 (dk_at dksX4_readsNode_8 17 rfl rfl)
theorem dX4_readsNode_206 : decode cX4_readsNode 206 = .ok (.imul, 1) := dk_104 (dk_at dksX4_readsNode_8 19 rfl rfl)
theorem dX4_readsNode_207 : decode cX4_readsNode 207 = .ok (.iload 5, 2) := dk_21 5 (dk_at dksX4_readsNode_8 20 rfl rfl)
theorem dX4_readsNode_209 : decode cX4_readsNode 209 = .ok (.iadd, 1) := dk_96 (dk_at dksX4_readsNode_8 22 rfl rfl)
theorem dX4_readsNode_210 : decode cX4_readsNode 210 = .ok (.goto 5, 3) := dk_167 0 5 (dk_at dksX4_readsNode_9 0 rfl rfl)
theorem dX4_readsNode_213 : decode cX4_readsNode 213 = .ok (.iload 4, 2) := dk_21 4 (dk_at dksX4_readsNode_9 3 rfl rfl)
theorem dX4_readsNode_215 : decode cX4_readsNode 215 = .ok (.iastore, 1) := dk_79 (dk_at dksX4_readsNode_9 5 rfl rfl)
theorem dX4_readsNode_216 : decode cX4_readsNode 216 = .ok (.aload_n 0, 1) := dk_42 (dk_at dksX4_readsNode_9 6 rfl rfl)
theorem dX4_readsNode_217 : decode cX4_readsNode 217 = .ok (.bipush 40, 2) := dk_16 40 (dk_at dksX4_readsNode_9 7 rfl rfl)
theorem dX4_readsNode_219 : decode cX4_readsNode 219 = .ok (.bipush 40, 2) := dk_16 40 (dk_at dksX4_readsNode_9 9 rfl rfl)
theorem dX4_readsNode_221 : decode cX4_readsNode 221 = .ok (.invokevirtual 142, 3) := dk_182 0 142 (dk_at dksX4_readsNode_9 11 rfl rfl)
theorem dX4_readsNode_224 : decode cX4_readsNode 224 = .ok (.ifCond .ne 4, 3) := dk_154 0 4 (dk_at dksX4_readsNode_9 14 rfl rfl)
theorem dX4_readsNode_227 : decode cX4_readsNode 227 = .ok (.return_, 1) := dk_177 (dk_at dksX4_readsNode_9 17 rfl rfl)
theorem dX4_readsNode_228 : decode cX4_readsNode 228 = .ok (.aload_n 0, 1) := dk_42 (dk_at dksX4_readsNode_9 18 rfl rfl)
theorem dX4_readsNode_229 : decode cX4_readsNode 229 = .ok (.iload_n 3, 1) := dk_29 (dk_at dksX4_readsNode_9 19 rfl rfl)
theorem dX4_readsNode_230 : decode cX4_readsNode 230 = .ok (.invokevirtual 153, 3) := dk_182 0 153 (dk_at dksX4_readsNode_9 20 rfl rfl)
theorem dX4_readsNode_233 : decode cX4_readsNode 233 = .ok (.aload_n 0, 1) := dk_42 (dk_at dksX4_readsNode_9 23 rfl rfl)
theorem dX4_readsNode_234 : decode cX4_readsNode 234 = .ok (.getfield 132, 3) := dk_180 0 132 (dk_at dksX4_readsNode_10 0 rfl rfl)
theorem dX4_readsNode_237 : decode cX4_readsNode 237 = .ok (.ifCond .ge 43, 3) := dk_156 0 43 (dk_at dksX4_readsNode_10 3 rfl rfl)
theorem dX4_readsNode_240 : decode cX4_readsNode 240 = .ok (.aload_n 0, 1) := dk_42 (dk_at dksX4_readsNode_10 6 rfl rfl)
theorem dX4_readsNode_241 : decode cX4_readsNode 241 = .ok (.bipush 41, 2) := dk_16 41 (dk_at dksX4_readsNode_10 7 rfl rfl)
theorem dX4_readsNode_243 : decode cX4_readsNode 243 = .ok (.bipush 41, 2) := dk_16 41 (dk_at dksX4_readsNode_10 9 rfl rfl)
theorem dX4_readsNode_245 : decode cX4_readsNode 245 = .ok (.invokevirtual 142, 3) := dk_182 0 142 (dk_at dksX4_readsNode_10 11 rfl rfl)
theorem dX4_readsNode_248 : decode cX4_readsNode 248 = .ok (.ifCond .ne 32, 3) := dk_154 0 32 (dk_at dksX4_readsNode_10 14 rfl rfl)
theorem dX4_readsNode_251 : decode cX4_readsNode 251 = .ok (.aload_n 0, 1) := dk_42 (dk_at dksX4_readsNode_10 17 rfl rfl)
theorem dX4_readsNode_252 : decode cX4_readsNode 252 = .ok (.invokevirtual 135, 3) := dk_182 0 135 (dk_at dksX4_readsNode_10 18 rfl rfl)
theorem dX4_readsNode_255 : decode cX4_readsNode 255 = .ok (.bipush 97, 2) := dk_16 97 (dk_at dksX4_readsNode_10 21 rfl rfl)
theorem dX4_readsNode_257 : decode cX4_readsNode 257 = .ok (.bipush 122, 2) := dk_16 122 (dk_at dksX4_readsNode_11 0 rfl rfl)
theorem dX4_readsNode_259 : decode cX4_readsNode 259 = .ok (.invokestatic 108, 3) := dk_184 0 108 (dk_at dksX4_readsNode_11 2 rfl rfl)
theorem dX4_readsNode_262 : decode cX4_readsNode 262 = .ok (.ifCond .eq 11, 3) := dk_153 0 11 (dk_at dksX4_readsNode_11 5 rfl rfl)
theorem dX4_readsNode_265 : decode cX4_readsNode 265 = .ok (.aload_n 0, 1) := dk_42 (dk_at dksX4_readsNode_11 8 rfl rfl)
theorem dX4_readsNode_266 : decode cX4_readsNode 266 = .ok (.iload_n 3, 1) := dk_29 (dk_at dksX4_readsNode_11 9 rfl rfl)
theorem dX4_readsNode_267 : decode cX4_readsNode 267 = .ok (.invokevirtual 153, 3) := dk_182 0 153 (dk_at dksX4_readsNode_11 10 rfl rfl)
theorem dX4_readsNode_270 : decode cX4_readsNode 270 = .ok (.goto (-37), 3) := dk_167 255 219 (dk_at dksX4_readsNode_11 13 rfl rfl)
theorem dX4_readsNode_273 : decode cX4_readsNode 273 = .ok (.aload_n 0, 1) := dk_42 (dk_at dksX4_readsNode_11 16 rfl rfl)
theorem dX4_readsNode_274 : decode cX4_readsNode 274 = .ok (.invokevirtual 139, 3) := dk_182 0 139 (dk_at dksX4_readsNode_11 17 rfl rfl)
theorem dX4_readsNode_277 : decode cX4_readsNode 277 = .ok (.goto (-44), 3) := dk_167 255 212 (dk_at dksX4_readsNode_11 20 rfl rfl)
theorem dX4_readsNode_280 : decode cX4_readsNode 280 = .ok (.return_, 1) := dk_177 (dk_at dksX4_readsNode_11 23 rfl rfl)
abbrev cX4_sign : ByteArray := prog_20_method_11_code
def yX4_sign : MethodName := ⟨RX4, "sign", "()C"⟩
def dkwX4_sign_1 : List UInt8 := [172]
abbrev dktX4_sign_1 : List UInt8 := dkwX4_sign_1 ++ []
def dkwX4_sign_0 : List UInt8 := [42, 180, 0, 129, 42, 180, 0, 123, 162, 0, 15, 42, 180, 0, 33, 42, 180, 0, 129, 52, 167, 0, 4, 3]
abbrev dktX4_sign_0 : List UInt8 := dkwX4_sign_0 ++ dktX4_sign_1
theorem dksX4_sign_0 : cX4_sign.data.toList.drop 0 = dktX4_sign_0 := by decide +kernel
theorem dksX4_sign_1 : cX4_sign.data.toList.drop 24 = dktX4_sign_1 := dk_seg dksX4_sign_0 24 rfl rfl
theorem dX4_sign_0 : decode cX4_sign 0 = .ok (.aload_n 0, 1) := dk_42 (dk_at dksX4_sign_0 0 rfl rfl)
theorem dX4_sign_1 : decode cX4_sign 1 = .ok (.getfield 129, 3) := dk_180 0 129 (dk_at dksX4_sign_0 1 rfl rfl)
theorem dX4_sign_4 : decode cX4_sign 4 = .ok (.aload_n 0, 1) := dk_42 (dk_at dksX4_sign_0 4 rfl rfl)
theorem dX4_sign_5 : decode cX4_sign 5 = .ok (.getfield 123, 3) := dk_180 0 123 (dk_at dksX4_sign_0 5 rfl rfl)
theorem dX4_sign_8 : decode cX4_sign 8 = .ok (.if_icmp .ge 15, 3) := dk_162 0 15 (dk_at dksX4_sign_0 8 rfl rfl)
theorem dX4_sign_11 : decode cX4_sign 11 = .ok (.aload_n 0, 1) := dk_42 (dk_at dksX4_sign_0 11 rfl rfl)
theorem dX4_sign_12 : decode cX4_sign 12 = .ok (.getfield 33, 3) := dk_180 0 33 (dk_at dksX4_sign_0 12 rfl rfl)
theorem dX4_sign_15 : decode cX4_sign 15 = .ok (.aload_n 0, 1) := dk_42 (dk_at dksX4_sign_0 15 rfl rfl)
theorem dX4_sign_16 : decode cX4_sign 16 = .ok (.getfield 129, 3) := dk_180 0 129 (dk_at dksX4_sign_0 16 rfl rfl)
theorem dX4_sign_19 : decode cX4_sign 19 = .ok (.caload, 1) := dk_52 (dk_at dksX4_sign_0 19 rfl rfl)
theorem dX4_sign_20 : decode cX4_sign 20 = .ok (.goto 4, 3) := dk_167 0 4 (dk_at dksX4_sign_0 20 rfl rfl)
theorem dX4_sign_23 : decode cX4_sign 23 = .ok (.iconst 0, 1) := dk_3 (dk_at dksX4_sign_0 23 rfl rfl)
theorem dX4_sign_24 : decode cX4_sign 24 = .ok (.ireturn, 1) := dk_172 (dk_at dksX4_sign_1 0 rfl rfl)
abbrev cX4_takes : ByteArray := prog_20_method_13_code
def yX4_takes : MethodName := ⟨RX4, "takes", "(CC)Z"⟩
def dkwX4_takes_2 : List UInt8 := [172]
abbrev dktX4_takes_2 : List UInt8 := dkwX4_takes_2 ++ []
def dkwX4_takes_1 : List UInt8 := [161, 0, 11, 42, 182, 0, 135, 28, 164, 0, 5, 3, 172, 42, 89, 180, 0, 129, 4, 96, 181, 0, 129, 4]
abbrev dktX4_takes_1 : List UInt8 := dkwX4_takes_1 ++ dktX4_takes_2
def dkwX4_takes_0 : List UInt8 := [42, 180, 0, 132, 156, 0, 30, 42, 180, 0, 129, 42, 180, 0, 123, 159, 0, 19, 42, 182, 0, 135, 27]
abbrev dktX4_takes_0 : List UInt8 := dkwX4_takes_0 ++ dktX4_takes_1
theorem dksX4_takes_0 : cX4_takes.data.toList.drop 0 = dktX4_takes_0 := by decide +kernel
theorem dksX4_takes_1 : cX4_takes.data.toList.drop 23 = dktX4_takes_1 := dk_seg dksX4_takes_0 23 rfl rfl
theorem dksX4_takes_2 : cX4_takes.data.toList.drop 47 = dktX4_takes_2 := dk_seg dksX4_takes_1 24 rfl rfl
theorem dX4_takes_0 : decode cX4_takes 0 = .ok (.aload_n 0, 1) := dk_42 (dk_at dksX4_takes_0 0 rfl rfl)
theorem dX4_takes_1 : decode cX4_takes 1 = .ok (.getfield 132, 3) := dk_180 0 132 (dk_at dksX4_takes_0 1 rfl rfl)
theorem dX4_takes_4 : decode cX4_takes 4 = .ok (.ifCond .ge 30, 3) := dk_156 0 30 (dk_at dksX4_takes_0 4 rfl rfl)
theorem dX4_takes_7 : decode cX4_takes 7 = .ok (.aload_n 0, 1) := dk_42 (dk_at dksX4_takes_0 7 rfl rfl)
theorem dX4_takes_8 : decode cX4_takes 8 = .ok (.getfield 129, 3) := dk_180 0 129 (dk_at dksX4_takes_0 8 rfl rfl)
theorem dX4_takes_11 : decode cX4_takes 11 = .ok (.aload_n 0, 1) := dk_42 (dk_at dksX4_takes_0 11 rfl rfl)
theorem dX4_takes_12 : decode cX4_takes 12 = .ok (.getfield 123, 3) := dk_180 0 123 (dk_at dksX4_takes_0 12 rfl rfl)
theorem dX4_takes_15 : decode cX4_takes 15 = .ok (.if_icmp .eq 19, 3) := dk_159 0 19 (dk_at dksX4_takes_0 15 rfl rfl)
theorem dX4_takes_18 : decode cX4_takes 18 = .ok (.aload_n 0, 1) := dk_42 (dk_at dksX4_takes_0 18 rfl rfl)
theorem dX4_takes_19 : decode cX4_takes 19 = .ok (.invokevirtual 135, 3) := dk_182 0 135 (dk_at dksX4_takes_0 19 rfl rfl)
theorem dX4_takes_22 : decode cX4_takes 22 = .ok (.iload_n 1, 1) := dk_27 (dk_at dksX4_takes_0 22 rfl rfl)
theorem dX4_takes_23 : decode cX4_takes 23 = .ok (.if_icmp .lt 11, 3) := dk_161 0 11 (dk_at dksX4_takes_1 0 rfl rfl)
theorem dX4_takes_26 : decode cX4_takes 26 = .ok (.aload_n 0, 1) := dk_42 (dk_at dksX4_takes_1 3 rfl rfl)
theorem dX4_takes_27 : decode cX4_takes 27 = .ok (.invokevirtual 135, 3) := dk_182 0 135 (dk_at dksX4_takes_1 4 rfl rfl)
theorem dX4_takes_30 : decode cX4_takes 30 = .ok (.iload_n 2, 1) := dk_28 (dk_at dksX4_takes_1 7 rfl rfl)
theorem dX4_takes_31 : decode cX4_takes 31 = .ok (.if_icmp .le 5, 3) := dk_164 0 5 (dk_at dksX4_takes_1 8 rfl rfl)
theorem dX4_takes_34 : decode cX4_takes 34 = .ok (.iconst 0, 1) := dk_3 (dk_at dksX4_takes_1 11 rfl rfl)
theorem dX4_takes_35 : decode cX4_takes 35 = .ok (.ireturn, 1) := dk_172 (dk_at dksX4_takes_1 12 rfl rfl)
theorem dX4_takes_36 : decode cX4_takes 36 = .ok (.aload_n 0, 1) := dk_42 (dk_at dksX4_takes_1 13 rfl rfl)
theorem dX4_takes_37 : decode cX4_takes 37 = .ok (.dup, 1) := dk_89 (dk_at dksX4_takes_1 14 rfl rfl)
theorem dX4_takes_38 : decode cX4_takes 38 = .ok (.getfield 129, 3) := dk_180 0 129 (dk_at dksX4_takes_1 15 rfl rfl)
theorem dX4_takes_41 : decode cX4_takes 41 = .ok (.iconst 1, 1) := dk_4 (dk_at dksX4_takes_1 18 rfl rfl)
theorem dX4_takes_42 : decode cX4_takes 42 = .ok (.iadd, 1) := dk_96 (dk_at dksX4_takes_1 19 rfl rfl)
theorem dX4_takes_43 : decode cX4_takes 43 = .ok (.putfield 129, 3) := dk_181 0 129 (dk_at dksX4_takes_1 20 rfl rfl)
theorem dX4_takes_46 : decode cX4_takes 46 = .ok (.iconst 1, 1) := dk_4 (dk_at dksX4_takes_1 23 rfl rfl)
theorem dX4_takes_47 : decode cX4_takes 47 = .ok (.ireturn, 1) := dk_172 (dk_at dksX4_takes_2 0 rfl rfl)
abbrev cX4_isFaulty : ByteArray := prog_20_method_12_code
def yX4_isFaulty : MethodName := ⟨RX4, "isFaulty", "()V"⟩
def dkwX4_isFaulty_0 : List UInt8 := [42, 42, 180, 0, 132, 156, 0, 10, 42, 180, 0, 129, 167, 0, 7, 42, 180, 0, 132, 181, 0, 132, 177]
abbrev dktX4_isFaulty_0 : List UInt8 := dkwX4_isFaulty_0 ++ []
theorem dksX4_isFaulty_0 : cX4_isFaulty.data.toList.drop 0 = dktX4_isFaulty_0 := by decide +kernel
theorem dX4_isFaulty_0 : decode cX4_isFaulty 0 = .ok (.aload_n 0, 1) := dk_42 (dk_at dksX4_isFaulty_0 0 rfl rfl)
theorem dX4_isFaulty_1 : decode cX4_isFaulty 1 = .ok (.aload_n 0, 1) := dk_42 (dk_at dksX4_isFaulty_0 1 rfl rfl)
theorem dX4_isFaulty_2 : decode cX4_isFaulty 2 = .ok (.getfield 132, 3) := dk_180 0 132 (dk_at dksX4_isFaulty_0 2 rfl rfl)
theorem dX4_isFaulty_5 : decode cX4_isFaulty 5 = .ok (.ifCond .ge 10, 3) := dk_156 0 10 (dk_at dksX4_isFaulty_0 5 rfl rfl)
theorem dX4_isFaulty_8 : decode cX4_isFaulty 8 = .ok (.aload_n 0, 1) := dk_42 (dk_at dksX4_isFaulty_0 8 rfl rfl)
theorem dX4_isFaulty_9 : decode cX4_isFaulty 9 = .ok (.getfield 129, 3) := dk_180 0 129 (dk_at dksX4_isFaulty_0 9 rfl rfl)
theorem dX4_isFaulty_12 : decode cX4_isFaulty 12 = .ok (.goto 7, 3) := dk_167 0 7 (dk_at dksX4_isFaulty_0 12 rfl rfl)
theorem dX4_isFaulty_15 : decode cX4_isFaulty 15 = .ok (.aload_n 0, 1) := dk_42 (dk_at dksX4_isFaulty_0 15 rfl rfl)
theorem dX4_isFaulty_16 : decode cX4_isFaulty 16 = .ok (.getfield 132, 3) := dk_180 0 132 (dk_at dksX4_isFaulty_0 16 rfl rfl)
theorem dX4_isFaulty_19 : decode cX4_isFaulty 19 = .ok (.putfield 132, 3) := dk_181 0 132 (dk_at dksX4_isFaulty_0 19 rfl rfl)
theorem dX4_isFaulty_22 : decode cX4_isFaulty 22 = .ok (.return_, 1) := dk_177 (dk_at dksX4_isFaulty_0 22 rfl rfl)
abbrev cX4_wants : ByteArray := prog_20_method_14_code
def yX4_wants : MethodName := ⟨RX4, "wants", "(Z)V"⟩
def dkwX4_wants_0 : List UInt8 := [27, 154, 0, 7, 42, 182, 0, 139, 177]
abbrev dktX4_wants_0 : List UInt8 := dkwX4_wants_0 ++ []
theorem dksX4_wants_0 : cX4_wants.data.toList.drop 0 = dktX4_wants_0 := by decide +kernel
theorem dX4_wants_0 : decode cX4_wants 0 = .ok (.iload_n 1, 1) := dk_27 (dk_at dksX4_wants_0 0 rfl rfl)
theorem dX4_wants_1 : decode cX4_wants 1 = .ok (.ifCond .ne 7, 3) := dk_154 0 7 (dk_at dksX4_wants_0 1 rfl rfl)
theorem dX4_wants_4 : decode cX4_wants 4 = .ok (.aload_n 0, 1) := dk_42 (dk_at dksX4_wants_0 4 rfl rfl)
theorem dX4_wants_5 : decode cX4_wants 5 = .ok (.invokevirtual 139, 3) := dk_182 0 139 (dk_at dksX4_wants_0 5 rfl rfl)
theorem dX4_wants_8 : decode cX4_wants 8 = .ok (.return_, 1) := dk_177 (dk_at dksX4_wants_0 8 rfl rfl)
abbrev cX4_errorPosition : ByteArray := prog_20_method_17_code
def yX4_errorPosition : MethodName := ⟨RX4, "errorPosition", "()I"⟩
def dkwX4_errorPosition_1 : List UInt8 := [172]
abbrev dktX4_errorPosition_1 : List UInt8 := dkwX4_errorPosition_1 ++ []
def dkwX4_errorPosition_0 : List UInt8 := [42, 3, 181, 0, 105, 42, 180, 0, 37, 156, 0, 11, 42, 4, 182, 0, 126, 167, 0, 7, 42, 180, 0, 37]
abbrev dktX4_errorPosition_0 : List UInt8 := dkwX4_errorPosition_0 ++ dktX4_errorPosition_1
theorem dksX4_errorPosition_0 : cX4_errorPosition.data.toList.drop 0 = dktX4_errorPosition_0 := by decide +kernel
theorem dksX4_errorPosition_1 : cX4_errorPosition.data.toList.drop 24 = dktX4_errorPosition_1 := dk_seg dksX4_errorPosition_0 24 rfl rfl
theorem dX4_errorPosition_0 : decode cX4_errorPosition 0 = .ok (.aload_n 0, 1) := dk_42 (dk_at dksX4_errorPosition_0 0 rfl rfl)
theorem dX4_errorPosition_1 : decode cX4_errorPosition 1 = .ok (.iconst 0, 1) := dk_3 (dk_at dksX4_errorPosition_0 1 rfl rfl)
theorem dX4_errorPosition_2 : decode cX4_errorPosition 2 = .ok (.putfield 105, 3) := dk_181 0 105 (dk_at dksX4_errorPosition_0 2 rfl rfl)
theorem dX4_errorPosition_5 : decode cX4_errorPosition 5 = .ok (.aload_n 0, 1) := dk_42 (dk_at dksX4_errorPosition_0 5 rfl rfl)
theorem dX4_errorPosition_6 : decode cX4_errorPosition 6 = .ok (.getfield 37, 3) := dk_180 0 37 (dk_at dksX4_errorPosition_0 6 rfl rfl)
theorem dX4_errorPosition_9 : decode cX4_errorPosition 9 = .ok (.ifCond .ge 11, 3) := dk_156 0 11 (dk_at dksX4_errorPosition_0 9 rfl rfl)
theorem dX4_errorPosition_12 : decode cX4_errorPosition 12 = .ok (.aload_n 0, 1) := dk_42 (dk_at dksX4_errorPosition_0 12 rfl rfl)
theorem dX4_errorPosition_13 : decode cX4_errorPosition 13 = .ok (.iconst 1, 1) := dk_4 (dk_at dksX4_errorPosition_0 13 rfl rfl)
theorem dX4_errorPosition_14 : decode cX4_errorPosition 14 = .ok (.invokevirtual 126, 3) := dk_182 0 126 (dk_at dksX4_errorPosition_0 14 rfl rfl)
theorem dX4_errorPosition_17 : decode cX4_errorPosition 17 = .ok (.goto 7, 3) := dk_167 0 7 (dk_at dksX4_errorPosition_0 17 rfl rfl)
theorem dX4_errorPosition_20 : decode cX4_errorPosition 20 = .ok (.aload_n 0, 1) := dk_42 (dk_at dksX4_errorPosition_0 20 rfl rfl)
theorem dX4_errorPosition_21 : decode cX4_errorPosition 21 = .ok (.getfield 37, 3) := dk_180 0 37 (dk_at dksX4_errorPosition_0 21 rfl rfl)
theorem dX4_errorPosition_24 : decode cX4_errorPosition 24 = .ok (.ireturn, 1) := dk_172 (dk_at dksX4_errorPosition_1 0 rfl rfl)
abbrev cX4_writeTree : ByteArray := prog_20_method_19_code
def yX4_writeTree : MethodName := ⟨RX4, "writeTree", "(I)I"⟩
def dkwX4_writeTree_2 : List UInt8 := [42, 180, 0, 43, 182, 0, 186, 172]
abbrev dktX4_writeTree_2 : List UInt8 := dkwX4_writeTree_2 ++ []
def dkwX4_writeTree_1 : List UInt8 := [183, 0, 181, 77, 42, 42, 180, 0, 27, 27, 50, 3, 44, 182, 0, 177, 42, 44, 182, 0, 182, 181, 0, 43]
abbrev dktX4_writeTree_1 : List UInt8 := dkwX4_writeTree_1 ++ dktX4_writeTree_2
def dkwX4_writeTree_0 : List UInt8 := [42, 3, 181, 0, 105, 27, 184, 0, 112, 154, 0, 9, 42, 4, 182, 0, 126, 172, 187, 0, 162, 89]
abbrev dktX4_writeTree_0 : List UInt8 := dkwX4_writeTree_0 ++ dktX4_writeTree_1
theorem dksX4_writeTree_0 : cX4_writeTree.data.toList.drop 0 = dktX4_writeTree_0 := by decide +kernel
theorem dksX4_writeTree_1 : cX4_writeTree.data.toList.drop 22 = dktX4_writeTree_1 := dk_seg dksX4_writeTree_0 22 rfl rfl
theorem dksX4_writeTree_2 : cX4_writeTree.data.toList.drop 46 = dktX4_writeTree_2 := dk_seg dksX4_writeTree_1 24 rfl rfl
theorem dX4_writeTree_0 : decode cX4_writeTree 0 = .ok (.aload_n 0, 1) := dk_42 (dk_at dksX4_writeTree_0 0 rfl rfl)
theorem dX4_writeTree_1 : decode cX4_writeTree 1 = .ok (.iconst 0, 1) := dk_3 (dk_at dksX4_writeTree_0 1 rfl rfl)
theorem dX4_writeTree_2 : decode cX4_writeTree 2 = .ok (.putfield 105, 3) := dk_181 0 105 (dk_at dksX4_writeTree_0 2 rfl rfl)
theorem dX4_writeTree_5 : decode cX4_writeTree 5 = .ok (.iload_n 1, 1) := dk_27 (dk_at dksX4_writeTree_0 5 rfl rfl)
theorem dX4_writeTree_6 : decode cX4_writeTree 6 = .ok (.invokestatic 112, 3) := dk_184 0 112 (dk_at dksX4_writeTree_0 6 rfl rfl)
theorem dX4_writeTree_9 : decode cX4_writeTree 9 = .ok (.ifCond .ne 9, 3) := dk_154 0 9 (dk_at dksX4_writeTree_0 9 rfl rfl)
theorem dX4_writeTree_12 : decode cX4_writeTree 12 = .ok (.aload_n 0, 1) := dk_42 (dk_at dksX4_writeTree_0 12 rfl rfl)
theorem dX4_writeTree_13 : decode cX4_writeTree 13 = .ok (.iconst 1, 1) := dk_4 (dk_at dksX4_writeTree_0 13 rfl rfl)
theorem dX4_writeTree_14 : decode cX4_writeTree 14 = .ok (.invokevirtual 126, 3) := dk_182 0 126 (dk_at dksX4_writeTree_0 14 rfl rfl)
theorem dX4_writeTree_17 : decode cX4_writeTree 17 = .ok (.ireturn, 1) := dk_172 (dk_at dksX4_writeTree_0 17 rfl rfl)
theorem dX4_writeTree_18 : decode cX4_writeTree 18 = .ok (.new 162, 3) := dk_187 0 162 (dk_at dksX4_writeTree_0 18 rfl rfl)
theorem dX4_writeTree_21 : decode cX4_writeTree 21 = .ok (.dup, 1) := dk_89 (dk_at dksX4_writeTree_0 21 rfl rfl)
theorem dX4_writeTree_22 : decode cX4_writeTree 22 = .ok (.invokespecial 181, 3) := dk_183 0 181 (dk_at dksX4_writeTree_1 0 rfl rfl)
theorem dX4_writeTree_25 : decode cX4_writeTree 25 = .ok (.astore_n 2, 1) := dk_77 (dk_at dksX4_writeTree_1 3 rfl rfl)
theorem dX4_writeTree_26 : decode cX4_writeTree 26 = .ok (.aload_n 0, 1) := dk_42 (dk_at dksX4_writeTree_1 4 rfl rfl)
theorem dX4_writeTree_27 : decode cX4_writeTree 27 = .ok (.aload_n 0, 1) := dk_42 (dk_at dksX4_writeTree_1 5 rfl rfl)
theorem dX4_writeTree_28 : decode cX4_writeTree 28 = .ok (.getfield 27, 3) := dk_180 0 27 (dk_at dksX4_writeTree_1 6 rfl rfl)
theorem dX4_writeTree_31 : decode cX4_writeTree 31 = .ok (.iload_n 1, 1) := dk_27 (dk_at dksX4_writeTree_1 9 rfl rfl)
theorem dX4_writeTree_32 : decode cX4_writeTree 32 = .ok (.aaload, 1) := dk_50 (dk_at dksX4_writeTree_1 10 rfl rfl)
theorem dX4_writeTree_33 : decode cX4_writeTree 33 = .ok (.iconst 0, 1) := dk_3 (dk_at dksX4_writeTree_1 11 rfl rfl)
theorem dX4_writeTree_34 : decode cX4_writeTree 34 = .ok (.aload_n 2, 1) := dk_44 (dk_at dksX4_writeTree_1 12 rfl rfl)
theorem dX4_writeTree_35 : decode cX4_writeTree 35 = .ok (.invokevirtual 177, 3) := dk_182 0 177 (dk_at dksX4_writeTree_1 13 rfl rfl)
theorem dX4_writeTree_38 : decode cX4_writeTree 38 = .ok (.aload_n 0, 1) := dk_42 (dk_at dksX4_writeTree_1 16 rfl rfl)
theorem dX4_writeTree_39 : decode cX4_writeTree 39 = .ok (.aload_n 2, 1) := dk_44 (dk_at dksX4_writeTree_1 17 rfl rfl)
theorem dX4_writeTree_40 : decode cX4_writeTree 40 = .ok (.invokevirtual 182, 3) := dk_182 0 182 (dk_at dksX4_writeTree_1 18 rfl rfl)
theorem dX4_writeTree_43 : decode cX4_writeTree 43 = .ok (.putfield 43, 3) := dk_181 0 43 (dk_at dksX4_writeTree_1 21 rfl rfl)
theorem dX4_writeTree_46 : decode cX4_writeTree 46 = .ok (.aload_n 0, 1) := dk_42 (dk_at dksX4_writeTree_2 0 rfl rfl)
theorem dX4_writeTree_47 : decode cX4_writeTree 47 = .ok (.getfield 43, 3) := dk_180 0 43 (dk_at dksX4_writeTree_2 1 rfl rfl)
theorem dX4_writeTree_50 : decode cX4_writeTree 50 = .ok (.invokevirtual 186, 3) := dk_182 0 186 (dk_at dksX4_writeTree_2 4 rfl rfl)
theorem dX4_writeTree_53 : decode cX4_writeTree 53 = .ok (.ireturn, 1) := dk_172 (dk_at dksX4_writeTree_2 7 rfl rfl)
abbrev cX4_writes : ByteArray := prog_20_method_18_code
def yX4_writes : MethodName := ⟨RX4, "writes", "(LTreeDifferModel$Tree;ILjava/lang/StringBuilder;)V"⟩
def dkwX4_writes_5 : List UInt8 := [167, 255, 231, 45, 16, 41, 182, 0, 161, 87, 177]
abbrev dktX4_writes_5 : List UInt8 := dkwX4_writes_5 ++ []
def dkwX4_writes_4 : List UInt8 := [21, 5, 162, 0, 24, 25, 4, 21, 6, 46, 54, 7, 42, 43, 21, 7, 45, 182, 0, 177, 132, 6, 1]
abbrev dktX4_writes_4 : List UInt8 := dkwX4_writes_4 ++ dktX4_writes_5
def dkwX4_writes_3 : List UInt8 := [45, 16, 40, 182, 0, 161, 87, 43, 28, 182, 0, 173, 58, 4, 25, 4, 190, 54, 5, 3, 54, 6, 21, 6]
abbrev dktX4_writes_3 : List UInt8 := dkwX4_writes_3 ++ dktX4_writes_4
def dkwX4_writes_2 : List UInt8 := [16, 61, 182, 0, 161, 43, 180, 0, 17, 28, 46, 182, 0, 167, 87, 43, 28, 182, 0, 170, 154, 0, 4, 177]
abbrev dktX4_writes_2 : List UInt8 := dkwX4_writes_2 ++ dktX4_writes_3
def dkwX4_writes_1 : List UInt8 := [182, 0, 161, 43, 180, 0, 14, 28, 46, 182, 0, 167, 87, 43, 180, 0, 17, 28, 46, 158, 0, 19, 45]
abbrev dktX4_writes_1 : List UInt8 := dkwX4_writes_1 ++ dktX4_writes_2
def dkwX4_writes_0 : List UInt8 := [45, 43, 180, 0, 11, 28, 46, 146, 182, 0, 161, 87, 43, 180, 0, 14, 28, 46, 158, 0, 19, 45, 16, 35]
abbrev dktX4_writes_0 : List UInt8 := dkwX4_writes_0 ++ dktX4_writes_1
theorem dksX4_writes_0 : cX4_writes.data.toList.drop 0 = dktX4_writes_0 := by decide +kernel
theorem dksX4_writes_1 : cX4_writes.data.toList.drop 24 = dktX4_writes_1 := dk_seg dksX4_writes_0 24 rfl rfl
theorem dksX4_writes_2 : cX4_writes.data.toList.drop 47 = dktX4_writes_2 := dk_seg dksX4_writes_1 23 rfl rfl
theorem dksX4_writes_3 : cX4_writes.data.toList.drop 71 = dktX4_writes_3 := dk_seg dksX4_writes_2 24 rfl rfl
theorem dksX4_writes_4 : cX4_writes.data.toList.drop 95 = dktX4_writes_4 := dk_seg dksX4_writes_3 24 rfl rfl
theorem dksX4_writes_5 : cX4_writes.data.toList.drop 118 = dktX4_writes_5 := dk_seg dksX4_writes_4 23 rfl rfl
theorem dX4_writes_0 : decode cX4_writes 0 = .ok (.aload_n 3, 1) := dk_45 (dk_at dksX4_writes_0 0 rfl rfl)
theorem dX4_writes_1 : decode cX4_writes 1 = .ok (.aload_n 1, 1) := dk_43 (dk_at dksX4_writes_0 1 rfl rfl)
theorem dX4_writes_2 : decode cX4_writes 2 = .ok (.getfield 11, 3) := dk_180 0 11 (dk_at dksX4_writes_0 2 rfl rfl)
theorem dX4_writes_5 : decode cX4_writes 5 = .ok (.iload_n 2, 1) := dk_28 (dk_at dksX4_writes_0 5 rfl rfl)
theorem dX4_writes_6 : decode cX4_writes 6 = .ok (.iaload, 1) := dk_46 (dk_at dksX4_writes_0 6 rfl rfl)
theorem dX4_writes_7 : decode cX4_writes 7 = .ok (.i2c, 1) := dk_146 (dk_at dksX4_writes_0 7 rfl rfl)
theorem dX4_writes_8 : decode cX4_writes 8 = .ok (.invokevirtual 161, 3) := dk_182 0 161 (dk_at dksX4_writes_0 8 rfl rfl)
theorem dX4_writes_11 : decode cX4_writes 11 = .ok (.pop, 1) := dk_87 (dk_at dksX4_writes_0 11 rfl rfl)
theorem dX4_writes_12 : decode cX4_writes 12 = .ok (.aload_n 1, 1) := dk_43 (dk_at dksX4_writes_0 12 rfl rfl)
theorem dX4_writes_13 : decode cX4_writes 13 = .ok (.getfield 14, 3) := dk_180 0 14 (dk_at dksX4_writes_0 13 rfl rfl)
theorem dX4_writes_16 : decode cX4_writes 16 = .ok (.iload_n 2, 1) := dk_28 (dk_at dksX4_writes_0 16 rfl rfl)
theorem dX4_writes_17 : decode cX4_writes 17 = .ok (.iaload, 1) := dk_46 (dk_at dksX4_writes_0 17 rfl rfl)
theorem dX4_writes_18 : decode cX4_writes 18 = .ok (.ifCond .le 19, 3) := dk_158 0 19 (dk_at dksX4_writes_0 18 rfl rfl)
theorem dX4_writes_21 : decode cX4_writes 21 = .ok (.aload_n 3, 1) := dk_45 (dk_at dksX4_writes_0 21 rfl rfl)
theorem dX4_writes_22 : decode cX4_writes 22 = .ok (.bipush 35, 2) := dk_16 35 (dk_at dksX4_writes_0 22 rfl rfl)
theorem dX4_writes_24 : decode cX4_writes 24 = .ok (.invokevirtual 161, 3) := dk_182 0 161 (dk_at dksX4_writes_1 0 rfl rfl)
theorem dX4_writes_27 : decode cX4_writes 27 = .ok (.aload_n 1, 1) := dk_43 (dk_at dksX4_writes_1 3 rfl rfl)
theorem dX4_writes_28 : decode cX4_writes 28 = .ok (.getfield 14, 3) := dk_180 0 14 (dk_at dksX4_writes_1 4 rfl rfl)
theorem dX4_writes_31 : decode cX4_writes 31 = .ok (.iload_n 2, 1) := dk_28 (dk_at dksX4_writes_1 7 rfl rfl)
theorem dX4_writes_32 : decode cX4_writes 32 = .ok (.iaload, 1) := dk_46 (dk_at dksX4_writes_1 8 rfl rfl)
theorem dX4_writes_33 : decode cX4_writes 33 = .ok (.invokevirtual 167, 3) := dk_182 0 167 (dk_at dksX4_writes_1 9 rfl rfl)
theorem dX4_writes_36 : decode cX4_writes 36 = .ok (.pop, 1) := dk_87 (dk_at dksX4_writes_1 12 rfl rfl)
theorem dX4_writes_37 : decode cX4_writes 37 = .ok (.aload_n 1, 1) := dk_43 (dk_at dksX4_writes_1 13 rfl rfl)
theorem dX4_writes_38 : decode cX4_writes 38 = .ok (.getfield 17, 3) := dk_180 0 17 (dk_at dksX4_writes_1 14 rfl rfl)
theorem dX4_writes_41 : decode cX4_writes 41 = .ok (.iload_n 2, 1) := dk_28 (dk_at dksX4_writes_1 17 rfl rfl)
theorem dX4_writes_42 : decode cX4_writes 42 = .ok (.iaload, 1) := dk_46 (dk_at dksX4_writes_1 18 rfl rfl)
theorem dX4_writes_43 : decode cX4_writes 43 = .ok (.ifCond .le 19, 3) := dk_158 0 19 (dk_at dksX4_writes_1 19 rfl rfl)
theorem dX4_writes_46 : decode cX4_writes 46 = .ok (.aload_n 3, 1) := dk_45 (dk_at dksX4_writes_1 22 rfl rfl)
theorem dX4_writes_47 : decode cX4_writes 47 = .ok (.bipush 61, 2) := dk_16 61 (dk_at dksX4_writes_2 0 rfl rfl)
theorem dX4_writes_49 : decode cX4_writes 49 = .ok (.invokevirtual 161, 3) := dk_182 0 161 (dk_at dksX4_writes_2 2 rfl rfl)
theorem dX4_writes_52 : decode cX4_writes 52 = .ok (.aload_n 1, 1) := dk_43 (dk_at dksX4_writes_2 5 rfl rfl)
theorem dX4_writes_53 : decode cX4_writes 53 = .ok (.getfield 17, 3) := dk_180 0 17 (dk_at dksX4_writes_2 6 rfl rfl)
theorem dX4_writes_56 : decode cX4_writes 56 = .ok (.iload_n 2, 1) := dk_28 (dk_at dksX4_writes_2 9 rfl rfl)
theorem dX4_writes_57 : decode cX4_writes 57 = .ok (.iaload, 1) := dk_46 (dk_at dksX4_writes_2 10 rfl rfl)
theorem dX4_writes_58 : decode cX4_writes 58 = .ok (.invokevirtual 167, 3) := dk_182 0 167 (dk_at dksX4_writes_2 11 rfl rfl)
theorem dX4_writes_61 : decode cX4_writes 61 = .ok (.pop, 1) := dk_87 (dk_at dksX4_writes_2 14 rfl rfl)
theorem dX4_writes_62 : decode cX4_writes 62 = .ok (.aload_n 1, 1) := dk_43 (dk_at dksX4_writes_2 15 rfl rfl)
theorem dX4_writes_63 : decode cX4_writes 63 = .ok (.iload_n 2, 1) := dk_28 (dk_at dksX4_writes_2 16 rfl rfl)
theorem dX4_writes_64 : decode cX4_writes 64 = .ok (.invokevirtual 170, 3) := dk_182 0 170 (dk_at dksX4_writes_2 17 rfl rfl)
theorem dX4_writes_67 : decode cX4_writes 67 = .ok (.ifCond .ne 4, 3) := dk_154 0 4 (dk_at dksX4_writes_2 20 rfl rfl)
theorem dX4_writes_70 : decode cX4_writes 70 = .ok (.return_, 1) := dk_177 (dk_at dksX4_writes_2 23 rfl rfl)
theorem dX4_writes_71 : decode cX4_writes 71 = .ok (.aload_n 3, 1) := dk_45 (dk_at dksX4_writes_3 0 rfl rfl)
theorem dX4_writes_72 : decode cX4_writes 72 = .ok (.bipush 40, 2) := dk_16 40 (dk_at dksX4_writes_3 1 rfl rfl)
theorem dX4_writes_74 : decode cX4_writes 74 = .ok (.invokevirtual 161, 3) := dk_182 0 161 (dk_at dksX4_writes_3 3 rfl rfl)
theorem dX4_writes_77 : decode cX4_writes 77 = .ok (.pop, 1) := dk_87 (dk_at dksX4_writes_3 6 rfl rfl)
theorem dX4_writes_78 : decode cX4_writes 78 = .ok (.aload_n 1, 1) := dk_43 (dk_at dksX4_writes_3 7 rfl rfl)
theorem dX4_writes_79 : decode cX4_writes 79 = .ok (.iload_n 2, 1) := dk_28 (dk_at dksX4_writes_3 8 rfl rfl)
theorem dX4_writes_80 : decode cX4_writes 80 = .ok (.invokevirtual 173, 3) := dk_182 0 173 (dk_at dksX4_writes_3 9 rfl rfl)
theorem dX4_writes_83 : decode cX4_writes 83 = .ok (.astore 4, 2) := dk_58 4 (dk_at dksX4_writes_3 12 rfl rfl)
theorem dX4_writes_85 : decode cX4_writes 85 = .ok (.aload 4, 2) := dk_25 4 (dk_at dksX4_writes_3 14 rfl rfl)
theorem dX4_writes_87 : decode cX4_writes 87 = .ok (.arraylength, 1) := dk_190 (dk_at dksX4_writes_3 16 rfl rfl)
theorem dX4_writes_88 : decode cX4_writes 88 = .ok (.istore 5, 2) := dk_54 5 (dk_at dksX4_writes_3 17 rfl rfl)
theorem dX4_writes_90 : decode cX4_writes 90 = .ok (.iconst 0, 1) := dk_3 (dk_at dksX4_writes_3 19 rfl rfl)
theorem dX4_writes_91 : decode cX4_writes 91 = .ok (.istore 6, 2) := dk_54 6 (dk_at dksX4_writes_3 20 rfl rfl)
theorem dX4_writes_93 : decode cX4_writes 93 = .ok (.iload 6, 2) := dk_21 6 (dk_at dksX4_writes_3 22 rfl rfl)
theorem dX4_writes_95 : decode cX4_writes 95 = .ok (.iload 5, 2) := dk_21 5 (dk_at dksX4_writes_4 0 rfl rfl)
theorem dX4_writes_97 : decode cX4_writes 97 = .ok (.if_icmp .ge 24, 3) := dk_162 0 24 (dk_at dksX4_writes_4 2 rfl rfl)
theorem dX4_writes_100 : decode cX4_writes 100 = .ok (.aload 4, 2) := dk_25 4 (dk_at dksX4_writes_4 5 rfl rfl)
theorem dX4_writes_102 : decode cX4_writes 102 = .ok (.iload 6, 2) := dk_21 6 (dk_at dksX4_writes_4 7 rfl rfl)
theorem dX4_writes_104 : decode cX4_writes 104 = .ok (.iaload, 1) := dk_46 (dk_at dksX4_writes_4 9 rfl rfl)
theorem dX4_writes_105 : decode cX4_writes 105 = .ok (.istore 7, 2) := dk_54 7 (dk_at dksX4_writes_4 10 rfl rfl)
theorem dX4_writes_107 : decode cX4_writes 107 = .ok (.aload_n 0, 1) := dk_42 (dk_at dksX4_writes_4 12 rfl rfl)
theorem dX4_writes_108 : decode cX4_writes 108 = .ok (.aload_n 1, 1) := dk_43 (dk_at dksX4_writes_4 13 rfl rfl)
theorem dX4_writes_109 : decode cX4_writes 109 = .ok (.iload 7, 2) := dk_21 7 (dk_at dksX4_writes_4 14 rfl rfl)
theorem dX4_writes_111 : decode cX4_writes 111 = .ok (.aload_n 3, 1) := dk_45 (dk_at dksX4_writes_4 16 rfl rfl)
theorem dX4_writes_112 : decode cX4_writes 112 = .ok (.invokevirtual 177, 3) := dk_182 0 177 (dk_at dksX4_writes_4 17 rfl rfl)
theorem dX4_writes_115 : decode cX4_writes 115 = .ok (.iinc 6 1, 3) := dk_132 6 1 (dk_at dksX4_writes_4 20 rfl rfl)
theorem dX4_writes_118 : decode cX4_writes 118 = .ok (.goto (-25), 3) := dk_167 255 231 (dk_at dksX4_writes_5 0 rfl rfl)
theorem dX4_writes_121 : decode cX4_writes 121 = .ok (.aload_n 3, 1) := dk_45 (dk_at dksX4_writes_5 3 rfl rfl)
theorem dX4_writes_122 : decode cX4_writes 122 = .ok (.bipush 41, 2) := dk_16 41 (dk_at dksX4_writes_5 4 rfl rfl)
theorem dX4_writes_124 : decode cX4_writes 124 = .ok (.invokevirtual 161, 3) := dk_182 0 161 (dk_at dksX4_writes_5 6 rfl rfl)
theorem dX4_writes_127 : decode cX4_writes 127 = .ok (.pop, 1) := dk_87 (dk_at dksX4_writes_5 9 rfl rfl)
theorem dX4_writes_128 : decode cX4_writes 128 = .ok (.return_, 1) := dk_177 (dk_at dksX4_writes_5 10 rfl rfl)
abbrev cX4_writeScript : ByteArray := prog_20_method_20_code
def yX4_writeScript : MethodName := ⟨RX4, "writeScript", "()I"⟩
def dkwX4_writeScript_4 : List UInt8 := [182, 0, 186, 172]
abbrev dktX4_writeScript_4 : List UInt8 := dkwX4_writeScript_4 ++ []
def dkwX4_writeScript_3 : List UInt8 := [28, 46, 182, 0, 167, 87, 132, 2, 1, 167, 255, 205, 42, 43, 182, 0, 182, 181, 0, 43, 42, 180, 0, 43]
abbrev dktX4_writeScript_3 : List UInt8 := dkwX4_writeScript_3 ++ dktX4_writeScript_4
def dkwX4_writeScript_2 : List UInt8 := [42, 180, 0, 77, 28, 52, 16, 105, 160, 0, 12, 42, 180, 0, 83, 28, 46, 167, 0, 9, 42, 180, 0, 80]
abbrev dktX4_writeScript_2 : List UInt8 := dkwX4_writeScript_2 ++ dktX4_writeScript_3
def dkwX4_writeScript_1 : List UInt8 := [183, 0, 181, 76, 3, 61, 28, 42, 180, 0, 196, 162, 0, 49, 43, 42, 180, 0, 77, 28, 52, 182, 0, 161]
abbrev dktX4_writeScript_1 : List UInt8 := dkwX4_writeScript_1 ++ dktX4_writeScript_2
def dkwX4_writeScript_0 : List UInt8 := [42, 3, 181, 0, 105, 42, 180, 0, 192, 154, 0, 9, 42, 4, 182, 0, 126, 172, 187, 0, 162, 89]
abbrev dktX4_writeScript_0 : List UInt8 := dkwX4_writeScript_0 ++ dktX4_writeScript_1
theorem dksX4_writeScript_0 : cX4_writeScript.data.toList.drop 0 = dktX4_writeScript_0 := by decide +kernel
theorem dksX4_writeScript_1 : cX4_writeScript.data.toList.drop 22 = dktX4_writeScript_1 := dk_seg dksX4_writeScript_0 22 rfl rfl
theorem dksX4_writeScript_2 : cX4_writeScript.data.toList.drop 46 = dktX4_writeScript_2 := dk_seg dksX4_writeScript_1 24 rfl rfl
theorem dksX4_writeScript_3 : cX4_writeScript.data.toList.drop 70 = dktX4_writeScript_3 := dk_seg dksX4_writeScript_2 24 rfl rfl
theorem dksX4_writeScript_4 : cX4_writeScript.data.toList.drop 94 = dktX4_writeScript_4 := dk_seg dksX4_writeScript_3 24 rfl rfl
theorem dX4_writeScript_0 : decode cX4_writeScript 0 = .ok (.aload_n 0, 1) := dk_42 (dk_at dksX4_writeScript_0 0 rfl rfl)
theorem dX4_writeScript_1 : decode cX4_writeScript 1 = .ok (.iconst 0, 1) := dk_3 (dk_at dksX4_writeScript_0 1 rfl rfl)
theorem dX4_writeScript_2 : decode cX4_writeScript 2 = .ok (.putfield 105, 3) := dk_181 0 105 (dk_at dksX4_writeScript_0 2 rfl rfl)
theorem dX4_writeScript_5 : decode cX4_writeScript 5 = .ok (.aload_n 0, 1) := dk_42 (dk_at dksX4_writeScript_0 5 rfl rfl)
theorem dX4_writeScript_6 : decode cX4_writeScript 6 = .ok (.getfield 192, 3) := dk_180 0 192 (dk_at dksX4_writeScript_0 6 rfl rfl)
theorem dX4_writeScript_9 : decode cX4_writeScript 9 = .ok (.ifCond .ne 9, 3) := dk_154 0 9 (dk_at dksX4_writeScript_0 9 rfl rfl)
theorem dX4_writeScript_12 : decode cX4_writeScript 12 = .ok (.aload_n 0, 1) := dk_42 (dk_at dksX4_writeScript_0 12 rfl rfl)
theorem dX4_writeScript_13 : decode cX4_writeScript 13 = .ok (.iconst 1, 1) := dk_4 (dk_at dksX4_writeScript_0 13 rfl rfl)
theorem dX4_writeScript_14 : decode cX4_writeScript 14 = .ok (.invokevirtual 126, 3) := dk_182 0 126 (dk_at dksX4_writeScript_0 14 rfl rfl)
theorem dX4_writeScript_17 : decode cX4_writeScript 17 = .ok (.ireturn, 1) := dk_172 (dk_at dksX4_writeScript_0 17 rfl rfl)
theorem dX4_writeScript_18 : decode cX4_writeScript 18 = .ok (.new 162, 3) := dk_187 0 162 (dk_at dksX4_writeScript_0 18 rfl rfl)
theorem dX4_writeScript_21 : decode cX4_writeScript 21 = .ok (.dup, 1) := dk_89 (dk_at dksX4_writeScript_0 21 rfl rfl)
theorem dX4_writeScript_22 : decode cX4_writeScript 22 = .ok (.invokespecial 181, 3) := dk_183 0 181 (dk_at dksX4_writeScript_1 0 rfl rfl)
theorem dX4_writeScript_25 : decode cX4_writeScript 25 = .ok (.astore_n 1, 1) := dk_76 (dk_at dksX4_writeScript_1 3 rfl rfl)
theorem dX4_writeScript_26 : decode cX4_writeScript 26 = .ok (.iconst 0, 1) := dk_3 (dk_at dksX4_writeScript_1 4 rfl rfl)
theorem dX4_writeScript_27 : decode cX4_writeScript 27 = .ok (.istore_n 2, 1) := dk_61 (dk_at dksX4_writeScript_1 5 rfl rfl)
theorem dX4_writeScript_28 : decode cX4_writeScript 28 = .ok (.iload_n 2, 1) := dk_28 (dk_at dksX4_writeScript_1 6 rfl rfl)
theorem dX4_writeScript_29 : decode cX4_writeScript 29 = .ok (.aload_n 0, 1) := dk_42 (dk_at dksX4_writeScript_1 7 rfl rfl)
theorem dX4_writeScript_30 : decode cX4_writeScript 30 = .ok (.getfield 196, 3) := dk_180 0 196 (dk_at dksX4_writeScript_1 8 rfl rfl)
theorem dX4_writeScript_33 : decode cX4_writeScript 33 = .ok (.if_icmp .ge 49, 3) := dk_162 0 49 (dk_at dksX4_writeScript_1 11 rfl rfl)
theorem dX4_writeScript_36 : decode cX4_writeScript 36 = .ok (.aload_n 1, 1) := dk_43 (dk_at dksX4_writeScript_1 14 rfl rfl)
theorem dX4_writeScript_37 : decode cX4_writeScript 37 = .ok (.aload_n 0, 1) := dk_42 (dk_at dksX4_writeScript_1 15 rfl rfl)
theorem dX4_writeScript_38 : decode cX4_writeScript 38 = .ok (.getfield 77, 3) := dk_180 0 77 (dk_at dksX4_writeScript_1 16 rfl rfl)
theorem dX4_writeScript_41 : decode cX4_writeScript 41 = .ok (.iload_n 2, 1) := dk_28 (dk_at dksX4_writeScript_1 19 rfl rfl)
theorem dX4_writeScript_42 : decode cX4_writeScript 42 = .ok (.caload, 1) := dk_52 (dk_at dksX4_writeScript_1 20 rfl rfl)
theorem dX4_writeScript_43 : decode cX4_writeScript 43 = .ok (.invokevirtual 161, 3) := dk_182 0 161 (dk_at dksX4_writeScript_1 21 rfl rfl)
theorem dX4_writeScript_46 : decode cX4_writeScript 46 = .ok (.aload_n 0, 1) := dk_42 (dk_at dksX4_writeScript_2 0 rfl rfl)
theorem dX4_writeScript_47 : decode cX4_writeScript 47 = .ok (.getfield 77, 3) := dk_180 0 77 (dk_at dksX4_writeScript_2 1 rfl rfl)
theorem dX4_writeScript_50 : decode cX4_writeScript 50 = .ok (.iload_n 2, 1) := dk_28 (dk_at dksX4_writeScript_2 4 rfl rfl)
theorem dX4_writeScript_51 : decode cX4_writeScript 51 = .ok (.caload, 1) := dk_52 (dk_at dksX4_writeScript_2 5 rfl rfl)
theorem dX4_writeScript_52 : decode cX4_writeScript 52 = .ok (.bipush 105, 2) := dk_16 105 (dk_at dksX4_writeScript_2 6 rfl rfl)
theorem dX4_writeScript_54 : decode cX4_writeScript 54 = .ok (.if_icmp .ne 12, 3) := dk_160 0 12 (dk_at dksX4_writeScript_2 8 rfl rfl)
theorem dX4_writeScript_57 : decode cX4_writeScript 57 = .ok (.aload_n 0, 1) := dk_42 (dk_at dksX4_writeScript_2 11 rfl rfl)
theorem dX4_writeScript_58 : decode cX4_writeScript 58 = .ok (.getfield 83, 3) := dk_180 0 83 (dk_at dksX4_writeScript_2 12 rfl rfl)
theorem dX4_writeScript_61 : decode cX4_writeScript 61 = .ok (.iload_n 2, 1) := dk_28 (dk_at dksX4_writeScript_2 15 rfl rfl)
theorem dX4_writeScript_62 : decode cX4_writeScript 62 = .ok (.iaload, 1) := dk_46 (dk_at dksX4_writeScript_2 16 rfl rfl)
theorem dX4_writeScript_63 : decode cX4_writeScript 63 = .ok (.goto 9, 3) := dk_167 0 9 (dk_at dksX4_writeScript_2 17 rfl rfl)
theorem dX4_writeScript_66 : decode cX4_writeScript 66 = .ok (.aload_n 0, 1) := dk_42 (dk_at dksX4_writeScript_2 20 rfl rfl)
theorem dX4_writeScript_67 : decode cX4_writeScript 67 = .ok (.getfield 80, 3) := dk_180 0 80 (dk_at dksX4_writeScript_2 21 rfl rfl)
theorem dX4_writeScript_70 : decode cX4_writeScript 70 = .ok (.iload_n 2, 1) := dk_28 (dk_at dksX4_writeScript_3 0 rfl rfl)
theorem dX4_writeScript_71 : decode cX4_writeScript 71 = .ok (.iaload, 1) := dk_46 (dk_at dksX4_writeScript_3 1 rfl rfl)
theorem dX4_writeScript_72 : decode cX4_writeScript 72 = .ok (.invokevirtual 167, 3) := dk_182 0 167 (dk_at dksX4_writeScript_3 2 rfl rfl)
theorem dX4_writeScript_75 : decode cX4_writeScript 75 = .ok (.pop, 1) := dk_87 (dk_at dksX4_writeScript_3 5 rfl rfl)
theorem dX4_writeScript_76 : decode cX4_writeScript 76 = .ok (.iinc 2 1, 3) := dk_132 2 1 (dk_at dksX4_writeScript_3 6 rfl rfl)
theorem dX4_writeScript_79 : decode cX4_writeScript 79 = .ok (.goto (-51), 3) := dk_167 255 205 (dk_at dksX4_writeScript_3 9 rfl rfl)
theorem dX4_writeScript_82 : decode cX4_writeScript 82 = .ok (.aload_n 0, 1) := dk_42 (dk_at dksX4_writeScript_3 12 rfl rfl)
theorem dX4_writeScript_83 : decode cX4_writeScript 83 = .ok (.aload_n 1, 1) := dk_43 (dk_at dksX4_writeScript_3 13 rfl rfl)
theorem dX4_writeScript_84 : decode cX4_writeScript 84 = .ok (.invokevirtual 182, 3) := dk_182 0 182 (dk_at dksX4_writeScript_3 14 rfl rfl)
theorem dX4_writeScript_87 : decode cX4_writeScript 87 = .ok (.putfield 43, 3) := dk_181 0 43 (dk_at dksX4_writeScript_3 17 rfl rfl)
theorem dX4_writeScript_90 : decode cX4_writeScript 90 = .ok (.aload_n 0, 1) := dk_42 (dk_at dksX4_writeScript_3 20 rfl rfl)
theorem dX4_writeScript_91 : decode cX4_writeScript 91 = .ok (.getfield 43, 3) := dk_180 0 43 (dk_at dksX4_writeScript_3 21 rfl rfl)
theorem dX4_writeScript_94 : decode cX4_writeScript 94 = .ok (.invokevirtual 186, 3) := dk_182 0 186 (dk_at dksX4_writeScript_4 0 rfl rfl)
theorem dX4_writeScript_97 : decode cX4_writeScript 97 = .ok (.ireturn, 1) := dk_172 (dk_at dksX4_writeScript_4 3 rfl rfl)
abbrev cX4_charAt : ByteArray := prog_20_method_21_code
def yX4_charAt : MethodName := ⟨RX4, "charAt", "(I)C"⟩
def dkwX4_charAt_1 : List UInt8 := [180, 0, 43, 27, 182, 0, 198, 167, 0, 9, 42, 4, 182, 0, 126, 146, 172]
abbrev dktX4_charAt_1 : List UInt8 := dkwX4_charAt_1 ++ []
def dkwX4_charAt_0 : List UInt8 := [42, 3, 181, 0, 105, 27, 3, 42, 180, 0, 43, 182, 0, 186, 4, 100, 184, 0, 108, 153, 0, 14, 42]
abbrev dktX4_charAt_0 : List UInt8 := dkwX4_charAt_0 ++ dktX4_charAt_1
theorem dksX4_charAt_0 : cX4_charAt.data.toList.drop 0 = dktX4_charAt_0 := by decide +kernel
theorem dksX4_charAt_1 : cX4_charAt.data.toList.drop 23 = dktX4_charAt_1 := dk_seg dksX4_charAt_0 23 rfl rfl
theorem dX4_charAt_0 : decode cX4_charAt 0 = .ok (.aload_n 0, 1) := dk_42 (dk_at dksX4_charAt_0 0 rfl rfl)
theorem dX4_charAt_1 : decode cX4_charAt 1 = .ok (.iconst 0, 1) := dk_3 (dk_at dksX4_charAt_0 1 rfl rfl)
theorem dX4_charAt_2 : decode cX4_charAt 2 = .ok (.putfield 105, 3) := dk_181 0 105 (dk_at dksX4_charAt_0 2 rfl rfl)
theorem dX4_charAt_5 : decode cX4_charAt 5 = .ok (.iload_n 1, 1) := dk_27 (dk_at dksX4_charAt_0 5 rfl rfl)
theorem dX4_charAt_6 : decode cX4_charAt 6 = .ok (.iconst 0, 1) := dk_3 (dk_at dksX4_charAt_0 6 rfl rfl)
theorem dX4_charAt_7 : decode cX4_charAt 7 = .ok (.aload_n 0, 1) := dk_42 (dk_at dksX4_charAt_0 7 rfl rfl)
theorem dX4_charAt_8 : decode cX4_charAt 8 = .ok (.getfield 43, 3) := dk_180 0 43 (dk_at dksX4_charAt_0 8 rfl rfl)
theorem dX4_charAt_11 : decode cX4_charAt 11 = .ok (.invokevirtual 186, 3) := dk_182 0 186 (dk_at dksX4_charAt_0 11 rfl rfl)
theorem dX4_charAt_14 : decode cX4_charAt 14 = .ok (.iconst 1, 1) := dk_4 (dk_at dksX4_charAt_0 14 rfl rfl)
theorem dX4_charAt_15 : decode cX4_charAt 15 = .ok (.isub, 1) := dk_100 (dk_at dksX4_charAt_0 15 rfl rfl)
theorem dX4_charAt_16 : decode cX4_charAt 16 = .ok (.invokestatic 108, 3) := dk_184 0 108 (dk_at dksX4_charAt_0 16 rfl rfl)
theorem dX4_charAt_19 : decode cX4_charAt 19 = .ok (.ifCond .eq 14, 3) := dk_153 0 14 (dk_at dksX4_charAt_0 19 rfl rfl)
theorem dX4_charAt_22 : decode cX4_charAt 22 = .ok (.aload_n 0, 1) := dk_42 (dk_at dksX4_charAt_0 22 rfl rfl)
theorem dX4_charAt_23 : decode cX4_charAt 23 = .ok (.getfield 43, 3) := dk_180 0 43 (dk_at dksX4_charAt_1 0 rfl rfl)
theorem dX4_charAt_26 : decode cX4_charAt 26 = .ok (.iload_n 1, 1) := dk_27 (dk_at dksX4_charAt_1 3 rfl rfl)
theorem dX4_charAt_27 : decode cX4_charAt 27 = .ok (.invokevirtual 198, 3) := dk_182 0 198 (dk_at dksX4_charAt_1 4 rfl rfl)
theorem dX4_charAt_30 : decode cX4_charAt 30 = .ok (.goto 9, 3) := dk_167 0 9 (dk_at dksX4_charAt_1 7 rfl rfl)
theorem dX4_charAt_33 : decode cX4_charAt 33 = .ok (.aload_n 0, 1) := dk_42 (dk_at dksX4_charAt_1 10 rfl rfl)
theorem dX4_charAt_34 : decode cX4_charAt 34 = .ok (.iconst 1, 1) := dk_4 (dk_at dksX4_charAt_1 11 rfl rfl)
theorem dX4_charAt_35 : decode cX4_charAt 35 = .ok (.invokevirtual 126, 3) := dk_182 0 126 (dk_at dksX4_charAt_1 12 rfl rfl)
theorem dX4_charAt_38 : decode cX4_charAt 38 = .ok (.i2c, 1) := dk_146 (dk_at dksX4_charAt_1 15 rfl rfl)
theorem dX4_charAt_39 : decode cX4_charAt 39 = .ok (.ireturn, 1) := dk_172 (dk_at dksX4_charAt_1 16 rfl rfl)
abbrev cX4_addNode : ByteArray := prog_20_method_23_code
def yX4_addNode : MethodName := ⟨RX4, "addNode", "(IIIC)I"⟩
def dkwX4_addNode_5 : List UInt8 := [172]
abbrev dktX4_addNode_5 : List UInt8 := dkwX4_addNode_5 ++ []
def dkwX4_addNode_4 : List UInt8 := [54, 7, 25, 5, 21, 7, 4, 182, 0, 209, 25, 5, 21, 7, 21, 4, 3, 3, 28, 182, 0, 213, 21, 7]
abbrev dktX4_addNode_4 : List UInt8 := dkwX4_addNode_4 ++ dktX4_addNode_5
def dkwX4_addNode_3 : List UInt8 := [182, 0, 126, 172, 29, 25, 6, 190, 162, 0, 10, 25, 6, 29, 46, 167, 0, 9, 25, 5, 28, 182, 0, 1]
abbrev dktX4_addNode_3 : List UInt8 := dkwX4_addNode_3 ++ dktX4_addNode_4
def dkwX4_addNode_2 : List UInt8 := [184, 0, 205, 154, 0, 9, 42, 5, 182, 0, 126, 172, 25, 5, 180, 0, 116, 16, 20, 160, 0, 9, 42, 6]
abbrev dktX4_addNode_2 : List UInt8 := dkwX4_addNode_2 ++ dktX4_addNode_3
def dkwX4_addNode_1 : List UInt8 := [182, 0, 173, 58, 6, 29, 3, 25, 6, 190, 184, 0, 108, 154, 0, 9, 42, 4, 182, 0, 126, 172, 21, 4]
abbrev dktX4_addNode_1 : List UInt8 := dkwX4_addNode_1 ++ dktX4_addNode_2
def dkwX4_addNode_0 : List UInt8 := [42, 27, 28, 182, 0, 202, 153, 0, 5, 3, 172, 42, 180, 0, 27, 27, 50, 58, 5, 25, 5, 28]
abbrev dktX4_addNode_0 : List UInt8 := dkwX4_addNode_0 ++ dktX4_addNode_1
theorem dksX4_addNode_0 : cX4_addNode.data.toList.drop 0 = dktX4_addNode_0 := by decide +kernel
theorem dksX4_addNode_1 : cX4_addNode.data.toList.drop 22 = dktX4_addNode_1 := dk_seg dksX4_addNode_0 22 rfl rfl
theorem dksX4_addNode_2 : cX4_addNode.data.toList.drop 46 = dktX4_addNode_2 := dk_seg dksX4_addNode_1 24 rfl rfl
theorem dksX4_addNode_3 : cX4_addNode.data.toList.drop 70 = dktX4_addNode_3 := dk_seg dksX4_addNode_2 24 rfl rfl
theorem dksX4_addNode_4 : cX4_addNode.data.toList.drop 94 = dktX4_addNode_4 := dk_seg dksX4_addNode_3 24 rfl rfl
theorem dksX4_addNode_5 : cX4_addNode.data.toList.drop 118 = dktX4_addNode_5 := dk_seg dksX4_addNode_4 24 rfl rfl
theorem dX4_addNode_0 : decode cX4_addNode 0 = .ok (.aload_n 0, 1) := dk_42 (dk_at dksX4_addNode_0 0 rfl rfl)
theorem dX4_addNode_1 : decode cX4_addNode 1 = .ok (.iload_n 1, 1) := dk_27 (dk_at dksX4_addNode_0 1 rfl rfl)
theorem dX4_addNode_2 : decode cX4_addNode 2 = .ok (.iload_n 2, 1) := dk_28 (dk_at dksX4_addNode_0 2 rfl rfl)
theorem dX4_addNode_3 : decode cX4_addNode 3 = .ok (.invokevirtual 202, 3) := dk_182 0 202 (dk_at dksX4_addNode_0 3 rfl rfl)
theorem dX4_addNode_6 : decode cX4_addNode 6 = .ok (.ifCond .eq 5, 3) := dk_153 0 5 (dk_at dksX4_addNode_0 6 rfl rfl)
theorem dX4_addNode_9 : decode cX4_addNode 9 = .ok (.iconst 0, 1) := dk_3 (dk_at dksX4_addNode_0 9 rfl rfl)
theorem dX4_addNode_10 : decode cX4_addNode 10 = .ok (.ireturn, 1) := dk_172 (dk_at dksX4_addNode_0 10 rfl rfl)
theorem dX4_addNode_11 : decode cX4_addNode 11 = .ok (.aload_n 0, 1) := dk_42 (dk_at dksX4_addNode_0 11 rfl rfl)
theorem dX4_addNode_12 : decode cX4_addNode 12 = .ok (.getfield 27, 3) := dk_180 0 27 (dk_at dksX4_addNode_0 12 rfl rfl)
theorem dX4_addNode_15 : decode cX4_addNode 15 = .ok (.iload_n 1, 1) := dk_27 (dk_at dksX4_addNode_0 15 rfl rfl)
theorem dX4_addNode_16 : decode cX4_addNode 16 = .ok (.aaload, 1) := dk_50 (dk_at dksX4_addNode_0 16 rfl rfl)
theorem dX4_addNode_17 : decode cX4_addNode 17 = .ok (.astore 5, 2) := dk_58 5 (dk_at dksX4_addNode_0 17 rfl rfl)
theorem dX4_addNode_19 : decode cX4_addNode 19 = .ok (.aload 5, 2) := dk_25 5 (dk_at dksX4_addNode_0 19 rfl rfl)
theorem dX4_addNode_21 : decode cX4_addNode 21 = .ok (.iload_n 2, 1) := dk_28 (dk_at dksX4_addNode_0 21 rfl rfl)
theorem dX4_addNode_22 : decode cX4_addNode 22 = .ok (.invokevirtual 173, 3) := dk_182 0 173 (dk_at dksX4_addNode_1 0 rfl rfl)
theorem dX4_addNode_25 : decode cX4_addNode 25 = .ok (.astore 6, 2) := dk_58 6 (dk_at dksX4_addNode_1 3 rfl rfl)
theorem dX4_addNode_27 : decode cX4_addNode 27 = .ok (.iload_n 3, 1) := dk_29 (dk_at dksX4_addNode_1 5 rfl rfl)
theorem dX4_addNode_28 : decode cX4_addNode 28 = .ok (.iconst 0, 1) := dk_3 (dk_at dksX4_addNode_1 6 rfl rfl)
theorem dX4_addNode_29 : decode cX4_addNode 29 = .ok (.aload 6, 2) := dk_25 6 (dk_at dksX4_addNode_1 7 rfl rfl)
theorem dX4_addNode_31 : decode cX4_addNode 31 = .ok (.arraylength, 1) := dk_190 (dk_at dksX4_addNode_1 9 rfl rfl)
theorem dX4_addNode_32 : decode cX4_addNode 32 = .ok (.invokestatic 108, 3) := dk_184 0 108 (dk_at dksX4_addNode_1 10 rfl rfl)
theorem dX4_addNode_35 : decode cX4_addNode 35 = .ok (.ifCond .ne 9, 3) := dk_154 0 9 (dk_at dksX4_addNode_1 13 rfl rfl)
theorem dX4_addNode_38 : decode cX4_addNode 38 = .ok (.aload_n 0, 1) := dk_42 (dk_at dksX4_addNode_1 16 rfl rfl)
theorem dX4_addNode_39 : decode cX4_addNode 39 = .ok (.iconst 1, 1) := dk_4 (dk_at dksX4_addNode_1 17 rfl rfl)
theorem dX4_addNode_40 : decode cX4_addNode 40 = .ok (.invokevirtual 126, 3) := dk_182 0 126 (dk_at dksX4_addNode_1 18 rfl rfl)
theorem dX4_addNode_43 : decode cX4_addNode 43 = .ok (.ireturn, 1) := dk_172 (dk_at dksX4_addNode_1 21 rfl rfl)
theorem dX4_addNode_44 : decode cX4_addNode 44 = .ok (.iload 4, 2) := dk_21 4 (dk_at dksX4_addNode_1 22 rfl rfl)
theorem dX4_addNode_46 : decode cX4_addNode 46 = .ok (.invokestatic 205, 3) := dk_184 0 205 (dk_at dksX4_addNode_2 0 rfl rfl)
theorem dX4_addNode_49 : decode cX4_addNode 49 = .ok (.ifCond .ne 9, 3) := dk_154 0 9 (dk_at dksX4_addNode_2 3 rfl rfl)
theorem dX4_addNode_52 : decode cX4_addNode 52 = .ok (.aload_n 0, 1) := dk_42 (dk_at dksX4_addNode_2 6 rfl rfl)
theorem dX4_addNode_53 : decode cX4_addNode 53 = .ok (.iconst 2, 1) := dk_5 (dk_at dksX4_addNode_2 7 rfl rfl)
theorem dX4_addNode_54 : decode cX4_addNode 54 = .ok (.invokevirtual 126, 3) := dk_182 0 126 (dk_at dksX4_addNode_2 8 rfl rfl)
theorem dX4_addNode_57 : decode cX4_addNode 57 = .ok (.ireturn, 1) := dk_172 (dk_at dksX4_addNode_2 11 rfl rfl)
theorem dX4_addNode_58 : decode cX4_addNode 58 = .ok (.aload 5, 2) := dk_25 5 (dk_at dksX4_addNode_2 12 rfl rfl)
theorem dX4_addNode_60 : decode cX4_addNode 60 = .ok (.getfield 116, 3) := dk_180 0 116 (dk_at dksX4_addNode_2 14 rfl rfl)
theorem dX4_addNode_63 : decode cX4_addNode 63 = .ok (.bipush 20, 2) := dk_16 20 (dk_at dksX4_addNode_2 17 rfl rfl)
theorem dX4_addNode_65 : decode cX4_addNode 65 = .ok (.if_icmp .ne 9, 3) := dk_160 0 9 (dk_at dksX4_addNode_2 19 rfl rfl)
theorem dX4_addNode_68 : decode cX4_addNode 68 = .ok (.aload_n 0, 1) := dk_42 (dk_at dksX4_addNode_2 22 rfl rfl)
theorem dX4_addNode_69 : decode cX4_addNode 69 = .ok (.iconst 3, 1) := dk_6 (dk_at dksX4_addNode_2 23 rfl rfl)
theorem dX4_addNode_70 : decode cX4_addNode 70 = .ok (.invokevirtual 126, 3) := dk_182 0 126 (dk_at dksX4_addNode_3 0 rfl rfl)
theorem dX4_addNode_73 : decode cX4_addNode 73 = .ok (.ireturn, 1) := dk_172 (dk_at dksX4_addNode_3 3 rfl rfl)
theorem dX4_addNode_74 : decode cX4_addNode 74 = .ok (.iload_n 3, 1) := dk_29 (dk_at dksX4_addNode_3 4 rfl rfl)
theorem dX4_addNode_75 : decode cX4_addNode 75 = .ok (.aload 6, 2) := dk_25 6 (dk_at dksX4_addNode_3 5 rfl rfl)
theorem dX4_addNode_77 : decode cX4_addNode 77 = .ok (.arraylength, 1) := dk_190 (dk_at dksX4_addNode_3 7 rfl rfl)
theorem dX4_addNode_78 : decode cX4_addNode 78 = .ok (.if_icmp .ge 10, 3) := dk_162 0 10 (dk_at dksX4_addNode_3 8 rfl rfl)
theorem dX4_addNode_81 : decode cX4_addNode 81 = .ok (.aload 6, 2) := dk_25 6 (dk_at dksX4_addNode_3 11 rfl rfl)
theorem dX4_addNode_83 : decode cX4_addNode 83 = .ok (.iload_n 3, 1) := dk_29 (dk_at dksX4_addNode_3 13 rfl rfl)
theorem dX4_addNode_84 : decode cX4_addNode 84 = .ok (.iaload, 1) := dk_46 (dk_at dksX4_addNode_3 14 rfl rfl)
theorem dX4_addNode_85 : decode cX4_addNode 85 = .ok (.goto 9, 3) := dk_167 0 9 (dk_at dksX4_addNode_3 15 rfl rfl)
theorem dX4_addNode_88 : decode cX4_addNode 88 = .ok (.aload 5, 2) := dk_25 5 (dk_at dksX4_addNode_3 18 rfl rfl)
theorem dX4_addNode_90 : decode cX4_addNode 90 = .ok (.iload_n 2, 1) := dk_28 (dk_at dksX4_addNode_3 20 rfl rfl)
theorem dX4_addNode_91 : decode cX4_addNode 91 = .ok (.invokevirtual 1, 3) := dk_182 0 1 (dk_at dksX4_addNode_3 21 rfl rfl)
theorem dX4_addNode_94 : decode cX4_addNode 94 = .ok (.istore 7, 2) := dk_54 7 (dk_at dksX4_addNode_4 0 rfl rfl)
theorem dX4_addNode_96 : decode cX4_addNode 96 = .ok (.aload 5, 2) := dk_25 5 (dk_at dksX4_addNode_4 2 rfl rfl)
theorem dX4_addNode_98 : decode cX4_addNode 98 = .ok (.iload 7, 2) := dk_21 7 (dk_at dksX4_addNode_4 4 rfl rfl)
theorem dX4_addNode_100 : decode cX4_addNode 100 = .ok (.iconst 1, 1) := dk_4 (dk_at dksX4_addNode_4 6 rfl rfl)
theorem dX4_addNode_101 : decode cX4_addNode 101 = .ok (.invokevirtual 209, 3) := dk_182 0 209 (dk_at dksX4_addNode_4 7 rfl rfl)
theorem dX4_addNode_104 : decode cX4_addNode 104 = .ok (.aload 5, 2) := dk_25 5 (dk_at dksX4_addNode_4 10 rfl rfl)
theorem dX4_addNode_106 : decode cX4_addNode 106 = .ok (.iload 7, 2) := dk_21 7 (dk_at dksX4_addNode_4 12 rfl rfl)
theorem dX4_addNode_108 : decode cX4_addNode 108 = .ok (.iload 4, 2) := dk_21 4 (dk_at dksX4_addNode_4 14 rfl rfl)
theorem dX4_addNode_110 : decode cX4_addNode 110 = .ok (.iconst 0, 1) := dk_3 (dk_at dksX4_addNode_4 16 rfl rfl)
theorem dX4_addNode_111 : decode cX4_addNode 111 = .ok (.iconst 0, 1) := dk_3 (dk_at dksX4_addNode_4 17 rfl rfl)
theorem dX4_addNode_112 : decode cX4_addNode 112 = .ok (.iload_n 2, 1) := dk_28 (dk_at dksX4_addNode_4 18 rfl rfl)
theorem dX4_addNode_113 : decode cX4_addNode 113 = .ok (.invokevirtual 213, 3) := dk_182 0 213 (dk_at dksX4_addNode_4 19 rfl rfl)
theorem dX4_addNode_116 : decode cX4_addNode 116 = .ok (.iload 7, 2) := dk_21 7 (dk_at dksX4_addNode_4 22 rfl rfl)
theorem dX4_addNode_118 : decode cX4_addNode 118 = .ok (.ireturn, 1) := dk_172 (dk_at dksX4_addNode_5 0 rfl rfl)
abbrev cX4_isNowhere : ByteArray := prog_20_method_9_code
def yX4_isNowhere : MethodName := ⟨RX4, "isNowhere", "(II)Z"⟩
def dkwX4_isNowhere_1 : List UInt8 := [158, 0, 7, 4, 167, 0, 4, 3, 172]
abbrev dktX4_isNowhere_1 : List UInt8 := dkwX4_isNowhere_1 ++ []
def dkwX4_isNowhere_0 : List UInt8 := [42, 42, 27, 28, 182, 0, 119, 153, 0, 7, 3, 167, 0, 4, 4, 181, 0, 105, 42, 180, 0, 105]
abbrev dktX4_isNowhere_0 : List UInt8 := dkwX4_isNowhere_0 ++ dktX4_isNowhere_1
theorem dksX4_isNowhere_0 : cX4_isNowhere.data.toList.drop 0 = dktX4_isNowhere_0 := by decide +kernel
theorem dksX4_isNowhere_1 : cX4_isNowhere.data.toList.drop 22 = dktX4_isNowhere_1 := dk_seg dksX4_isNowhere_0 22 rfl rfl
theorem dX4_isNowhere_0 : decode cX4_isNowhere 0 = .ok (.aload_n 0, 1) := dk_42 (dk_at dksX4_isNowhere_0 0 rfl rfl)
theorem dX4_isNowhere_1 : decode cX4_isNowhere 1 = .ok (.aload_n 0, 1) := dk_42 (dk_at dksX4_isNowhere_0 1 rfl rfl)
theorem dX4_isNowhere_2 : decode cX4_isNowhere 2 = .ok (.iload_n 1, 1) := dk_27 (dk_at dksX4_isNowhere_0 2 rfl rfl)
theorem dX4_isNowhere_3 : decode cX4_isNowhere 3 = .ok (.iload_n 2, 1) := dk_28 (dk_at dksX4_isNowhere_0 3 rfl rfl)
theorem dX4_isNowhere_4 : decode cX4_isNowhere 4 = .ok (.invokevirtual 119, 3) := dk_182 0 119 (dk_at dksX4_isNowhere_0 4 rfl rfl)
theorem dX4_isNowhere_7 : decode cX4_isNowhere 7 = .ok (.ifCond .eq 7, 3) := dk_153 0 7 (dk_at dksX4_isNowhere_0 7 rfl rfl)
theorem dX4_isNowhere_10 : decode cX4_isNowhere 10 = .ok (.iconst 0, 1) := dk_3 (dk_at dksX4_isNowhere_0 10 rfl rfl)
theorem dX4_isNowhere_11 : decode cX4_isNowhere 11 = .ok (.goto 4, 3) := dk_167 0 4 (dk_at dksX4_isNowhere_0 11 rfl rfl)
theorem dX4_isNowhere_14 : decode cX4_isNowhere 14 = .ok (.iconst 1, 1) := dk_4 (dk_at dksX4_isNowhere_0 14 rfl rfl)
theorem dX4_isNowhere_15 : decode cX4_isNowhere 15 = .ok (.putfield 105, 3) := dk_181 0 105 (dk_at dksX4_isNowhere_0 15 rfl rfl)
theorem dX4_isNowhere_18 : decode cX4_isNowhere 18 = .ok (.aload_n 0, 1) := dk_42 (dk_at dksX4_isNowhere_0 18 rfl rfl)
theorem dX4_isNowhere_19 : decode cX4_isNowhere 19 = .ok (.getfield 105, 3) := dk_180 0 105 (dk_at dksX4_isNowhere_0 19 rfl rfl)
theorem dX4_isNowhere_22 : decode cX4_isNowhere 22 = .ok (.ifCond .le 7, 3) := dk_158 0 7 (dk_at dksX4_isNowhere_1 0 rfl rfl)
theorem dX4_isNowhere_25 : decode cX4_isNowhere 25 = .ok (.iconst 1, 1) := dk_4 (dk_at dksX4_isNowhere_1 3 rfl rfl)
theorem dX4_isNowhere_26 : decode cX4_isNowhere 26 = .ok (.goto 4, 3) := dk_167 0 4 (dk_at dksX4_isNowhere_1 4 rfl rfl)
theorem dX4_isNowhere_29 : decode cX4_isNowhere 29 = .ok (.iconst 0, 1) := dk_3 (dk_at dksX4_isNowhere_1 7 rfl rfl)
theorem dX4_isNowhere_30 : decode cX4_isNowhere 30 = .ok (.ireturn, 1) := dk_172 (dk_at dksX4_isNowhere_1 8 rfl rfl)
abbrev cX4_isNode : ByteArray := prog_20_method_8_code
def yX4_isNode : MethodName := ⟨RX4, "isNode", "(II)Z"⟩
def dkwX4_isNode_1 : List UInt8 := [153, 0, 7, 4, 167, 0, 4, 3, 172]
abbrev dktX4_isNode_1 : List UInt8 := dkwX4_isNode_1 ++ []
def dkwX4_isNode_0 : List UInt8 := [27, 184, 0, 112, 153, 0, 26, 28, 3, 42, 180, 0, 27, 27, 50, 180, 0, 116, 4, 100, 184, 0, 108]
abbrev dktX4_isNode_0 : List UInt8 := dkwX4_isNode_0 ++ dktX4_isNode_1
theorem dksX4_isNode_0 : cX4_isNode.data.toList.drop 0 = dktX4_isNode_0 := by decide +kernel
theorem dksX4_isNode_1 : cX4_isNode.data.toList.drop 23 = dktX4_isNode_1 := dk_seg dksX4_isNode_0 23 rfl rfl
theorem dX4_isNode_0 : decode cX4_isNode 0 = .ok (.iload_n 1, 1) := dk_27 (dk_at dksX4_isNode_0 0 rfl rfl)
theorem dX4_isNode_1 : decode cX4_isNode 1 = .ok (.invokestatic 112, 3) := dk_184 0 112 (dk_at dksX4_isNode_0 1 rfl rfl)
theorem dX4_isNode_4 : decode cX4_isNode 4 = .ok (.ifCond .eq 26, 3) := dk_153 0 26 (dk_at dksX4_isNode_0 4 rfl rfl)
theorem dX4_isNode_7 : decode cX4_isNode 7 = .ok (.iload_n 2, 1) := dk_28 (dk_at dksX4_isNode_0 7 rfl rfl)
theorem dX4_isNode_8 : decode cX4_isNode 8 = .ok (.iconst 0, 1) := dk_3 (dk_at dksX4_isNode_0 8 rfl rfl)
theorem dX4_isNode_9 : decode cX4_isNode 9 = .ok (.aload_n 0, 1) := dk_42 (dk_at dksX4_isNode_0 9 rfl rfl)
theorem dX4_isNode_10 : decode cX4_isNode 10 = .ok (.getfield 27, 3) := dk_180 0 27 (dk_at dksX4_isNode_0 10 rfl rfl)
theorem dX4_isNode_13 : decode cX4_isNode 13 = .ok (.iload_n 1, 1) := dk_27 (dk_at dksX4_isNode_0 13 rfl rfl)
theorem dX4_isNode_14 : decode cX4_isNode 14 = .ok (.aaload, 1) := dk_50 (dk_at dksX4_isNode_0 14 rfl rfl)
theorem dX4_isNode_15 : decode cX4_isNode 15 = .ok (.getfield 116, 3) := dk_180 0 116 (dk_at dksX4_isNode_0 15 rfl rfl)
theorem dX4_isNode_18 : decode cX4_isNode 18 = .ok (.iconst 1, 1) := dk_4 (dk_at dksX4_isNode_0 18 rfl rfl)
theorem dX4_isNode_19 : decode cX4_isNode 19 = .ok (.isub, 1) := dk_100 (dk_at dksX4_isNode_0 19 rfl rfl)
theorem dX4_isNode_20 : decode cX4_isNode 20 = .ok (.invokestatic 108, 3) := dk_184 0 108 (dk_at dksX4_isNode_0 20 rfl rfl)
theorem dX4_isNode_23 : decode cX4_isNode 23 = .ok (.ifCond .eq 7, 3) := dk_153 0 7 (dk_at dksX4_isNode_1 0 rfl rfl)
theorem dX4_isNode_26 : decode cX4_isNode 26 = .ok (.iconst 1, 1) := dk_4 (dk_at dksX4_isNode_1 3 rfl rfl)
theorem dX4_isNode_27 : decode cX4_isNode 27 = .ok (.goto 4, 3) := dk_167 0 4 (dk_at dksX4_isNode_1 4 rfl rfl)
theorem dX4_isNode_30 : decode cX4_isNode 30 = .ok (.iconst 0, 1) := dk_3 (dk_at dksX4_isNode_1 7 rfl rfl)
theorem dX4_isNode_31 : decode cX4_isNode 31 = .ok (.ireturn, 1) := dk_172 (dk_at dksX4_isNode_1 8 rfl rfl)
abbrev cX4_isLabel : ByteArray := prog_20_method_22_code
def yX4_isLabel : MethodName := ⟨RX4, "isLabel", "(C)Z"⟩
def dkwX4_isLabel_0 : List UInt8 := [26, 16, 97, 16, 122, 184, 0, 108, 172]
abbrev dktX4_isLabel_0 : List UInt8 := dkwX4_isLabel_0 ++ []
theorem dksX4_isLabel_0 : cX4_isLabel.data.toList.drop 0 = dktX4_isLabel_0 := by decide +kernel
theorem dX4_isLabel_0 : decode cX4_isLabel 0 = .ok (.iload_n 0, 1) := dk_26 (dk_at dksX4_isLabel_0 0 rfl rfl)
theorem dX4_isLabel_1 : decode cX4_isLabel 1 = .ok (.bipush 97, 2) := dk_16 97 (dk_at dksX4_isLabel_0 1 rfl rfl)
theorem dX4_isLabel_3 : decode cX4_isLabel 3 = .ok (.bipush 122, 2) := dk_16 122 (dk_at dksX4_isLabel_0 3 rfl rfl)
theorem dX4_isLabel_5 : decode cX4_isLabel 5 = .ok (.invokestatic 108, 3) := dk_184 0 108 (dk_at dksX4_isLabel_0 5 rfl rfl)
theorem dX4_isLabel_8 : decode cX4_isLabel 8 = .ok (.ireturn, 1) := dk_172 (dk_at dksX4_isLabel_0 8 rfl rfl)
abbrev cX4_removeNode : ByteArray := prog_20_method_24_code
def yX4_removeNode : MethodName := ⟨RX4, "removeNode", "(II)I"⟩
def dkwX4_removeNode_1 : List UInt8 := [180, 0, 27, 27, 50, 78, 45, 28, 28, 45, 28, 182, 0, 1, 100, 182, 0, 209, 45, 180, 0, 116, 172]
abbrev dktX4_removeNode_1 : List UInt8 := dkwX4_removeNode_1 ++ []
def dkwX4_removeNode_0 : List UInt8 := [42, 27, 28, 182, 0, 202, 153, 0, 5, 3, 172, 28, 154, 0, 9, 42, 5, 182, 0, 126, 172, 42]
abbrev dktX4_removeNode_0 : List UInt8 := dkwX4_removeNode_0 ++ dktX4_removeNode_1
theorem dksX4_removeNode_0 : cX4_removeNode.data.toList.drop 0 = dktX4_removeNode_0 := by decide +kernel
theorem dksX4_removeNode_1 : cX4_removeNode.data.toList.drop 22 = dktX4_removeNode_1 := dk_seg dksX4_removeNode_0 22 rfl rfl
theorem dX4_removeNode_0 : decode cX4_removeNode 0 = .ok (.aload_n 0, 1) := dk_42 (dk_at dksX4_removeNode_0 0 rfl rfl)
theorem dX4_removeNode_1 : decode cX4_removeNode 1 = .ok (.iload_n 1, 1) := dk_27 (dk_at dksX4_removeNode_0 1 rfl rfl)
theorem dX4_removeNode_2 : decode cX4_removeNode 2 = .ok (.iload_n 2, 1) := dk_28 (dk_at dksX4_removeNode_0 2 rfl rfl)
theorem dX4_removeNode_3 : decode cX4_removeNode 3 = .ok (.invokevirtual 202, 3) := dk_182 0 202 (dk_at dksX4_removeNode_0 3 rfl rfl)
theorem dX4_removeNode_6 : decode cX4_removeNode 6 = .ok (.ifCond .eq 5, 3) := dk_153 0 5 (dk_at dksX4_removeNode_0 6 rfl rfl)
theorem dX4_removeNode_9 : decode cX4_removeNode 9 = .ok (.iconst 0, 1) := dk_3 (dk_at dksX4_removeNode_0 9 rfl rfl)
theorem dX4_removeNode_10 : decode cX4_removeNode 10 = .ok (.ireturn, 1) := dk_172 (dk_at dksX4_removeNode_0 10 rfl rfl)
theorem dX4_removeNode_11 : decode cX4_removeNode 11 = .ok (.iload_n 2, 1) := dk_28 (dk_at dksX4_removeNode_0 11 rfl rfl)
theorem dX4_removeNode_12 : decode cX4_removeNode 12 = .ok (.ifCond .ne 9, 3) := dk_154 0 9 (dk_at dksX4_removeNode_0 12 rfl rfl)
theorem dX4_removeNode_15 : decode cX4_removeNode 15 = .ok (.aload_n 0, 1) := dk_42 (dk_at dksX4_removeNode_0 15 rfl rfl)
theorem dX4_removeNode_16 : decode cX4_removeNode 16 = .ok (.iconst 2, 1) := dk_5 (dk_at dksX4_removeNode_0 16 rfl rfl)
theorem dX4_removeNode_17 : decode cX4_removeNode 17 = .ok (.invokevirtual 126, 3) := dk_182 0 126 (dk_at dksX4_removeNode_0 17 rfl rfl)
theorem dX4_removeNode_20 : decode cX4_removeNode 20 = .ok (.ireturn, 1) := dk_172 (dk_at dksX4_removeNode_0 20 rfl rfl)
theorem dX4_removeNode_21 : decode cX4_removeNode 21 = .ok (.aload_n 0, 1) := dk_42 (dk_at dksX4_removeNode_0 21 rfl rfl)
theorem dX4_removeNode_22 : decode cX4_removeNode 22 = .ok (.getfield 27, 3) := dk_180 0 27 (dk_at dksX4_removeNode_1 0 rfl rfl)
theorem dX4_removeNode_25 : decode cX4_removeNode 25 = .ok (.iload_n 1, 1) := dk_27 (dk_at dksX4_removeNode_1 3 rfl rfl)
theorem dX4_removeNode_26 : decode cX4_removeNode 26 = .ok (.aaload, 1) := dk_50 (dk_at dksX4_removeNode_1 4 rfl rfl)
theorem dX4_removeNode_27 : decode cX4_removeNode 27 = .ok (.astore_n 3, 1) := dk_78 (dk_at dksX4_removeNode_1 5 rfl rfl)
theorem dX4_removeNode_28 : decode cX4_removeNode 28 = .ok (.aload_n 3, 1) := dk_45 (dk_at dksX4_removeNode_1 6 rfl rfl)
theorem dX4_removeNode_29 : decode cX4_removeNode 29 = .ok (.iload_n 2, 1) := dk_28 (dk_at dksX4_removeNode_1 7 rfl rfl)
theorem dX4_removeNode_30 : decode cX4_removeNode 30 = .ok (.iload_n 2, 1) := dk_28 (dk_at dksX4_removeNode_1 8 rfl rfl)
theorem dX4_removeNode_31 : decode cX4_removeNode 31 = .ok (.aload_n 3, 1) := dk_45 (dk_at dksX4_removeNode_1 9 rfl rfl)
theorem dX4_removeNode_32 : decode cX4_removeNode 32 = .ok (.iload_n 2, 1) := dk_28 (dk_at dksX4_removeNode_1 10 rfl rfl)
theorem dX4_removeNode_33 : decode cX4_removeNode 33 = .ok (.invokevirtual 1, 3) := dk_182 0 1 (dk_at dksX4_removeNode_1 11 rfl rfl)
theorem dX4_removeNode_36 : decode cX4_removeNode 36 = .ok (.isub, 1) := dk_100 (dk_at dksX4_removeNode_1 14 rfl rfl)
theorem dX4_removeNode_37 : decode cX4_removeNode 37 = .ok (.invokevirtual 209, 3) := dk_182 0 209 (dk_at dksX4_removeNode_1 15 rfl rfl)
theorem dX4_removeNode_40 : decode cX4_removeNode 40 = .ok (.aload_n 3, 1) := dk_45 (dk_at dksX4_removeNode_1 18 rfl rfl)
theorem dX4_removeNode_41 : decode cX4_removeNode 41 = .ok (.getfield 116, 3) := dk_180 0 116 (dk_at dksX4_removeNode_1 19 rfl rfl)
theorem dX4_removeNode_44 : decode cX4_removeNode 44 = .ok (.ireturn, 1) := dk_172 (dk_at dksX4_removeNode_1 22 rfl rfl)
abbrev cX4_setLabel : ByteArray := prog_20_method_25_code
def yX4_setLabel : MethodName := ⟨RX4, "setLabel", "(IIC)I"⟩
def dkwX4_setLabel_3 : List UInt8 := [167, 0, 4, 3, 96, 54, 5, 132, 6, 1, 167, 255, 221, 21, 5, 172]
abbrev dktX4_setLabel_3 : List UInt8 := dkwX4_setLabel_3 ++ []
def dkwX4_setLabel_2 : List UInt8 := [25, 4, 180, 0, 116, 162, 0, 31, 21, 5, 25, 4, 180, 0, 11, 21, 6, 46, 29, 160, 0, 7, 4]
abbrev dktX4_setLabel_2 : List UInt8 := dkwX4_setLabel_2 ++ dktX4_setLabel_3
def dkwX4_setLabel_1 : List UInt8 := [42, 180, 0, 27, 27, 50, 58, 4, 25, 4, 180, 0, 11, 28, 29, 79, 3, 54, 5, 3, 54, 6, 21, 6]
abbrev dktX4_setLabel_1 : List UInt8 := dkwX4_setLabel_1 ++ dktX4_setLabel_2
def dkwX4_setLabel_0 : List UInt8 := [42, 27, 28, 182, 0, 202, 153, 0, 5, 3, 172, 29, 184, 0, 205, 154, 0, 9, 42, 5, 182, 0, 126, 172]
abbrev dktX4_setLabel_0 : List UInt8 := dkwX4_setLabel_0 ++ dktX4_setLabel_1
theorem dksX4_setLabel_0 : cX4_setLabel.data.toList.drop 0 = dktX4_setLabel_0 := by decide +kernel
theorem dksX4_setLabel_1 : cX4_setLabel.data.toList.drop 24 = dktX4_setLabel_1 := dk_seg dksX4_setLabel_0 24 rfl rfl
theorem dksX4_setLabel_2 : cX4_setLabel.data.toList.drop 48 = dktX4_setLabel_2 := dk_seg dksX4_setLabel_1 24 rfl rfl
theorem dksX4_setLabel_3 : cX4_setLabel.data.toList.drop 71 = dktX4_setLabel_3 := dk_seg dksX4_setLabel_2 23 rfl rfl
theorem dX4_setLabel_0 : decode cX4_setLabel 0 = .ok (.aload_n 0, 1) := dk_42 (dk_at dksX4_setLabel_0 0 rfl rfl)
theorem dX4_setLabel_1 : decode cX4_setLabel 1 = .ok (.iload_n 1, 1) := dk_27 (dk_at dksX4_setLabel_0 1 rfl rfl)
theorem dX4_setLabel_2 : decode cX4_setLabel 2 = .ok (.iload_n 2, 1) := dk_28 (dk_at dksX4_setLabel_0 2 rfl rfl)
theorem dX4_setLabel_3 : decode cX4_setLabel 3 = .ok (.invokevirtual 202, 3) := dk_182 0 202 (dk_at dksX4_setLabel_0 3 rfl rfl)
theorem dX4_setLabel_6 : decode cX4_setLabel 6 = .ok (.ifCond .eq 5, 3) := dk_153 0 5 (dk_at dksX4_setLabel_0 6 rfl rfl)
theorem dX4_setLabel_9 : decode cX4_setLabel 9 = .ok (.iconst 0, 1) := dk_3 (dk_at dksX4_setLabel_0 9 rfl rfl)
theorem dX4_setLabel_10 : decode cX4_setLabel 10 = .ok (.ireturn, 1) := dk_172 (dk_at dksX4_setLabel_0 10 rfl rfl)
theorem dX4_setLabel_11 : decode cX4_setLabel 11 = .ok (.iload_n 3, 1) := dk_29 (dk_at dksX4_setLabel_0 11 rfl rfl)
theorem dX4_setLabel_12 : decode cX4_setLabel 12 = .ok (.invokestatic 205, 3) := dk_184 0 205 (dk_at dksX4_setLabel_0 12 rfl rfl)
theorem dX4_setLabel_15 : decode cX4_setLabel 15 = .ok (.ifCond .ne 9, 3) := dk_154 0 9 (dk_at dksX4_setLabel_0 15 rfl rfl)
theorem dX4_setLabel_18 : decode cX4_setLabel 18 = .ok (.aload_n 0, 1) := dk_42 (dk_at dksX4_setLabel_0 18 rfl rfl)
theorem dX4_setLabel_19 : decode cX4_setLabel 19 = .ok (.iconst 2, 1) := dk_5 (dk_at dksX4_setLabel_0 19 rfl rfl)
theorem dX4_setLabel_20 : decode cX4_setLabel 20 = .ok (.invokevirtual 126, 3) := dk_182 0 126 (dk_at dksX4_setLabel_0 20 rfl rfl)
theorem dX4_setLabel_23 : decode cX4_setLabel 23 = .ok (.ireturn, 1) := dk_172 (dk_at dksX4_setLabel_0 23 rfl rfl)
theorem dX4_setLabel_24 : decode cX4_setLabel 24 = .ok (.aload_n 0, 1) := dk_42 (dk_at dksX4_setLabel_1 0 rfl rfl)
theorem dX4_setLabel_25 : decode cX4_setLabel 25 = .ok (.getfield 27, 3) := dk_180 0 27 (dk_at dksX4_setLabel_1 1 rfl rfl)
theorem dX4_setLabel_28 : decode cX4_setLabel 28 = .ok (.iload_n 1, 1) := dk_27 (dk_at dksX4_setLabel_1 4 rfl rfl)
theorem dX4_setLabel_29 : decode cX4_setLabel 29 = .ok (.aaload, 1) := dk_50 (dk_at dksX4_setLabel_1 5 rfl rfl)
theorem dX4_setLabel_30 : decode cX4_setLabel 30 = .ok (.astore 4, 2) := dk_58 4 (dk_at dksX4_setLabel_1 6 rfl rfl)
theorem dX4_setLabel_32 : decode cX4_setLabel 32 = .ok (.aload 4, 2) := dk_25 4 (dk_at dksX4_setLabel_1 8 rfl rfl)
theorem dX4_setLabel_34 : decode cX4_setLabel 34 = .ok (.getfield 11, 3) := dk_180 0 11 (dk_at dksX4_setLabel_1 10 rfl rfl)
theorem dX4_setLabel_37 : decode cX4_setLabel 37 = .ok (.iload_n 2, 1) := dk_28 (dk_at dksX4_setLabel_1 13 rfl rfl)
theorem dX4_setLabel_38 : decode cX4_setLabel 38 = .ok (.iload_n 3, 1) := dk_29 (dk_at dksX4_setLabel_1 14 rfl rfl)
theorem dX4_setLabel_39 : decode cX4_setLabel 39 = .ok (.iastore, 1) := dk_79 (dk_at dksX4_setLabel_1 15 rfl rfl)
theorem dX4_setLabel_40 : decode cX4_setLabel 40 = .ok (.iconst 0, 1) := dk_3 (dk_at dksX4_setLabel_1 16 rfl rfl)
theorem dX4_setLabel_41 : decode cX4_setLabel 41 = .ok (.istore 5, 2) := dk_54 5 (dk_at dksX4_setLabel_1 17 rfl rfl)
theorem dX4_setLabel_43 : decode cX4_setLabel 43 = .ok (.iconst 0, 1) := dk_3 (dk_at dksX4_setLabel_1 19 rfl rfl)
theorem dX4_setLabel_44 : decode cX4_setLabel 44 = .ok (.istore 6, 2) := dk_54 6 (dk_at dksX4_setLabel_1 20 rfl rfl)
theorem dX4_setLabel_46 : decode cX4_setLabel 46 = .ok (.iload 6, 2) := dk_21 6 (dk_at dksX4_setLabel_1 22 rfl rfl)
theorem dX4_setLabel_48 : decode cX4_setLabel 48 = .ok (.aload 4, 2) := dk_25 4 (dk_at dksX4_setLabel_2 0 rfl rfl)
theorem dX4_setLabel_50 : decode cX4_setLabel 50 = .ok (.getfield 116, 3) := dk_180 0 116 (dk_at dksX4_setLabel_2 2 rfl rfl)
theorem dX4_setLabel_53 : decode cX4_setLabel 53 = .ok (.if_icmp .ge 31, 3) := dk_162 0 31 (dk_at dksX4_setLabel_2 5 rfl rfl)
theorem dX4_setLabel_56 : decode cX4_setLabel 56 = .ok (.iload 5, 2) := dk_21 5 (dk_at dksX4_setLabel_2 8 rfl rfl)
theorem dX4_setLabel_58 : decode cX4_setLabel 58 = .ok (.aload 4, 2) := dk_25 4 (dk_at dksX4_setLabel_2 10 rfl rfl)
theorem dX4_setLabel_60 : decode cX4_setLabel 60 = .ok (.getfield 11, 3) := dk_180 0 11 (dk_at dksX4_setLabel_2 12 rfl rfl)
theorem dX4_setLabel_63 : decode cX4_setLabel 63 = .ok (.iload 6, 2) := dk_21 6 (dk_at dksX4_setLabel_2 15 rfl rfl)
theorem dX4_setLabel_65 : decode cX4_setLabel 65 = .ok (.iaload, 1) := dk_46 (dk_at dksX4_setLabel_2 17 rfl rfl)
theorem dX4_setLabel_66 : decode cX4_setLabel 66 = .ok (.iload_n 3, 1) := dk_29 (dk_at dksX4_setLabel_2 18 rfl rfl)
theorem dX4_setLabel_67 : decode cX4_setLabel 67 = .ok (.if_icmp .ne 7, 3) := dk_160 0 7 (dk_at dksX4_setLabel_2 19 rfl rfl)
theorem dX4_setLabel_70 : decode cX4_setLabel 70 = .ok (.iconst 1, 1) := dk_4 (dk_at dksX4_setLabel_2 22 rfl rfl)
theorem dX4_setLabel_71 : decode cX4_setLabel 71 = .ok (.goto 4, 3) := dk_167 0 4 (dk_at dksX4_setLabel_3 0 rfl rfl)
theorem dX4_setLabel_74 : decode cX4_setLabel 74 = .ok (.iconst 0, 1) := dk_3 (dk_at dksX4_setLabel_3 3 rfl rfl)
theorem dX4_setLabel_75 : decode cX4_setLabel 75 = .ok (.iadd, 1) := dk_96 (dk_at dksX4_setLabel_3 4 rfl rfl)
theorem dX4_setLabel_76 : decode cX4_setLabel 76 = .ok (.istore 5, 2) := dk_54 5 (dk_at dksX4_setLabel_3 5 rfl rfl)
theorem dX4_setLabel_78 : decode cX4_setLabel 78 = .ok (.iinc 6 1, 3) := dk_132 6 1 (dk_at dksX4_setLabel_3 7 rfl rfl)
theorem dX4_setLabel_81 : decode cX4_setLabel 81 = .ok (.goto (-35), 3) := dk_167 255 221 (dk_at dksX4_setLabel_3 10 rfl rfl)
theorem dX4_setLabel_84 : decode cX4_setLabel 84 = .ok (.iload 5, 2) := dk_21 5 (dk_at dksX4_setLabel_3 13 rfl rfl)
theorem dX4_setLabel_86 : decode cX4_setLabel 86 = .ok (.ireturn, 1) := dk_172 (dk_at dksX4_setLabel_3 15 rfl rfl)
abbrev cX4_setKey : ByteArray := prog_20_method_26_code
def yX4_setKey : MethodName := ⟨RX4, "setKey", "(III)I"⟩
def dkwX4_setKey_3 : List UInt8 := [180, 0, 14, 28, 46, 54, 5, 25, 4, 180, 0, 14, 28, 29, 79, 21, 5, 172]
abbrev dktX4_setKey_3 : List UInt8 := dkwX4_setKey_3 ++ []
def dkwX4_setKey_2 : List UInt8 := [25, 4, 180, 0, 7, 28, 46, 29, 28, 182, 0, 146, 153, 0, 9, 42, 7, 182, 0, 126, 172, 25, 4]
abbrev dktX4_setKey_2 : List UInt8 := dkwX4_setKey_2 ++ dktX4_setKey_3
def dkwX4_setKey_1 : List UInt8 := [182, 0, 126, 172, 28, 154, 0, 9, 42, 6, 182, 0, 126, 172, 42, 180, 0, 27, 27, 50, 58, 4, 25, 4]
abbrev dktX4_setKey_1 : List UInt8 := dkwX4_setKey_1 ++ dktX4_setKey_2
def dkwX4_setKey_0 : List UInt8 := [42, 27, 28, 182, 0, 202, 153, 0, 5, 3, 172, 29, 3, 16, 9, 184, 0, 108, 154, 0, 9, 42, 5]
abbrev dktX4_setKey_0 : List UInt8 := dkwX4_setKey_0 ++ dktX4_setKey_1
theorem dksX4_setKey_0 : cX4_setKey.data.toList.drop 0 = dktX4_setKey_0 := by decide +kernel
theorem dksX4_setKey_1 : cX4_setKey.data.toList.drop 23 = dktX4_setKey_1 := dk_seg dksX4_setKey_0 23 rfl rfl
theorem dksX4_setKey_2 : cX4_setKey.data.toList.drop 47 = dktX4_setKey_2 := dk_seg dksX4_setKey_1 24 rfl rfl
theorem dksX4_setKey_3 : cX4_setKey.data.toList.drop 70 = dktX4_setKey_3 := dk_seg dksX4_setKey_2 23 rfl rfl
theorem dX4_setKey_0 : decode cX4_setKey 0 = .ok (.aload_n 0, 1) := dk_42 (dk_at dksX4_setKey_0 0 rfl rfl)
theorem dX4_setKey_1 : decode cX4_setKey 1 = .ok (.iload_n 1, 1) := dk_27 (dk_at dksX4_setKey_0 1 rfl rfl)
theorem dX4_setKey_2 : decode cX4_setKey 2 = .ok (.iload_n 2, 1) := dk_28 (dk_at dksX4_setKey_0 2 rfl rfl)
theorem dX4_setKey_3 : decode cX4_setKey 3 = .ok (.invokevirtual 202, 3) := dk_182 0 202 (dk_at dksX4_setKey_0 3 rfl rfl)
theorem dX4_setKey_6 : decode cX4_setKey 6 = .ok (.ifCond .eq 5, 3) := dk_153 0 5 (dk_at dksX4_setKey_0 6 rfl rfl)
theorem dX4_setKey_9 : decode cX4_setKey 9 = .ok (.iconst 0, 1) := dk_3 (dk_at dksX4_setKey_0 9 rfl rfl)
theorem dX4_setKey_10 : decode cX4_setKey 10 = .ok (.ireturn, 1) := dk_172 (dk_at dksX4_setKey_0 10 rfl rfl)
theorem dX4_setKey_11 : decode cX4_setKey 11 = .ok (.iload_n 3, 1) := dk_29 (dk_at dksX4_setKey_0 11 rfl rfl)
theorem dX4_setKey_12 : decode cX4_setKey 12 = .ok (.iconst 0, 1) := dk_3 (dk_at dksX4_setKey_0 12 rfl rfl)
theorem dX4_setKey_13 : decode cX4_setKey 13 = .ok (.bipush 9, 2) := dk_16 9 (dk_at dksX4_setKey_0 13 rfl rfl)
theorem dX4_setKey_15 : decode cX4_setKey 15 = .ok (.invokestatic 108, 3) := dk_184 0 108 (dk_at dksX4_setKey_0 15 rfl rfl)
theorem dX4_setKey_18 : decode cX4_setKey 18 = .ok (.ifCond .ne 9, 3) := dk_154 0 9 (dk_at dksX4_setKey_0 18 rfl rfl)
theorem dX4_setKey_21 : decode cX4_setKey 21 = .ok (.aload_n 0, 1) := dk_42 (dk_at dksX4_setKey_0 21 rfl rfl)
theorem dX4_setKey_22 : decode cX4_setKey 22 = .ok (.iconst 2, 1) := dk_5 (dk_at dksX4_setKey_0 22 rfl rfl)
theorem dX4_setKey_23 : decode cX4_setKey 23 = .ok (.invokevirtual 126, 3) := dk_182 0 126 (dk_at dksX4_setKey_1 0 rfl rfl)
theorem dX4_setKey_26 : decode cX4_setKey 26 = .ok (.ireturn, 1) := dk_172 (dk_at dksX4_setKey_1 3 rfl rfl)
theorem dX4_setKey_27 : decode cX4_setKey 27 = .ok (.iload_n 2, 1) := dk_28 (dk_at dksX4_setKey_1 4 rfl rfl)
theorem dX4_setKey_28 : decode cX4_setKey 28 = .ok (.ifCond .ne 9, 3) := dk_154 0 9 (dk_at dksX4_setKey_1 5 rfl rfl)
theorem dX4_setKey_31 : decode cX4_setKey 31 = .ok (.aload_n 0, 1) := dk_42 (dk_at dksX4_setKey_1 8 rfl rfl)
theorem dX4_setKey_32 : decode cX4_setKey 32 = .ok (.iconst 3, 1) := dk_6 (dk_at dksX4_setKey_1 9 rfl rfl)
theorem dX4_setKey_33 : decode cX4_setKey 33 = .ok (.invokevirtual 126, 3) := dk_182 0 126 (dk_at dksX4_setKey_1 10 rfl rfl)
theorem dX4_setKey_36 : decode cX4_setKey 36 = .ok (.ireturn, 1) := dk_172 (dk_at dksX4_setKey_1 13 rfl rfl)
theorem dX4_setKey_37 : decode cX4_setKey 37 = .ok (.aload_n 0, 1) := dk_42 (dk_at dksX4_setKey_1 14 rfl rfl)
theorem dX4_setKey_38 : decode cX4_setKey 38 = .ok (.getfield 27, 3) := dk_180 0 27 (dk_at dksX4_setKey_1 15 rfl rfl)
theorem dX4_setKey_41 : decode cX4_setKey 41 = .ok (.iload_n 1, 1) := dk_27 (dk_at dksX4_setKey_1 18 rfl rfl)
theorem dX4_setKey_42 : decode cX4_setKey 42 = .ok (.aaload, 1) := dk_50 (dk_at dksX4_setKey_1 19 rfl rfl)
theorem dX4_setKey_43 : decode cX4_setKey 43 = .ok (.astore 4, 2) := dk_58 4 (dk_at dksX4_setKey_1 20 rfl rfl)
theorem dX4_setKey_45 : decode cX4_setKey 45 = .ok (.aload 4, 2) := dk_25 4 (dk_at dksX4_setKey_1 22 rfl rfl)
theorem dX4_setKey_47 : decode cX4_setKey 47 = .ok (.aload 4, 2) := dk_25 4 (dk_at dksX4_setKey_2 0 rfl rfl)
theorem dX4_setKey_49 : decode cX4_setKey 49 = .ok (.getfield 7, 3) := dk_180 0 7 (dk_at dksX4_setKey_2 2 rfl rfl)
theorem dX4_setKey_52 : decode cX4_setKey 52 = .ok (.iload_n 2, 1) := dk_28 (dk_at dksX4_setKey_2 5 rfl rfl)
theorem dX4_setKey_53 : decode cX4_setKey 53 = .ok (.iaload, 1) := dk_46 (dk_at dksX4_setKey_2 6 rfl rfl)
theorem dX4_setKey_54 : decode cX4_setKey 54 = .ok (.iload_n 3, 1) := dk_29 (dk_at dksX4_setKey_2 7 rfl rfl)
theorem dX4_setKey_55 : decode cX4_setKey 55 = .ok (.iload_n 2, 1) := dk_28 (dk_at dksX4_setKey_2 8 rfl rfl)
theorem dX4_setKey_56 : decode cX4_setKey 56 = .ok (.invokevirtual 146, 3) := dk_182 0 146 (dk_at dksX4_setKey_2 9 rfl rfl)
theorem dX4_setKey_59 : decode cX4_setKey 59 = .ok (.ifCond .eq 9, 3) := dk_153 0 9 (dk_at dksX4_setKey_2 12 rfl rfl)
theorem dX4_setKey_62 : decode cX4_setKey 62 = .ok (.aload_n 0, 1) := dk_42 (dk_at dksX4_setKey_2 15 rfl rfl)
theorem dX4_setKey_63 : decode cX4_setKey 63 = .ok (.iconst 4, 1) := dk_7 (dk_at dksX4_setKey_2 16 rfl rfl)
theorem dX4_setKey_64 : decode cX4_setKey 64 = .ok (.invokevirtual 126, 3) := dk_182 0 126 (dk_at dksX4_setKey_2 17 rfl rfl)
theorem dX4_setKey_67 : decode cX4_setKey 67 = .ok (.ireturn, 1) := dk_172 (dk_at dksX4_setKey_2 20 rfl rfl)
theorem dX4_setKey_68 : decode cX4_setKey 68 = .ok (.aload 4, 2) := dk_25 4 (dk_at dksX4_setKey_2 21 rfl rfl)
theorem dX4_setKey_70 : decode cX4_setKey 70 = .ok (.getfield 14, 3) := dk_180 0 14 (dk_at dksX4_setKey_3 0 rfl rfl)
theorem dX4_setKey_73 : decode cX4_setKey 73 = .ok (.iload_n 2, 1) := dk_28 (dk_at dksX4_setKey_3 3 rfl rfl)
theorem dX4_setKey_74 : decode cX4_setKey 74 = .ok (.iaload, 1) := dk_46 (dk_at dksX4_setKey_3 4 rfl rfl)
theorem dX4_setKey_75 : decode cX4_setKey 75 = .ok (.istore 5, 2) := dk_54 5 (dk_at dksX4_setKey_3 5 rfl rfl)
theorem dX4_setKey_77 : decode cX4_setKey 77 = .ok (.aload 4, 2) := dk_25 4 (dk_at dksX4_setKey_3 7 rfl rfl)
theorem dX4_setKey_79 : decode cX4_setKey 79 = .ok (.getfield 14, 3) := dk_180 0 14 (dk_at dksX4_setKey_3 9 rfl rfl)
theorem dX4_setKey_82 : decode cX4_setKey 82 = .ok (.iload_n 2, 1) := dk_28 (dk_at dksX4_setKey_3 12 rfl rfl)
theorem dX4_setKey_83 : decode cX4_setKey 83 = .ok (.iload_n 3, 1) := dk_29 (dk_at dksX4_setKey_3 13 rfl rfl)
theorem dX4_setKey_84 : decode cX4_setKey 84 = .ok (.iastore, 1) := dk_79 (dk_at dksX4_setKey_3 14 rfl rfl)
theorem dX4_setKey_85 : decode cX4_setKey 85 = .ok (.iload 5, 2) := dk_21 5 (dk_at dksX4_setKey_3 15 rfl rfl)
theorem dX4_setKey_87 : decode cX4_setKey 87 = .ok (.ireturn, 1) := dk_172 (dk_at dksX4_setKey_3 17 rfl rfl)
abbrev cX4_setValue : ByteArray := prog_20_method_27_code
def yX4_setValue : MethodName := ⟨RX4, "setValue", "(III)I"⟩
def dkwX4_setValue_2 : List UInt8 := [180, 0, 17, 28, 29, 79, 21, 4, 172]
abbrev dktX4_setValue_2 : List UInt8 := dkwX4_setValue_2 ++ []
def dkwX4_setValue_1 : List UInt8 := [182, 0, 126, 172, 42, 180, 0, 27, 27, 50, 180, 0, 17, 28, 46, 54, 4, 42, 180, 0, 27, 27, 50]
abbrev dktX4_setValue_1 : List UInt8 := dkwX4_setValue_1 ++ dktX4_setValue_2
def dkwX4_setValue_0 : List UInt8 := [42, 27, 28, 182, 0, 202, 153, 0, 5, 3, 172, 29, 3, 16, 99, 184, 0, 108, 154, 0, 9, 42, 5]
abbrev dktX4_setValue_0 : List UInt8 := dkwX4_setValue_0 ++ dktX4_setValue_1
theorem dksX4_setValue_0 : cX4_setValue.data.toList.drop 0 = dktX4_setValue_0 := by decide +kernel
theorem dksX4_setValue_1 : cX4_setValue.data.toList.drop 23 = dktX4_setValue_1 := dk_seg dksX4_setValue_0 23 rfl rfl
theorem dksX4_setValue_2 : cX4_setValue.data.toList.drop 46 = dktX4_setValue_2 := dk_seg dksX4_setValue_1 23 rfl rfl
theorem dX4_setValue_0 : decode cX4_setValue 0 = .ok (.aload_n 0, 1) := dk_42 (dk_at dksX4_setValue_0 0 rfl rfl)
theorem dX4_setValue_1 : decode cX4_setValue 1 = .ok (.iload_n 1, 1) := dk_27 (dk_at dksX4_setValue_0 1 rfl rfl)
theorem dX4_setValue_2 : decode cX4_setValue 2 = .ok (.iload_n 2, 1) := dk_28 (dk_at dksX4_setValue_0 2 rfl rfl)
theorem dX4_setValue_3 : decode cX4_setValue 3 = .ok (.invokevirtual 202, 3) := dk_182 0 202 (dk_at dksX4_setValue_0 3 rfl rfl)
theorem dX4_setValue_6 : decode cX4_setValue 6 = .ok (.ifCond .eq 5, 3) := dk_153 0 5 (dk_at dksX4_setValue_0 6 rfl rfl)
theorem dX4_setValue_9 : decode cX4_setValue 9 = .ok (.iconst 0, 1) := dk_3 (dk_at dksX4_setValue_0 9 rfl rfl)
theorem dX4_setValue_10 : decode cX4_setValue 10 = .ok (.ireturn, 1) := dk_172 (dk_at dksX4_setValue_0 10 rfl rfl)
theorem dX4_setValue_11 : decode cX4_setValue 11 = .ok (.iload_n 3, 1) := dk_29 (dk_at dksX4_setValue_0 11 rfl rfl)
theorem dX4_setValue_12 : decode cX4_setValue 12 = .ok (.iconst 0, 1) := dk_3 (dk_at dksX4_setValue_0 12 rfl rfl)
theorem dX4_setValue_13 : decode cX4_setValue 13 = .ok (.bipush 99, 2) := dk_16 99 (dk_at dksX4_setValue_0 13 rfl rfl)
theorem dX4_setValue_15 : decode cX4_setValue 15 = .ok (.invokestatic 108, 3) := dk_184 0 108 (dk_at dksX4_setValue_0 15 rfl rfl)
theorem dX4_setValue_18 : decode cX4_setValue 18 = .ok (.ifCond .ne 9, 3) := dk_154 0 9 (dk_at dksX4_setValue_0 18 rfl rfl)
theorem dX4_setValue_21 : decode cX4_setValue 21 = .ok (.aload_n 0, 1) := dk_42 (dk_at dksX4_setValue_0 21 rfl rfl)
theorem dX4_setValue_22 : decode cX4_setValue 22 = .ok (.iconst 2, 1) := dk_5 (dk_at dksX4_setValue_0 22 rfl rfl)
theorem dX4_setValue_23 : decode cX4_setValue 23 = .ok (.invokevirtual 126, 3) := dk_182 0 126 (dk_at dksX4_setValue_1 0 rfl rfl)
theorem dX4_setValue_26 : decode cX4_setValue 26 = .ok (.ireturn, 1) := dk_172 (dk_at dksX4_setValue_1 3 rfl rfl)
theorem dX4_setValue_27 : decode cX4_setValue 27 = .ok (.aload_n 0, 1) := dk_42 (dk_at dksX4_setValue_1 4 rfl rfl)
theorem dX4_setValue_28 : decode cX4_setValue 28 = .ok (.getfield 27, 3) := dk_180 0 27 (dk_at dksX4_setValue_1 5 rfl rfl)
theorem dX4_setValue_31 : decode cX4_setValue 31 = .ok (.iload_n 1, 1) := dk_27 (dk_at dksX4_setValue_1 8 rfl rfl)
theorem dX4_setValue_32 : decode cX4_setValue 32 = .ok (.aaload, 1) := dk_50 (dk_at dksX4_setValue_1 9 rfl rfl)
theorem dX4_setValue_33 : decode cX4_setValue 33 = .ok (.getfield 17, 3) := dk_180 0 17 (dk_at dksX4_setValue_1 10 rfl rfl)
theorem dX4_setValue_36 : decode cX4_setValue 36 = .ok (.iload_n 2, 1) := dk_28 (dk_at dksX4_setValue_1 13 rfl rfl)
theorem dX4_setValue_37 : decode cX4_setValue 37 = .ok (.iaload, 1) := dk_46 (dk_at dksX4_setValue_1 14 rfl rfl)
theorem dX4_setValue_38 : decode cX4_setValue 38 = .ok (.istore 4, 2) := dk_54 4 (dk_at dksX4_setValue_1 15 rfl rfl)
theorem dX4_setValue_40 : decode cX4_setValue 40 = .ok (.aload_n 0, 1) := dk_42 (dk_at dksX4_setValue_1 17 rfl rfl)
theorem dX4_setValue_41 : decode cX4_setValue 41 = .ok (.getfield 27, 3) := dk_180 0 27 (dk_at dksX4_setValue_1 18 rfl rfl)
theorem dX4_setValue_44 : decode cX4_setValue 44 = .ok (.iload_n 1, 1) := dk_27 (dk_at dksX4_setValue_1 21 rfl rfl)
theorem dX4_setValue_45 : decode cX4_setValue 45 = .ok (.aaload, 1) := dk_50 (dk_at dksX4_setValue_1 22 rfl rfl)
theorem dX4_setValue_46 : decode cX4_setValue 46 = .ok (.getfield 17, 3) := dk_180 0 17 (dk_at dksX4_setValue_2 0 rfl rfl)
theorem dX4_setValue_49 : decode cX4_setValue 49 = .ok (.iload_n 2, 1) := dk_28 (dk_at dksX4_setValue_2 3 rfl rfl)
theorem dX4_setValue_50 : decode cX4_setValue 50 = .ok (.iload_n 3, 1) := dk_29 (dk_at dksX4_setValue_2 4 rfl rfl)
theorem dX4_setValue_51 : decode cX4_setValue 51 = .ok (.iastore, 1) := dk_79 (dk_at dksX4_setValue_2 5 rfl rfl)
theorem dX4_setValue_52 : decode cX4_setValue 52 = .ok (.iload 4, 2) := dk_21 4 (dk_at dksX4_setValue_2 6 rfl rfl)
theorem dX4_setValue_54 : decode cX4_setValue 54 = .ok (.ireturn, 1) := dk_172 (dk_at dksX4_setValue_2 8 rfl rfl)
abbrev cX4_copyTree : ByteArray := prog_20_method_29_code
def yX4_copyTree : MethodName := ⟨RX4, "copyTree", "(II)I"⟩
def dkwX4_copyTree_1 : List UInt8 := [182, 0, 157, 42, 180, 0, 27, 27, 50, 180, 0, 116, 172]
abbrev dktX4_copyTree_1 : List UInt8 := dkwX4_copyTree_1 ++ []
def dkwX4_copyTree_0 : List UInt8 := [42, 27, 28, 182, 0, 217, 153, 0, 5, 3, 172, 42, 180, 0, 27, 28, 50, 42, 180, 0, 27, 27, 50]
abbrev dktX4_copyTree_0 : List UInt8 := dkwX4_copyTree_0 ++ dktX4_copyTree_1
theorem dksX4_copyTree_0 : cX4_copyTree.data.toList.drop 0 = dktX4_copyTree_0 := by decide +kernel
theorem dksX4_copyTree_1 : cX4_copyTree.data.toList.drop 23 = dktX4_copyTree_1 := dk_seg dksX4_copyTree_0 23 rfl rfl
theorem dX4_copyTree_0 : decode cX4_copyTree 0 = .ok (.aload_n 0, 1) := dk_42 (dk_at dksX4_copyTree_0 0 rfl rfl)
theorem dX4_copyTree_1 : decode cX4_copyTree 1 = .ok (.iload_n 1, 1) := dk_27 (dk_at dksX4_copyTree_0 1 rfl rfl)
theorem dX4_copyTree_2 : decode cX4_copyTree 2 = .ok (.iload_n 2, 1) := dk_28 (dk_at dksX4_copyTree_0 2 rfl rfl)
theorem dX4_copyTree_3 : decode cX4_copyTree 3 = .ok (.invokevirtual 217, 3) := dk_182 0 217 (dk_at dksX4_copyTree_0 3 rfl rfl)
theorem dX4_copyTree_6 : decode cX4_copyTree 6 = .ok (.ifCond .eq 5, 3) := dk_153 0 5 (dk_at dksX4_copyTree_0 6 rfl rfl)
theorem dX4_copyTree_9 : decode cX4_copyTree 9 = .ok (.iconst 0, 1) := dk_3 (dk_at dksX4_copyTree_0 9 rfl rfl)
theorem dX4_copyTree_10 : decode cX4_copyTree 10 = .ok (.ireturn, 1) := dk_172 (dk_at dksX4_copyTree_0 10 rfl rfl)
theorem dX4_copyTree_11 : decode cX4_copyTree 11 = .ok (.aload_n 0, 1) := dk_42 (dk_at dksX4_copyTree_0 11 rfl rfl)
theorem dX4_copyTree_12 : decode cX4_copyTree 12 = .ok (.getfield 27, 3) := dk_180 0 27 (dk_at dksX4_copyTree_0 12 rfl rfl)
theorem dX4_copyTree_15 : decode cX4_copyTree 15 = .ok (.iload_n 2, 1) := dk_28 (dk_at dksX4_copyTree_0 15 rfl rfl)
theorem dX4_copyTree_16 : decode cX4_copyTree 16 = .ok (.aaload, 1) := dk_50 (dk_at dksX4_copyTree_0 16 rfl rfl)
theorem dX4_copyTree_17 : decode cX4_copyTree 17 = .ok (.aload_n 0, 1) := dk_42 (dk_at dksX4_copyTree_0 17 rfl rfl)
theorem dX4_copyTree_18 : decode cX4_copyTree 18 = .ok (.getfield 27, 3) := dk_180 0 27 (dk_at dksX4_copyTree_0 18 rfl rfl)
theorem dX4_copyTree_21 : decode cX4_copyTree 21 = .ok (.iload_n 1, 1) := dk_27 (dk_at dksX4_copyTree_0 21 rfl rfl)
theorem dX4_copyTree_22 : decode cX4_copyTree 22 = .ok (.aaload, 1) := dk_50 (dk_at dksX4_copyTree_0 22 rfl rfl)
theorem dX4_copyTree_23 : decode cX4_copyTree 23 = .ok (.invokevirtual 157, 3) := dk_182 0 157 (dk_at dksX4_copyTree_1 0 rfl rfl)
theorem dX4_copyTree_26 : decode cX4_copyTree 26 = .ok (.aload_n 0, 1) := dk_42 (dk_at dksX4_copyTree_1 3 rfl rfl)
theorem dX4_copyTree_27 : decode cX4_copyTree 27 = .ok (.getfield 27, 3) := dk_180 0 27 (dk_at dksX4_copyTree_1 4 rfl rfl)
theorem dX4_copyTree_30 : decode cX4_copyTree 30 = .ok (.iload_n 1, 1) := dk_27 (dk_at dksX4_copyTree_1 7 rfl rfl)
theorem dX4_copyTree_31 : decode cX4_copyTree 31 = .ok (.aaload, 1) := dk_50 (dk_at dksX4_copyTree_1 8 rfl rfl)
theorem dX4_copyTree_32 : decode cX4_copyTree 32 = .ok (.getfield 116, 3) := dk_180 0 116 (dk_at dksX4_copyTree_1 9 rfl rfl)
theorem dX4_copyTree_35 : decode cX4_copyTree 35 = .ok (.ireturn, 1) := dk_172 (dk_at dksX4_copyTree_1 12 rfl rfl)
abbrev cX4_areNone : ByteArray := prog_20_method_28_code
def yX4_areNone : MethodName := ⟨RX4, "areNone", "(II)Z"⟩
def dkwX4_areNone_1 : List UInt8 := [180, 0, 105, 158, 0, 7, 4, 167, 0, 4, 3, 172]
abbrev dktX4_areNone_1 : List UInt8 := dkwX4_areNone_1 ++ []
def dkwX4_areNone_0 : List UInt8 := [42, 27, 184, 0, 112, 153, 0, 14, 28, 184, 0, 112, 153, 0, 7, 3, 167, 0, 4, 4, 181, 0, 105, 42]
abbrev dktX4_areNone_0 : List UInt8 := dkwX4_areNone_0 ++ dktX4_areNone_1
theorem dksX4_areNone_0 : cX4_areNone.data.toList.drop 0 = dktX4_areNone_0 := by decide +kernel
theorem dksX4_areNone_1 : cX4_areNone.data.toList.drop 24 = dktX4_areNone_1 := dk_seg dksX4_areNone_0 24 rfl rfl
theorem dX4_areNone_0 : decode cX4_areNone 0 = .ok (.aload_n 0, 1) := dk_42 (dk_at dksX4_areNone_0 0 rfl rfl)
theorem dX4_areNone_1 : decode cX4_areNone 1 = .ok (.iload_n 1, 1) := dk_27 (dk_at dksX4_areNone_0 1 rfl rfl)
theorem dX4_areNone_2 : decode cX4_areNone 2 = .ok (.invokestatic 112, 3) := dk_184 0 112 (dk_at dksX4_areNone_0 2 rfl rfl)
theorem dX4_areNone_5 : decode cX4_areNone 5 = .ok (.ifCond .eq 14, 3) := dk_153 0 14 (dk_at dksX4_areNone_0 5 rfl rfl)
theorem dX4_areNone_8 : decode cX4_areNone 8 = .ok (.iload_n 2, 1) := dk_28 (dk_at dksX4_areNone_0 8 rfl rfl)
theorem dX4_areNone_9 : decode cX4_areNone 9 = .ok (.invokestatic 112, 3) := dk_184 0 112 (dk_at dksX4_areNone_0 9 rfl rfl)
theorem dX4_areNone_12 : decode cX4_areNone 12 = .ok (.ifCond .eq 7, 3) := dk_153 0 7 (dk_at dksX4_areNone_0 12 rfl rfl)
theorem dX4_areNone_15 : decode cX4_areNone 15 = .ok (.iconst 0, 1) := dk_3 (dk_at dksX4_areNone_0 15 rfl rfl)
theorem dX4_areNone_16 : decode cX4_areNone 16 = .ok (.goto 4, 3) := dk_167 0 4 (dk_at dksX4_areNone_0 16 rfl rfl)
theorem dX4_areNone_19 : decode cX4_areNone 19 = .ok (.iconst 1, 1) := dk_4 (dk_at dksX4_areNone_0 19 rfl rfl)
theorem dX4_areNone_20 : decode cX4_areNone 20 = .ok (.putfield 105, 3) := dk_181 0 105 (dk_at dksX4_areNone_0 20 rfl rfl)
theorem dX4_areNone_23 : decode cX4_areNone 23 = .ok (.aload_n 0, 1) := dk_42 (dk_at dksX4_areNone_0 23 rfl rfl)
theorem dX4_areNone_24 : decode cX4_areNone 24 = .ok (.getfield 105, 3) := dk_180 0 105 (dk_at dksX4_areNone_1 0 rfl rfl)
theorem dX4_areNone_27 : decode cX4_areNone 27 = .ok (.ifCond .le 7, 3) := dk_158 0 7 (dk_at dksX4_areNone_1 3 rfl rfl)
theorem dX4_areNone_30 : decode cX4_areNone 30 = .ok (.iconst 1, 1) := dk_4 (dk_at dksX4_areNone_1 6 rfl rfl)
theorem dX4_areNone_31 : decode cX4_areNone 31 = .ok (.goto 4, 3) := dk_167 0 4 (dk_at dksX4_areNone_1 7 rfl rfl)
theorem dX4_areNone_34 : decode cX4_areNone 34 = .ok (.iconst 0, 1) := dk_3 (dk_at dksX4_areNone_1 10 rfl rfl)
theorem dX4_areNone_35 : decode cX4_areNone 35 = .ok (.ireturn, 1) := dk_172 (dk_at dksX4_areNone_1 11 rfl rfl)
abbrev cX4_size : ByteArray := prog_20_method_30_code
def yX4_size : MethodName := ⟨RX4, "size", "(I)I"⟩
def dkwX4_size_0 : List UInt8 := [42, 27, 27, 182, 0, 217, 153, 0, 7, 3, 167, 0, 12, 42, 180, 0, 27, 27, 50, 180, 0, 116, 172]
abbrev dktX4_size_0 : List UInt8 := dkwX4_size_0 ++ []
theorem dksX4_size_0 : cX4_size.data.toList.drop 0 = dktX4_size_0 := by decide +kernel
theorem dX4_size_0 : decode cX4_size 0 = .ok (.aload_n 0, 1) := dk_42 (dk_at dksX4_size_0 0 rfl rfl)
theorem dX4_size_1 : decode cX4_size 1 = .ok (.iload_n 1, 1) := dk_27 (dk_at dksX4_size_0 1 rfl rfl)
theorem dX4_size_2 : decode cX4_size 2 = .ok (.iload_n 1, 1) := dk_27 (dk_at dksX4_size_0 2 rfl rfl)
theorem dX4_size_3 : decode cX4_size 3 = .ok (.invokevirtual 217, 3) := dk_182 0 217 (dk_at dksX4_size_0 3 rfl rfl)
theorem dX4_size_6 : decode cX4_size 6 = .ok (.ifCond .eq 7, 3) := dk_153 0 7 (dk_at dksX4_size_0 6 rfl rfl)
theorem dX4_size_9 : decode cX4_size 9 = .ok (.iconst 0, 1) := dk_3 (dk_at dksX4_size_0 9 rfl rfl)
theorem dX4_size_10 : decode cX4_size 10 = .ok (.goto 12, 3) := dk_167 0 12 (dk_at dksX4_size_0 10 rfl rfl)
theorem dX4_size_13 : decode cX4_size 13 = .ok (.aload_n 0, 1) := dk_42 (dk_at dksX4_size_0 13 rfl rfl)
theorem dX4_size_14 : decode cX4_size 14 = .ok (.getfield 27, 3) := dk_180 0 27 (dk_at dksX4_size_0 14 rfl rfl)
theorem dX4_size_17 : decode cX4_size 17 = .ok (.iload_n 1, 1) := dk_27 (dk_at dksX4_size_0 17 rfl rfl)
theorem dX4_size_18 : decode cX4_size 18 = .ok (.aaload, 1) := dk_50 (dk_at dksX4_size_0 18 rfl rfl)
theorem dX4_size_19 : decode cX4_size 19 = .ok (.getfield 116, 3) := dk_180 0 116 (dk_at dksX4_size_0 19 rfl rfl)
theorem dX4_size_22 : decode cX4_size 22 = .ok (.ireturn, 1) := dk_172 (dk_at dksX4_size_0 22 rfl rfl)
abbrev cX4_label : ByteArray := prog_20_method_31_code
def yX4_label : MethodName := ⟨RX4, "label", "(II)C"⟩
def dkwX4_label_1 : List UInt8 := [146, 172]
abbrev dktX4_label_1 : List UInt8 := dkwX4_label_1 ++ []
def dkwX4_label_0 : List UInt8 := [42, 27, 28, 182, 0, 202, 153, 0, 7, 3, 167, 0, 15, 42, 180, 0, 27, 27, 50, 180, 0, 11, 28, 46]
abbrev dktX4_label_0 : List UInt8 := dkwX4_label_0 ++ dktX4_label_1
theorem dksX4_label_0 : cX4_label.data.toList.drop 0 = dktX4_label_0 := by decide +kernel
theorem dksX4_label_1 : cX4_label.data.toList.drop 24 = dktX4_label_1 := dk_seg dksX4_label_0 24 rfl rfl
theorem dX4_label_0 : decode cX4_label 0 = .ok (.aload_n 0, 1) := dk_42 (dk_at dksX4_label_0 0 rfl rfl)
theorem dX4_label_1 : decode cX4_label 1 = .ok (.iload_n 1, 1) := dk_27 (dk_at dksX4_label_0 1 rfl rfl)
theorem dX4_label_2 : decode cX4_label 2 = .ok (.iload_n 2, 1) := dk_28 (dk_at dksX4_label_0 2 rfl rfl)
theorem dX4_label_3 : decode cX4_label 3 = .ok (.invokevirtual 202, 3) := dk_182 0 202 (dk_at dksX4_label_0 3 rfl rfl)
theorem dX4_label_6 : decode cX4_label 6 = .ok (.ifCond .eq 7, 3) := dk_153 0 7 (dk_at dksX4_label_0 6 rfl rfl)
theorem dX4_label_9 : decode cX4_label 9 = .ok (.iconst 0, 1) := dk_3 (dk_at dksX4_label_0 9 rfl rfl)
theorem dX4_label_10 : decode cX4_label 10 = .ok (.goto 15, 3) := dk_167 0 15 (dk_at dksX4_label_0 10 rfl rfl)
theorem dX4_label_13 : decode cX4_label 13 = .ok (.aload_n 0, 1) := dk_42 (dk_at dksX4_label_0 13 rfl rfl)
theorem dX4_label_14 : decode cX4_label 14 = .ok (.getfield 27, 3) := dk_180 0 27 (dk_at dksX4_label_0 14 rfl rfl)
theorem dX4_label_17 : decode cX4_label 17 = .ok (.iload_n 1, 1) := dk_27 (dk_at dksX4_label_0 17 rfl rfl)
theorem dX4_label_18 : decode cX4_label 18 = .ok (.aaload, 1) := dk_50 (dk_at dksX4_label_0 18 rfl rfl)
theorem dX4_label_19 : decode cX4_label 19 = .ok (.getfield 11, 3) := dk_180 0 11 (dk_at dksX4_label_0 19 rfl rfl)
theorem dX4_label_22 : decode cX4_label 22 = .ok (.iload_n 2, 1) := dk_28 (dk_at dksX4_label_0 22 rfl rfl)
theorem dX4_label_23 : decode cX4_label 23 = .ok (.iaload, 1) := dk_46 (dk_at dksX4_label_0 23 rfl rfl)
theorem dX4_label_24 : decode cX4_label 24 = .ok (.i2c, 1) := dk_146 (dk_at dksX4_label_1 0 rfl rfl)
theorem dX4_label_25 : decode cX4_label 25 = .ok (.ireturn, 1) := dk_172 (dk_at dksX4_label_1 1 rfl rfl)
abbrev cX4_key : ByteArray := prog_20_method_32_code
def yX4_key : MethodName := ⟨RX4, "key", "(II)I"⟩
def dkwX4_key_1 : List UInt8 := [172]
abbrev dktX4_key_1 : List UInt8 := dkwX4_key_1 ++ []
def dkwX4_key_0 : List UInt8 := [42, 27, 28, 182, 0, 202, 153, 0, 7, 3, 167, 0, 14, 42, 180, 0, 27, 27, 50, 180, 0, 14, 28, 46]
abbrev dktX4_key_0 : List UInt8 := dkwX4_key_0 ++ dktX4_key_1
theorem dksX4_key_0 : cX4_key.data.toList.drop 0 = dktX4_key_0 := by decide +kernel
theorem dksX4_key_1 : cX4_key.data.toList.drop 24 = dktX4_key_1 := dk_seg dksX4_key_0 24 rfl rfl
theorem dX4_key_0 : decode cX4_key 0 = .ok (.aload_n 0, 1) := dk_42 (dk_at dksX4_key_0 0 rfl rfl)
theorem dX4_key_1 : decode cX4_key 1 = .ok (.iload_n 1, 1) := dk_27 (dk_at dksX4_key_0 1 rfl rfl)
theorem dX4_key_2 : decode cX4_key 2 = .ok (.iload_n 2, 1) := dk_28 (dk_at dksX4_key_0 2 rfl rfl)
theorem dX4_key_3 : decode cX4_key 3 = .ok (.invokevirtual 202, 3) := dk_182 0 202 (dk_at dksX4_key_0 3 rfl rfl)
theorem dX4_key_6 : decode cX4_key 6 = .ok (.ifCond .eq 7, 3) := dk_153 0 7 (dk_at dksX4_key_0 6 rfl rfl)
theorem dX4_key_9 : decode cX4_key 9 = .ok (.iconst 0, 1) := dk_3 (dk_at dksX4_key_0 9 rfl rfl)
theorem dX4_key_10 : decode cX4_key 10 = .ok (.goto 14, 3) := dk_167 0 14 (dk_at dksX4_key_0 10 rfl rfl)
theorem dX4_key_13 : decode cX4_key 13 = .ok (.aload_n 0, 1) := dk_42 (dk_at dksX4_key_0 13 rfl rfl)
theorem dX4_key_14 : decode cX4_key 14 = .ok (.getfield 27, 3) := dk_180 0 27 (dk_at dksX4_key_0 14 rfl rfl)
theorem dX4_key_17 : decode cX4_key 17 = .ok (.iload_n 1, 1) := dk_27 (dk_at dksX4_key_0 17 rfl rfl)
theorem dX4_key_18 : decode cX4_key 18 = .ok (.aaload, 1) := dk_50 (dk_at dksX4_key_0 18 rfl rfl)
theorem dX4_key_19 : decode cX4_key 19 = .ok (.getfield 14, 3) := dk_180 0 14 (dk_at dksX4_key_0 19 rfl rfl)
theorem dX4_key_22 : decode cX4_key 22 = .ok (.iload_n 2, 1) := dk_28 (dk_at dksX4_key_0 22 rfl rfl)
theorem dX4_key_23 : decode cX4_key 23 = .ok (.iaload, 1) := dk_46 (dk_at dksX4_key_0 23 rfl rfl)
theorem dX4_key_24 : decode cX4_key 24 = .ok (.ireturn, 1) := dk_172 (dk_at dksX4_key_1 0 rfl rfl)
abbrev cX4_value : ByteArray := prog_20_method_33_code
def yX4_value : MethodName := ⟨RX4, "value", "(II)I"⟩
def dkwX4_value_1 : List UInt8 := [172]
abbrev dktX4_value_1 : List UInt8 := dkwX4_value_1 ++ []
def dkwX4_value_0 : List UInt8 := [42, 27, 28, 182, 0, 202, 153, 0, 7, 3, 167, 0, 14, 42, 180, 0, 27, 27, 50, 180, 0, 17, 28, 46]
abbrev dktX4_value_0 : List UInt8 := dkwX4_value_0 ++ dktX4_value_1
theorem dksX4_value_0 : cX4_value.data.toList.drop 0 = dktX4_value_0 := by decide +kernel
theorem dksX4_value_1 : cX4_value.data.toList.drop 24 = dktX4_value_1 := dk_seg dksX4_value_0 24 rfl rfl
theorem dX4_value_0 : decode cX4_value 0 = .ok (.aload_n 0, 1) := dk_42 (dk_at dksX4_value_0 0 rfl rfl)
theorem dX4_value_1 : decode cX4_value 1 = .ok (.iload_n 1, 1) := dk_27 (dk_at dksX4_value_0 1 rfl rfl)
theorem dX4_value_2 : decode cX4_value 2 = .ok (.iload_n 2, 1) := dk_28 (dk_at dksX4_value_0 2 rfl rfl)
theorem dX4_value_3 : decode cX4_value 3 = .ok (.invokevirtual 202, 3) := dk_182 0 202 (dk_at dksX4_value_0 3 rfl rfl)
theorem dX4_value_6 : decode cX4_value 6 = .ok (.ifCond .eq 7, 3) := dk_153 0 7 (dk_at dksX4_value_0 6 rfl rfl)
theorem dX4_value_9 : decode cX4_value 9 = .ok (.iconst 0, 1) := dk_3 (dk_at dksX4_value_0 9 rfl rfl)
theorem dX4_value_10 : decode cX4_value 10 = .ok (.goto 14, 3) := dk_167 0 14 (dk_at dksX4_value_0 10 rfl rfl)
theorem dX4_value_13 : decode cX4_value 13 = .ok (.aload_n 0, 1) := dk_42 (dk_at dksX4_value_0 13 rfl rfl)
theorem dX4_value_14 : decode cX4_value 14 = .ok (.getfield 27, 3) := dk_180 0 27 (dk_at dksX4_value_0 14 rfl rfl)
theorem dX4_value_17 : decode cX4_value 17 = .ok (.iload_n 1, 1) := dk_27 (dk_at dksX4_value_0 17 rfl rfl)
theorem dX4_value_18 : decode cX4_value 18 = .ok (.aaload, 1) := dk_50 (dk_at dksX4_value_0 18 rfl rfl)
theorem dX4_value_19 : decode cX4_value 19 = .ok (.getfield 17, 3) := dk_180 0 17 (dk_at dksX4_value_0 19 rfl rfl)
theorem dX4_value_22 : decode cX4_value 22 = .ok (.iload_n 2, 1) := dk_28 (dk_at dksX4_value_0 22 rfl rfl)
theorem dX4_value_23 : decode cX4_value 23 = .ok (.iaload, 1) := dk_46 (dk_at dksX4_value_0 23 rfl rfl)
theorem dX4_value_24 : decode cX4_value 24 = .ok (.ireturn, 1) := dk_172 (dk_at dksX4_value_1 0 rfl rfl)
abbrev cX4_children : ByteArray := prog_20_method_34_code
def yX4_children : MethodName := ⟨RX4, "children", "(II)I"⟩
def dkwX4_children_0 : List UInt8 := [42, 27, 28, 182, 0, 202, 153, 0, 7, 3, 167, 0, 13, 42, 180, 0, 27, 27, 50, 28, 182, 0, 170, 172]
abbrev dktX4_children_0 : List UInt8 := dkwX4_children_0 ++ []
theorem dksX4_children_0 : cX4_children.data.toList.drop 0 = dktX4_children_0 := by decide +kernel
theorem dX4_children_0 : decode cX4_children 0 = .ok (.aload_n 0, 1) := dk_42 (dk_at dksX4_children_0 0 rfl rfl)
theorem dX4_children_1 : decode cX4_children 1 = .ok (.iload_n 1, 1) := dk_27 (dk_at dksX4_children_0 1 rfl rfl)
theorem dX4_children_2 : decode cX4_children 2 = .ok (.iload_n 2, 1) := dk_28 (dk_at dksX4_children_0 2 rfl rfl)
theorem dX4_children_3 : decode cX4_children 3 = .ok (.invokevirtual 202, 3) := dk_182 0 202 (dk_at dksX4_children_0 3 rfl rfl)
theorem dX4_children_6 : decode cX4_children 6 = .ok (.ifCond .eq 7, 3) := dk_153 0 7 (dk_at dksX4_children_0 6 rfl rfl)
theorem dX4_children_9 : decode cX4_children 9 = .ok (.iconst 0, 1) := dk_3 (dk_at dksX4_children_0 9 rfl rfl)
theorem dX4_children_10 : decode cX4_children 10 = .ok (.goto 13, 3) := dk_167 0 13 (dk_at dksX4_children_0 10 rfl rfl)
theorem dX4_children_13 : decode cX4_children 13 = .ok (.aload_n 0, 1) := dk_42 (dk_at dksX4_children_0 13 rfl rfl)
theorem dX4_children_14 : decode cX4_children 14 = .ok (.getfield 27, 3) := dk_180 0 27 (dk_at dksX4_children_0 14 rfl rfl)
theorem dX4_children_17 : decode cX4_children 17 = .ok (.iload_n 1, 1) := dk_27 (dk_at dksX4_children_0 17 rfl rfl)
theorem dX4_children_18 : decode cX4_children 18 = .ok (.aaload, 1) := dk_50 (dk_at dksX4_children_0 18 rfl rfl)
theorem dX4_children_19 : decode cX4_children 19 = .ok (.iload_n 2, 1) := dk_28 (dk_at dksX4_children_0 19 rfl rfl)
theorem dX4_children_20 : decode cX4_children 20 = .ok (.invokevirtual 170, 3) := dk_182 0 170 (dk_at dksX4_children_0 20 rfl rfl)
theorem dX4_children_23 : decode cX4_children 23 = .ok (.ireturn, 1) := dk_172 (dk_at dksX4_children_0 23 rfl rfl)
abbrev cX4_parent : ByteArray := prog_20_method_35_code
def yX4_parent : MethodName := ⟨RX4, "parent", "(II)I"⟩
def dkwX4_parent_1 : List UInt8 := [180, 0, 27, 27, 50, 180, 0, 7, 28, 46, 172]
abbrev dktX4_parent_1 : List UInt8 := dkwX4_parent_1 ++ []
def dkwX4_parent_0 : List UInt8 := [42, 27, 28, 182, 0, 202, 153, 0, 5, 3, 172, 28, 154, 0, 11, 42, 5, 182, 0, 126, 167, 0, 14, 42]
abbrev dktX4_parent_0 : List UInt8 := dkwX4_parent_0 ++ dktX4_parent_1
theorem dksX4_parent_0 : cX4_parent.data.toList.drop 0 = dktX4_parent_0 := by decide +kernel
theorem dksX4_parent_1 : cX4_parent.data.toList.drop 24 = dktX4_parent_1 := dk_seg dksX4_parent_0 24 rfl rfl
theorem dX4_parent_0 : decode cX4_parent 0 = .ok (.aload_n 0, 1) := dk_42 (dk_at dksX4_parent_0 0 rfl rfl)
theorem dX4_parent_1 : decode cX4_parent 1 = .ok (.iload_n 1, 1) := dk_27 (dk_at dksX4_parent_0 1 rfl rfl)
theorem dX4_parent_2 : decode cX4_parent 2 = .ok (.iload_n 2, 1) := dk_28 (dk_at dksX4_parent_0 2 rfl rfl)
theorem dX4_parent_3 : decode cX4_parent 3 = .ok (.invokevirtual 202, 3) := dk_182 0 202 (dk_at dksX4_parent_0 3 rfl rfl)
theorem dX4_parent_6 : decode cX4_parent 6 = .ok (.ifCond .eq 5, 3) := dk_153 0 5 (dk_at dksX4_parent_0 6 rfl rfl)
theorem dX4_parent_9 : decode cX4_parent 9 = .ok (.iconst 0, 1) := dk_3 (dk_at dksX4_parent_0 9 rfl rfl)
theorem dX4_parent_10 : decode cX4_parent 10 = .ok (.ireturn, 1) := dk_172 (dk_at dksX4_parent_0 10 rfl rfl)
theorem dX4_parent_11 : decode cX4_parent 11 = .ok (.iload_n 2, 1) := dk_28 (dk_at dksX4_parent_0 11 rfl rfl)
theorem dX4_parent_12 : decode cX4_parent 12 = .ok (.ifCond .ne 11, 3) := dk_154 0 11 (dk_at dksX4_parent_0 12 rfl rfl)
theorem dX4_parent_15 : decode cX4_parent 15 = .ok (.aload_n 0, 1) := dk_42 (dk_at dksX4_parent_0 15 rfl rfl)
theorem dX4_parent_16 : decode cX4_parent 16 = .ok (.iconst 2, 1) := dk_5 (dk_at dksX4_parent_0 16 rfl rfl)
theorem dX4_parent_17 : decode cX4_parent 17 = .ok (.invokevirtual 126, 3) := dk_182 0 126 (dk_at dksX4_parent_0 17 rfl rfl)
theorem dX4_parent_20 : decode cX4_parent 20 = .ok (.goto 14, 3) := dk_167 0 14 (dk_at dksX4_parent_0 20 rfl rfl)
theorem dX4_parent_23 : decode cX4_parent 23 = .ok (.aload_n 0, 1) := dk_42 (dk_at dksX4_parent_0 23 rfl rfl)
theorem dX4_parent_24 : decode cX4_parent 24 = .ok (.getfield 27, 3) := dk_180 0 27 (dk_at dksX4_parent_1 0 rfl rfl)
theorem dX4_parent_27 : decode cX4_parent 27 = .ok (.iload_n 1, 1) := dk_27 (dk_at dksX4_parent_1 3 rfl rfl)
theorem dX4_parent_28 : decode cX4_parent 28 = .ok (.aaload, 1) := dk_50 (dk_at dksX4_parent_1 4 rfl rfl)
theorem dX4_parent_29 : decode cX4_parent 29 = .ok (.getfield 7, 3) := dk_180 0 7 (dk_at dksX4_parent_1 5 rfl rfl)
theorem dX4_parent_32 : decode cX4_parent 32 = .ok (.iload_n 2, 1) := dk_28 (dk_at dksX4_parent_1 8 rfl rfl)
theorem dX4_parent_33 : decode cX4_parent 33 = .ok (.iaload, 1) := dk_46 (dk_at dksX4_parent_1 9 rfl rfl)
theorem dX4_parent_34 : decode cX4_parent 34 = .ok (.ireturn, 1) := dk_172 (dk_at dksX4_parent_1 10 rfl rfl)
abbrev cX4_subtreeSize : ByteArray := prog_20_method_36_code
def yX4_subtreeSize : MethodName := ⟨RX4, "subtreeSize", "(II)I"⟩
def dkwX4_subtreeSize_1 : List UInt8 := [100, 172]
abbrev dktX4_subtreeSize_1 : List UInt8 := dkwX4_subtreeSize_1 ++ []
def dkwX4_subtreeSize_0 : List UInt8 := [42, 27, 28, 182, 0, 202, 153, 0, 7, 3, 167, 0, 15, 42, 180, 0, 27, 27, 50, 28, 182, 0, 1, 28]
abbrev dktX4_subtreeSize_0 : List UInt8 := dkwX4_subtreeSize_0 ++ dktX4_subtreeSize_1
theorem dksX4_subtreeSize_0 : cX4_subtreeSize.data.toList.drop 0 = dktX4_subtreeSize_0 := by decide +kernel
theorem dksX4_subtreeSize_1 : cX4_subtreeSize.data.toList.drop 24 = dktX4_subtreeSize_1 := dk_seg dksX4_subtreeSize_0 24 rfl rfl
theorem dX4_subtreeSize_0 : decode cX4_subtreeSize 0 = .ok (.aload_n 0, 1) := dk_42 (dk_at dksX4_subtreeSize_0 0 rfl rfl)
theorem dX4_subtreeSize_1 : decode cX4_subtreeSize 1 = .ok (.iload_n 1, 1) := dk_27 (dk_at dksX4_subtreeSize_0 1 rfl rfl)
theorem dX4_subtreeSize_2 : decode cX4_subtreeSize 2 = .ok (.iload_n 2, 1) := dk_28 (dk_at dksX4_subtreeSize_0 2 rfl rfl)
theorem dX4_subtreeSize_3 : decode cX4_subtreeSize 3 = .ok (.invokevirtual 202, 3) := dk_182 0 202 (dk_at dksX4_subtreeSize_0 3 rfl rfl)
theorem dX4_subtreeSize_6 : decode cX4_subtreeSize 6 = .ok (.ifCond .eq 7, 3) := dk_153 0 7 (dk_at dksX4_subtreeSize_0 6 rfl rfl)
theorem dX4_subtreeSize_9 : decode cX4_subtreeSize 9 = .ok (.iconst 0, 1) := dk_3 (dk_at dksX4_subtreeSize_0 9 rfl rfl)
theorem dX4_subtreeSize_10 : decode cX4_subtreeSize 10 = .ok (.goto 15, 3) := dk_167 0 15 (dk_at dksX4_subtreeSize_0 10 rfl rfl)
theorem dX4_subtreeSize_13 : decode cX4_subtreeSize 13 = .ok (.aload_n 0, 1) := dk_42 (dk_at dksX4_subtreeSize_0 13 rfl rfl)
theorem dX4_subtreeSize_14 : decode cX4_subtreeSize 14 = .ok (.getfield 27, 3) := dk_180 0 27 (dk_at dksX4_subtreeSize_0 14 rfl rfl)
theorem dX4_subtreeSize_17 : decode cX4_subtreeSize 17 = .ok (.iload_n 1, 1) := dk_27 (dk_at dksX4_subtreeSize_0 17 rfl rfl)
theorem dX4_subtreeSize_18 : decode cX4_subtreeSize 18 = .ok (.aaload, 1) := dk_50 (dk_at dksX4_subtreeSize_0 18 rfl rfl)
theorem dX4_subtreeSize_19 : decode cX4_subtreeSize 19 = .ok (.iload_n 2, 1) := dk_28 (dk_at dksX4_subtreeSize_0 19 rfl rfl)
theorem dX4_subtreeSize_20 : decode cX4_subtreeSize 20 = .ok (.invokevirtual 1, 3) := dk_182 0 1 (dk_at dksX4_subtreeSize_0 20 rfl rfl)
theorem dX4_subtreeSize_23 : decode cX4_subtreeSize 23 = .ok (.iload_n 2, 1) := dk_28 (dk_at dksX4_subtreeSize_0 23 rfl rfl)
theorem dX4_subtreeSize_24 : decode cX4_subtreeSize 24 = .ok (.isub, 1) := dk_100 (dk_at dksX4_subtreeSize_1 0 rfl rfl)
theorem dX4_subtreeSize_25 : decode cX4_subtreeSize 25 = .ok (.ireturn, 1) := dk_172 (dk_at dksX4_subtreeSize_1 1 rfl rfl)
abbrev cX4_subtreeHash : ByteArray := prog_20_method_37_code
def yX4_subtreeHash : MethodName := ⟨RX4, "subtreeHash", "(II)I"⟩
def dkwX4_subtreeHash_0 : List UInt8 := [42, 27, 28, 182, 0, 202, 153, 0, 7, 3, 167, 0, 13, 42, 180, 0, 27, 27, 50, 28, 182, 0, 220, 172]
abbrev dktX4_subtreeHash_0 : List UInt8 := dkwX4_subtreeHash_0 ++ []
theorem dksX4_subtreeHash_0 : cX4_subtreeHash.data.toList.drop 0 = dktX4_subtreeHash_0 := by decide +kernel
theorem dX4_subtreeHash_0 : decode cX4_subtreeHash 0 = .ok (.aload_n 0, 1) := dk_42 (dk_at dksX4_subtreeHash_0 0 rfl rfl)
theorem dX4_subtreeHash_1 : decode cX4_subtreeHash 1 = .ok (.iload_n 1, 1) := dk_27 (dk_at dksX4_subtreeHash_0 1 rfl rfl)
theorem dX4_subtreeHash_2 : decode cX4_subtreeHash 2 = .ok (.iload_n 2, 1) := dk_28 (dk_at dksX4_subtreeHash_0 2 rfl rfl)
theorem dX4_subtreeHash_3 : decode cX4_subtreeHash 3 = .ok (.invokevirtual 202, 3) := dk_182 0 202 (dk_at dksX4_subtreeHash_0 3 rfl rfl)
theorem dX4_subtreeHash_6 : decode cX4_subtreeHash 6 = .ok (.ifCond .eq 7, 3) := dk_153 0 7 (dk_at dksX4_subtreeHash_0 6 rfl rfl)
theorem dX4_subtreeHash_9 : decode cX4_subtreeHash 9 = .ok (.iconst 0, 1) := dk_3 (dk_at dksX4_subtreeHash_0 9 rfl rfl)
theorem dX4_subtreeHash_10 : decode cX4_subtreeHash 10 = .ok (.goto 13, 3) := dk_167 0 13 (dk_at dksX4_subtreeHash_0 10 rfl rfl)
theorem dX4_subtreeHash_13 : decode cX4_subtreeHash 13 = .ok (.aload_n 0, 1) := dk_42 (dk_at dksX4_subtreeHash_0 13 rfl rfl)
theorem dX4_subtreeHash_14 : decode cX4_subtreeHash 14 = .ok (.getfield 27, 3) := dk_180 0 27 (dk_at dksX4_subtreeHash_0 14 rfl rfl)
theorem dX4_subtreeHash_17 : decode cX4_subtreeHash 17 = .ok (.iload_n 1, 1) := dk_27 (dk_at dksX4_subtreeHash_0 17 rfl rfl)
theorem dX4_subtreeHash_18 : decode cX4_subtreeHash 18 = .ok (.aaload, 1) := dk_50 (dk_at dksX4_subtreeHash_0 18 rfl rfl)
theorem dX4_subtreeHash_19 : decode cX4_subtreeHash 19 = .ok (.iload_n 2, 1) := dk_28 (dk_at dksX4_subtreeHash_0 19 rfl rfl)
theorem dX4_subtreeHash_20 : decode cX4_subtreeHash 20 = .ok (.invokevirtual 220, 3) := dk_182 0 220 (dk_at dksX4_subtreeHash_0 20 rfl rfl)
theorem dX4_subtreeHash_23 : decode cX4_subtreeHash 23 = .ok (.ireturn, 1) := dk_172 (dk_at dksX4_subtreeHash_0 23 rfl rfl)
abbrev cX4_areEqual : ByteArray := prog_20_method_38_code
def yX4_areEqual : MethodName := ⟨RX4, "areEqual", "(IIII)Z"⟩
def dkwX4_areEqual_1 : List UInt8 := [50, 28, 42, 180, 0, 27, 29, 50, 21, 4, 3, 184, 0, 223, 153, 0, 7, 4, 167, 0, 4, 3, 172]
abbrev dktX4_areEqual_1 : List UInt8 := dkwX4_areEqual_1 ++ []
def dkwX4_areEqual_0 : List UInt8 := [42, 27, 28, 182, 0, 202, 154, 0, 39, 42, 29, 21, 4, 182, 0, 202, 154, 0, 29, 42, 180, 0, 27, 27]
abbrev dktX4_areEqual_0 : List UInt8 := dkwX4_areEqual_0 ++ dktX4_areEqual_1
theorem dksX4_areEqual_0 : cX4_areEqual.data.toList.drop 0 = dktX4_areEqual_0 := by decide +kernel
theorem dksX4_areEqual_1 : cX4_areEqual.data.toList.drop 24 = dktX4_areEqual_1 := dk_seg dksX4_areEqual_0 24 rfl rfl
theorem dX4_areEqual_0 : decode cX4_areEqual 0 = .ok (.aload_n 0, 1) := dk_42 (dk_at dksX4_areEqual_0 0 rfl rfl)
theorem dX4_areEqual_1 : decode cX4_areEqual 1 = .ok (.iload_n 1, 1) := dk_27 (dk_at dksX4_areEqual_0 1 rfl rfl)
theorem dX4_areEqual_2 : decode cX4_areEqual 2 = .ok (.iload_n 2, 1) := dk_28 (dk_at dksX4_areEqual_0 2 rfl rfl)
theorem dX4_areEqual_3 : decode cX4_areEqual 3 = .ok (.invokevirtual 202, 3) := dk_182 0 202 (dk_at dksX4_areEqual_0 3 rfl rfl)
theorem dX4_areEqual_6 : decode cX4_areEqual 6 = .ok (.ifCond .ne 39, 3) := dk_154 0 39 (dk_at dksX4_areEqual_0 6 rfl rfl)
theorem dX4_areEqual_9 : decode cX4_areEqual 9 = .ok (.aload_n 0, 1) := dk_42 (dk_at dksX4_areEqual_0 9 rfl rfl)
theorem dX4_areEqual_10 : decode cX4_areEqual 10 = .ok (.iload_n 3, 1) := dk_29 (dk_at dksX4_areEqual_0 10 rfl rfl)
theorem dX4_areEqual_11 : decode cX4_areEqual 11 = .ok (.iload 4, 2) := dk_21 4 (dk_at dksX4_areEqual_0 11 rfl rfl)
theorem dX4_areEqual_13 : decode cX4_areEqual 13 = .ok (.invokevirtual 202, 3) := dk_182 0 202 (dk_at dksX4_areEqual_0 13 rfl rfl)
theorem dX4_areEqual_16 : decode cX4_areEqual 16 = .ok (.ifCond .ne 29, 3) := dk_154 0 29 (dk_at dksX4_areEqual_0 16 rfl rfl)
theorem dX4_areEqual_19 : decode cX4_areEqual 19 = .ok (.aload_n 0, 1) := dk_42 (dk_at dksX4_areEqual_0 19 rfl rfl)
theorem dX4_areEqual_20 : decode cX4_areEqual 20 = .ok (.getfield 27, 3) := dk_180 0 27 (dk_at dksX4_areEqual_0 20 rfl rfl)
theorem dX4_areEqual_23 : decode cX4_areEqual 23 = .ok (.iload_n 1, 1) := dk_27 (dk_at dksX4_areEqual_0 23 rfl rfl)
theorem dX4_areEqual_24 : decode cX4_areEqual 24 = .ok (.aaload, 1) := dk_50 (dk_at dksX4_areEqual_1 0 rfl rfl)
theorem dX4_areEqual_25 : decode cX4_areEqual 25 = .ok (.iload_n 2, 1) := dk_28 (dk_at dksX4_areEqual_1 1 rfl rfl)
theorem dX4_areEqual_26 : decode cX4_areEqual 26 = .ok (.aload_n 0, 1) := dk_42 (dk_at dksX4_areEqual_1 2 rfl rfl)
theorem dX4_areEqual_27 : decode cX4_areEqual 27 = .ok (.getfield 27, 3) := dk_180 0 27 (dk_at dksX4_areEqual_1 3 rfl rfl)
theorem dX4_areEqual_30 : decode cX4_areEqual 30 = .ok (.iload_n 3, 1) := dk_29 (dk_at dksX4_areEqual_1 6 rfl rfl)
theorem dX4_areEqual_31 : decode cX4_areEqual 31 = .ok (.aaload, 1) := dk_50 (dk_at dksX4_areEqual_1 7 rfl rfl)
theorem dX4_areEqual_32 : decode cX4_areEqual 32 = .ok (.iload 4, 2) := dk_21 4 (dk_at dksX4_areEqual_1 8 rfl rfl)
theorem dX4_areEqual_34 : decode cX4_areEqual 34 = .ok (.iconst 0, 1) := dk_3 (dk_at dksX4_areEqual_1 10 rfl rfl)
theorem dX4_areEqual_35 : decode cX4_areEqual 35 = .ok (.invokestatic 223, 3) := dk_184 0 223 (dk_at dksX4_areEqual_1 11 rfl rfl)
theorem dX4_areEqual_38 : decode cX4_areEqual 38 = .ok (.ifCond .eq 7, 3) := dk_153 0 7 (dk_at dksX4_areEqual_1 14 rfl rfl)
theorem dX4_areEqual_41 : decode cX4_areEqual 41 = .ok (.iconst 1, 1) := dk_4 (dk_at dksX4_areEqual_1 17 rfl rfl)
theorem dX4_areEqual_42 : decode cX4_areEqual 42 = .ok (.goto 4, 3) := dk_167 0 4 (dk_at dksX4_areEqual_1 18 rfl rfl)
theorem dX4_areEqual_45 : decode cX4_areEqual 45 = .ok (.iconst 0, 1) := dk_3 (dk_at dksX4_areEqual_1 21 rfl rfl)
theorem dX4_areEqual_46 : decode cX4_areEqual 46 = .ok (.ireturn, 1) := dk_172 (dk_at dksX4_areEqual_1 22 rfl rfl)
abbrev cX4_areLike : ByteArray := prog_20_method_1_code
def yX4_areLike : MethodName := ⟨RX4, "areLike", "(LTreeDifferModel$Tree;ILTreeDifferModel$Tree;IZ)Z"⟩
def dkwX4_areLike_5 : List UInt8 := [96, 46, 44, 180, 0, 17, 29, 21, 6, 96, 46, 159, 0, 5, 3, 172, 132, 6, 1, 167, 255, 144, 4, 172]
abbrev dktX4_areLike_5 : List UInt8 := dkwX4_areLike_5 ++ []
def dkwX4_areLike_4 : List UInt8 := [27, 21, 6, 96, 46, 44, 180, 0, 14, 29, 21, 6, 96, 46, 160, 0, 24, 42, 180, 0, 17, 27, 21, 6]
abbrev dktX4_areLike_4 : List UInt8 := dkwX4_areLike_4 ++ dktX4_areLike_5
def dkwX4_areLike_3 : List UInt8 := [180, 0, 11, 27, 21, 6, 96, 46, 44, 180, 0, 11, 29, 21, 6, 96, 46, 160, 0, 45, 42, 180, 0, 14]
abbrev dktX4_areLike_3 : List UInt8 := dkwX4_areLike_3 ++ dktX4_areLike_4
def dkwX4_areLike_2 : List UInt8 := [100, 44, 180, 0, 7, 29, 21, 6, 96, 46, 29, 100, 159, 0, 5, 3, 172, 21, 4, 154, 0, 68, 42]
abbrev dktX4_areLike_2 : List UInt8 := dkwX4_areLike_2 ++ dktX4_areLike_3
def dkwX4_areLike_1 : List UInt8 := [54, 6, 21, 6, 21, 5, 162, 0, 111, 21, 6, 158, 0, 30, 42, 180, 0, 7, 27, 21, 6, 96, 46, 27]
abbrev dktX4_areLike_1 : List UInt8 := dkwX4_areLike_1 ++ dktX4_areLike_2
def dkwX4_areLike_0 : List UInt8 := [42, 27, 182, 0, 1, 27, 100, 54, 5, 21, 5, 44, 29, 182, 0, 1, 29, 100, 159, 0, 5, 3, 172, 3]
abbrev dktX4_areLike_0 : List UInt8 := dkwX4_areLike_0 ++ dktX4_areLike_1
theorem dksX4_areLike_0 : cX4_areLike.data.toList.drop 0 = dktX4_areLike_0 := by decide +kernel
theorem dksX4_areLike_1 : cX4_areLike.data.toList.drop 24 = dktX4_areLike_1 := dk_seg dksX4_areLike_0 24 rfl rfl
theorem dksX4_areLike_2 : cX4_areLike.data.toList.drop 48 = dktX4_areLike_2 := dk_seg dksX4_areLike_1 24 rfl rfl
theorem dksX4_areLike_3 : cX4_areLike.data.toList.drop 71 = dktX4_areLike_3 := dk_seg dksX4_areLike_2 23 rfl rfl
theorem dksX4_areLike_4 : cX4_areLike.data.toList.drop 95 = dktX4_areLike_4 := dk_seg dksX4_areLike_3 24 rfl rfl
theorem dksX4_areLike_5 : cX4_areLike.data.toList.drop 119 = dktX4_areLike_5 := dk_seg dksX4_areLike_4 24 rfl rfl
theorem dX4_areLike_0 : decode cX4_areLike 0 = .ok (.aload_n 0, 1) := dk_42 (dk_at dksX4_areLike_0 0 rfl rfl)
theorem dX4_areLike_1 : decode cX4_areLike 1 = .ok (.iload_n 1, 1) := dk_27 (dk_at dksX4_areLike_0 1 rfl rfl)
theorem dX4_areLike_2 : decode cX4_areLike 2 = .ok (.invokevirtual 1, 3) := dk_182 0 1 (dk_at dksX4_areLike_0 2 rfl rfl)
theorem dX4_areLike_5 : decode cX4_areLike 5 = .ok (.iload_n 1, 1) := dk_27 (dk_at dksX4_areLike_0 5 rfl rfl)
theorem dX4_areLike_6 : decode cX4_areLike 6 = .ok (.isub, 1) := dk_100 (dk_at dksX4_areLike_0 6 rfl rfl)
theorem dX4_areLike_7 : decode cX4_areLike 7 = .ok (.istore 5, 2) := dk_54 5 (dk_at dksX4_areLike_0 7 rfl rfl)
theorem dX4_areLike_9 : decode cX4_areLike 9 = .ok (.iload 5, 2) := dk_21 5 (dk_at dksX4_areLike_0 9 rfl rfl)
theorem dX4_areLike_11 : decode cX4_areLike 11 = .ok (.aload_n 2, 1) := dk_44 (dk_at dksX4_areLike_0 11 rfl rfl)
theorem dX4_areLike_12 : decode cX4_areLike 12 = .ok (.iload_n 3, 1) := dk_29 (dk_at dksX4_areLike_0 12 rfl rfl)
theorem dX4_areLike_13 : decode cX4_areLike 13 = .ok (.invokevirtual 1, 3) := dk_182 0 1 (dk_at dksX4_areLike_0 13 rfl rfl)
theorem dX4_areLike_16 : decode cX4_areLike 16 = .ok (.iload_n 3, 1) := dk_29 (dk_at dksX4_areLike_0 16 rfl rfl)
theorem dX4_areLike_17 : decode cX4_areLike 17 = .ok (.isub, 1) := dk_100 (dk_at dksX4_areLike_0 17 rfl rfl)
theorem dX4_areLike_18 : decode cX4_areLike 18 = .ok (.if_icmp .eq 5, 3) := dk_159 0 5 (dk_at dksX4_areLike_0 18 rfl rfl)
theorem dX4_areLike_21 : decode cX4_areLike 21 = .ok (.iconst 0, 1) := dk_3 (dk_at dksX4_areLike_0 21 rfl rfl)
theorem dX4_areLike_22 : decode cX4_areLike 22 = .ok (.ireturn, 1) := dk_172 (dk_at dksX4_areLike_0 22 rfl rfl)
theorem dX4_areLike_23 : decode cX4_areLike 23 = .ok (.iconst 0, 1) := dk_3 (dk_at dksX4_areLike_0 23 rfl rfl)
theorem dX4_areLike_24 : decode cX4_areLike 24 = .ok (.istore 6, 2) := dk_54 6 (dk_at dksX4_areLike_1 0 rfl rfl)
theorem dX4_areLike_26 : decode cX4_areLike 26 = .ok (.iload 6, 2) := dk_21 6 (dk_at dksX4_areLike_1 2 rfl rfl)
theorem dX4_areLike_28 : decode cX4_areLike 28 = .ok (.iload 5, 2) := dk_21 5 (dk_at dksX4_areLike_1 4 rfl rfl)
theorem dX4_areLike_30 : decode cX4_areLike 30 = .ok (.if_icmp .ge 111, 3) := dk_162 0 111 (dk_at dksX4_areLike_1 6 rfl rfl)
theorem dX4_areLike_33 : decode cX4_areLike 33 = .ok (.iload 6, 2) := dk_21 6 (dk_at dksX4_areLike_1 9 rfl rfl)
theorem dX4_areLike_35 : decode cX4_areLike 35 = .ok (.ifCond .le 30, 3) := dk_158 0 30 (dk_at dksX4_areLike_1 11 rfl rfl)
theorem dX4_areLike_38 : decode cX4_areLike 38 = .ok (.aload_n 0, 1) := dk_42 (dk_at dksX4_areLike_1 14 rfl rfl)
theorem dX4_areLike_39 : decode cX4_areLike 39 = .ok (.getfield 7, 3) := dk_180 0 7 (dk_at dksX4_areLike_1 15 rfl rfl)
theorem dX4_areLike_42 : decode cX4_areLike 42 = .ok (.iload_n 1, 1) := dk_27 (dk_at dksX4_areLike_1 18 rfl rfl)
theorem dX4_areLike_43 : decode cX4_areLike 43 = .ok (.iload 6, 2) := dk_21 6 (dk_at dksX4_areLike_1 19 rfl rfl)
theorem dX4_areLike_45 : decode cX4_areLike 45 = .ok (.iadd, 1) := dk_96 (dk_at dksX4_areLike_1 21 rfl rfl)
theorem dX4_areLike_46 : decode cX4_areLike 46 = .ok (.iaload, 1) := dk_46 (dk_at dksX4_areLike_1 22 rfl rfl)
theorem dX4_areLike_47 : decode cX4_areLike 47 = .ok (.iload_n 1, 1) := dk_27 (dk_at dksX4_areLike_1 23 rfl rfl)
theorem dX4_areLike_48 : decode cX4_areLike 48 = .ok (.isub, 1) := dk_100 (dk_at dksX4_areLike_2 0 rfl rfl)
theorem dX4_areLike_49 : decode cX4_areLike 49 = .ok (.aload_n 2, 1) := dk_44 (dk_at dksX4_areLike_2 1 rfl rfl)
theorem dX4_areLike_50 : decode cX4_areLike 50 = .ok (.getfield 7, 3) := dk_180 0 7 (dk_at dksX4_areLike_2 2 rfl rfl)
theorem dX4_areLike_53 : decode cX4_areLike 53 = .ok (.iload_n 3, 1) := dk_29 (dk_at dksX4_areLike_2 5 rfl rfl)
theorem dX4_areLike_54 : decode cX4_areLike 54 = .ok (.iload 6, 2) := dk_21 6 (dk_at dksX4_areLike_2 6 rfl rfl)
theorem dX4_areLike_56 : decode cX4_areLike 56 = .ok (.iadd, 1) := dk_96 (dk_at dksX4_areLike_2 8 rfl rfl)
theorem dX4_areLike_57 : decode cX4_areLike 57 = .ok (.iaload, 1) := dk_46 (dk_at dksX4_areLike_2 9 rfl rfl)
theorem dX4_areLike_58 : decode cX4_areLike 58 = .ok (.iload_n 3, 1) := dk_29 (dk_at dksX4_areLike_2 10 rfl rfl)
theorem dX4_areLike_59 : decode cX4_areLike 59 = .ok (.isub, 1) := dk_100 (dk_at dksX4_areLike_2 11 rfl rfl)
theorem dX4_areLike_60 : decode cX4_areLike 60 = .ok (.if_icmp .eq 5, 3) := dk_159 0 5 (dk_at dksX4_areLike_2 12 rfl rfl)
theorem dX4_areLike_63 : decode cX4_areLike 63 = .ok (.iconst 0, 1) := dk_3 (dk_at dksX4_areLike_2 15 rfl rfl)
theorem dX4_areLike_64 : decode cX4_areLike 64 = .ok (.ireturn, 1) := dk_172 (dk_at dksX4_areLike_2 16 rfl rfl)
theorem dX4_areLike_65 : decode cX4_areLike 65 = .ok (.iload 4, 2) := dk_21 4 (dk_at dksX4_areLike_2 17 rfl rfl)
theorem dX4_areLike_67 : decode cX4_areLike 67 = .ok (.ifCond .ne 68, 3) := dk_154 0 68 (dk_at dksX4_areLike_2 19 rfl rfl)
theorem dX4_areLike_70 : decode cX4_areLike 70 = .ok (.aload_n 0, 1) := dk_42 (dk_at dksX4_areLike_2 22 rfl rfl)
theorem dX4_areLike_71 : decode cX4_areLike 71 = .ok (.getfield 11, 3) := dk_180 0 11 (dk_at dksX4_areLike_3 0 rfl rfl)
theorem dX4_areLike_74 : decode cX4_areLike 74 = .ok (.iload_n 1, 1) := dk_27 (dk_at dksX4_areLike_3 3 rfl rfl)
theorem dX4_areLike_75 : decode cX4_areLike 75 = .ok (.iload 6, 2) := dk_21 6 (dk_at dksX4_areLike_3 4 rfl rfl)
theorem dX4_areLike_77 : decode cX4_areLike 77 = .ok (.iadd, 1) := dk_96 (dk_at dksX4_areLike_3 6 rfl rfl)
theorem dX4_areLike_78 : decode cX4_areLike 78 = .ok (.iaload, 1) := dk_46 (dk_at dksX4_areLike_3 7 rfl rfl)
theorem dX4_areLike_79 : decode cX4_areLike 79 = .ok (.aload_n 2, 1) := dk_44 (dk_at dksX4_areLike_3 8 rfl rfl)
theorem dX4_areLike_80 : decode cX4_areLike 80 = .ok (.getfield 11, 3) := dk_180 0 11 (dk_at dksX4_areLike_3 9 rfl rfl)
theorem dX4_areLike_83 : decode cX4_areLike 83 = .ok (.iload_n 3, 1) := dk_29 (dk_at dksX4_areLike_3 12 rfl rfl)
theorem dX4_areLike_84 : decode cX4_areLike 84 = .ok (.iload 6, 2) := dk_21 6 (dk_at dksX4_areLike_3 13 rfl rfl)
theorem dX4_areLike_86 : decode cX4_areLike 86 = .ok (.iadd, 1) := dk_96 (dk_at dksX4_areLike_3 15 rfl rfl)
theorem dX4_areLike_87 : decode cX4_areLike 87 = .ok (.iaload, 1) := dk_46 (dk_at dksX4_areLike_3 16 rfl rfl)
theorem dX4_areLike_88 : decode cX4_areLike 88 = .ok (.if_icmp .ne 45, 3) := dk_160 0 45 (dk_at dksX4_areLike_3 17 rfl rfl)
theorem dX4_areLike_91 : decode cX4_areLike 91 = .ok (.aload_n 0, 1) := dk_42 (dk_at dksX4_areLike_3 20 rfl rfl)
theorem dX4_areLike_92 : decode cX4_areLike 92 = .ok (.getfield 14, 3) := dk_180 0 14 (dk_at dksX4_areLike_3 21 rfl rfl)
theorem dX4_areLike_95 : decode cX4_areLike 95 = .ok (.iload_n 1, 1) := dk_27 (dk_at dksX4_areLike_4 0 rfl rfl)
theorem dX4_areLike_96 : decode cX4_areLike 96 = .ok (.iload 6, 2) := dk_21 6 (dk_at dksX4_areLike_4 1 rfl rfl)
theorem dX4_areLike_98 : decode cX4_areLike 98 = .ok (.iadd, 1) := dk_96 (dk_at dksX4_areLike_4 3 rfl rfl)
theorem dX4_areLike_99 : decode cX4_areLike 99 = .ok (.iaload, 1) := dk_46 (dk_at dksX4_areLike_4 4 rfl rfl)
theorem dX4_areLike_100 : decode cX4_areLike 100 = .ok (.aload_n 2, 1) := dk_44 (dk_at dksX4_areLike_4 5 rfl rfl)
theorem dX4_areLike_101 : decode cX4_areLike 101 = .ok (.getfield 14, 3) := dk_180 0 14 (dk_at dksX4_areLike_4 6 rfl rfl)
theorem dX4_areLike_104 : decode cX4_areLike 104 = .ok (.iload_n 3, 1) := dk_29 (dk_at dksX4_areLike_4 9 rfl rfl)
theorem dX4_areLike_105 : decode cX4_areLike 105 = .ok (.iload 6, 2) := dk_21 6 (dk_at dksX4_areLike_4 10 rfl rfl)
theorem dX4_areLike_107 : decode cX4_areLike 107 = .ok (.iadd, 1) := dk_96 (dk_at dksX4_areLike_4 12 rfl rfl)
theorem dX4_areLike_108 : decode cX4_areLike 108 = .ok (.iaload, 1) := dk_46 (dk_at dksX4_areLike_4 13 rfl rfl)
theorem dX4_areLike_109 : decode cX4_areLike 109 = .ok (.if_icmp .ne 24, 3) := dk_160 0 24 (dk_at dksX4_areLike_4 14 rfl rfl)
theorem dX4_areLike_112 : decode cX4_areLike 112 = .ok (.aload_n 0, 1) := dk_42 (dk_at dksX4_areLike_4 17 rfl rfl)
theorem dX4_areLike_113 : decode cX4_areLike 113 = .ok (.getfield 17, 3) := dk_180 0 17 (dk_at dksX4_areLike_4 18 rfl rfl)
theorem dX4_areLike_116 : decode cX4_areLike 116 = .ok (.iload_n 1, 1) := dk_27 (dk_at dksX4_areLike_4 21 rfl rfl)
theorem dX4_areLike_117 : decode cX4_areLike 117 = .ok (.iload 6, 2) := dk_21 6 (dk_at dksX4_areLike_4 22 rfl rfl)
theorem dX4_areLike_119 : decode cX4_areLike 119 = .ok (.iadd, 1) := dk_96 (dk_at dksX4_areLike_5 0 rfl rfl)
theorem dX4_areLike_120 : decode cX4_areLike 120 = .ok (.iaload, 1) := dk_46 (dk_at dksX4_areLike_5 1 rfl rfl)
theorem dX4_areLike_121 : decode cX4_areLike 121 = .ok (.aload_n 2, 1) := dk_44 (dk_at dksX4_areLike_5 2 rfl rfl)
theorem dX4_areLike_122 : decode cX4_areLike 122 = .ok (.getfield 17, 3) := dk_180 0 17 (dk_at dksX4_areLike_5 3 rfl rfl)
theorem dX4_areLike_125 : decode cX4_areLike 125 = .ok (.iload_n 3, 1) := dk_29 (dk_at dksX4_areLike_5 6 rfl rfl)
theorem dX4_areLike_126 : decode cX4_areLike 126 = .ok (.iload 6, 2) := dk_21 6 (dk_at dksX4_areLike_5 7 rfl rfl)
theorem dX4_areLike_128 : decode cX4_areLike 128 = .ok (.iadd, 1) := dk_96 (dk_at dksX4_areLike_5 9 rfl rfl)
theorem dX4_areLike_129 : decode cX4_areLike 129 = .ok (.iaload, 1) := dk_46 (dk_at dksX4_areLike_5 10 rfl rfl)
theorem dX4_areLike_130 : decode cX4_areLike 130 = .ok (.if_icmp .eq 5, 3) := dk_159 0 5 (dk_at dksX4_areLike_5 11 rfl rfl)
theorem dX4_areLike_133 : decode cX4_areLike 133 = .ok (.iconst 0, 1) := dk_3 (dk_at dksX4_areLike_5 14 rfl rfl)
theorem dX4_areLike_134 : decode cX4_areLike 134 = .ok (.ireturn, 1) := dk_172 (dk_at dksX4_areLike_5 15 rfl rfl)
theorem dX4_areLike_135 : decode cX4_areLike 135 = .ok (.iinc 6 1, 3) := dk_132 6 1 (dk_at dksX4_areLike_5 16 rfl rfl)
theorem dX4_areLike_138 : decode cX4_areLike 138 = .ok (.goto (-112), 3) := dk_167 255 144 (dk_at dksX4_areLike_5 19 rfl rfl)
theorem dX4_areLike_141 : decode cX4_areLike 141 = .ok (.iconst 1, 1) := dk_4 (dk_at dksX4_areLike_5 22 rfl rfl)
theorem dX4_areLike_142 : decode cX4_areLike 142 = .ok (.ireturn, 1) := dk_172 (dk_at dksX4_areLike_5 23 rfl rfl)
abbrev cX4_twin : ByteArray := prog_20_method_40_code
def yX4_twin : MethodName := ⟨RX4, "twin", "(III)I"⟩
def dkwX4_twin_0 : List UInt8 := [42, 27, 28, 29, 3, 182, 0, 227, 172]
abbrev dktX4_twin_0 : List UInt8 := dkwX4_twin_0 ++ []
theorem dksX4_twin_0 : cX4_twin.data.toList.drop 0 = dktX4_twin_0 := by decide +kernel
theorem dX4_twin_0 : decode cX4_twin 0 = .ok (.aload_n 0, 1) := dk_42 (dk_at dksX4_twin_0 0 rfl rfl)
theorem dX4_twin_1 : decode cX4_twin 1 = .ok (.iload_n 1, 1) := dk_27 (dk_at dksX4_twin_0 1 rfl rfl)
theorem dX4_twin_2 : decode cX4_twin 2 = .ok (.iload_n 2, 1) := dk_28 (dk_at dksX4_twin_0 2 rfl rfl)
theorem dX4_twin_3 : decode cX4_twin 3 = .ok (.iload_n 3, 1) := dk_29 (dk_at dksX4_twin_0 3 rfl rfl)
theorem dX4_twin_4 : decode cX4_twin 4 = .ok (.iconst 0, 1) := dk_3 (dk_at dksX4_twin_0 4 rfl rfl)
theorem dX4_twin_5 : decode cX4_twin 5 = .ok (.invokevirtual 227, 3) := dk_182 0 227 (dk_at dksX4_twin_0 5 rfl rfl)
theorem dX4_twin_8 : decode cX4_twin 8 = .ok (.ireturn, 1) := dk_172 (dk_at dksX4_twin_0 8 rfl rfl)
abbrev cX4_finds : ByteArray := prog_20_method_39_code
def yX4_finds : MethodName := ⟨RX4, "finds", "(IIIZ)I"⟩
def dkwX4_finds_3 : List UInt8 := [184, 0, 223, 153, 0, 6, 21, 5, 172, 132, 5, 1, 167, 255, 213, 42, 5, 182, 0, 126, 172]
abbrev dktX4_finds_3 : List UInt8 := dkwX4_finds_3 ++ []
def dkwX4_finds_2 : List UInt8 := [180, 0, 116, 162, 0, 35, 42, 180, 0, 27, 27, 50, 28, 42, 180, 0, 27, 29, 50, 21, 5, 21, 4]
abbrev dktX4_finds_2 : List UInt8 := dkwX4_finds_2 ++ dktX4_finds_3
def dkwX4_finds_1 : List UInt8 := [181, 0, 105, 42, 180, 0, 105, 158, 0, 5, 3, 172, 3, 54, 5, 21, 5, 42, 180, 0, 27, 29, 50]
abbrev dktX4_finds_1 : List UInt8 := dkwX4_finds_1 ++ dktX4_finds_2
def dkwX4_finds_0 : List UInt8 := [42, 42, 27, 28, 182, 0, 119, 153, 0, 14, 29, 184, 0, 112, 153, 0, 7, 3, 167, 0, 4, 4]
abbrev dktX4_finds_0 : List UInt8 := dkwX4_finds_0 ++ dktX4_finds_1
theorem dksX4_finds_0 : cX4_finds.data.toList.drop 0 = dktX4_finds_0 := by decide +kernel
theorem dksX4_finds_1 : cX4_finds.data.toList.drop 22 = dktX4_finds_1 := dk_seg dksX4_finds_0 22 rfl rfl
theorem dksX4_finds_2 : cX4_finds.data.toList.drop 45 = dktX4_finds_2 := dk_seg dksX4_finds_1 23 rfl rfl
theorem dksX4_finds_3 : cX4_finds.data.toList.drop 68 = dktX4_finds_3 := dk_seg dksX4_finds_2 23 rfl rfl
theorem dX4_finds_0 : decode cX4_finds 0 = .ok (.aload_n 0, 1) := dk_42 (dk_at dksX4_finds_0 0 rfl rfl)
theorem dX4_finds_1 : decode cX4_finds 1 = .ok (.aload_n 0, 1) := dk_42 (dk_at dksX4_finds_0 1 rfl rfl)
theorem dX4_finds_2 : decode cX4_finds 2 = .ok (.iload_n 1, 1) := dk_27 (dk_at dksX4_finds_0 2 rfl rfl)
theorem dX4_finds_3 : decode cX4_finds 3 = .ok (.iload_n 2, 1) := dk_28 (dk_at dksX4_finds_0 3 rfl rfl)
theorem dX4_finds_4 : decode cX4_finds 4 = .ok (.invokevirtual 119, 3) := dk_182 0 119 (dk_at dksX4_finds_0 4 rfl rfl)
theorem dX4_finds_7 : decode cX4_finds 7 = .ok (.ifCond .eq 14, 3) := dk_153 0 14 (dk_at dksX4_finds_0 7 rfl rfl)
theorem dX4_finds_10 : decode cX4_finds 10 = .ok (.iload_n 3, 1) := dk_29 (dk_at dksX4_finds_0 10 rfl rfl)
theorem dX4_finds_11 : decode cX4_finds 11 = .ok (.invokestatic 112, 3) := dk_184 0 112 (dk_at dksX4_finds_0 11 rfl rfl)
theorem dX4_finds_14 : decode cX4_finds 14 = .ok (.ifCond .eq 7, 3) := dk_153 0 7 (dk_at dksX4_finds_0 14 rfl rfl)
theorem dX4_finds_17 : decode cX4_finds 17 = .ok (.iconst 0, 1) := dk_3 (dk_at dksX4_finds_0 17 rfl rfl)
theorem dX4_finds_18 : decode cX4_finds 18 = .ok (.goto 4, 3) := dk_167 0 4 (dk_at dksX4_finds_0 18 rfl rfl)
theorem dX4_finds_21 : decode cX4_finds 21 = .ok (.iconst 1, 1) := dk_4 (dk_at dksX4_finds_0 21 rfl rfl)
theorem dX4_finds_22 : decode cX4_finds 22 = .ok (.putfield 105, 3) := dk_181 0 105 (dk_at dksX4_finds_1 0 rfl rfl)
theorem dX4_finds_25 : decode cX4_finds 25 = .ok (.aload_n 0, 1) := dk_42 (dk_at dksX4_finds_1 3 rfl rfl)
theorem dX4_finds_26 : decode cX4_finds 26 = .ok (.getfield 105, 3) := dk_180 0 105 (dk_at dksX4_finds_1 4 rfl rfl)
theorem dX4_finds_29 : decode cX4_finds 29 = .ok (.ifCond .le 5, 3) := dk_158 0 5 (dk_at dksX4_finds_1 7 rfl rfl)
theorem dX4_finds_32 : decode cX4_finds 32 = .ok (.iconst 0, 1) := dk_3 (dk_at dksX4_finds_1 10 rfl rfl)
theorem dX4_finds_33 : decode cX4_finds 33 = .ok (.ireturn, 1) := dk_172 (dk_at dksX4_finds_1 11 rfl rfl)
theorem dX4_finds_34 : decode cX4_finds 34 = .ok (.iconst 0, 1) := dk_3 (dk_at dksX4_finds_1 12 rfl rfl)
theorem dX4_finds_35 : decode cX4_finds 35 = .ok (.istore 5, 2) := dk_54 5 (dk_at dksX4_finds_1 13 rfl rfl)
theorem dX4_finds_37 : decode cX4_finds 37 = .ok (.iload 5, 2) := dk_21 5 (dk_at dksX4_finds_1 15 rfl rfl)
theorem dX4_finds_39 : decode cX4_finds 39 = .ok (.aload_n 0, 1) := dk_42 (dk_at dksX4_finds_1 17 rfl rfl)
theorem dX4_finds_40 : decode cX4_finds 40 = .ok (.getfield 27, 3) := dk_180 0 27 (dk_at dksX4_finds_1 18 rfl rfl)
theorem dX4_finds_43 : decode cX4_finds 43 = .ok (.iload_n 3, 1) := dk_29 (dk_at dksX4_finds_1 21 rfl rfl)
theorem dX4_finds_44 : decode cX4_finds 44 = .ok (.aaload, 1) := dk_50 (dk_at dksX4_finds_1 22 rfl rfl)
theorem dX4_finds_45 : decode cX4_finds 45 = .ok (.getfield 116, 3) := dk_180 0 116 (dk_at dksX4_finds_2 0 rfl rfl)
theorem dX4_finds_48 : decode cX4_finds 48 = .ok (.if_icmp .ge 35, 3) := dk_162 0 35 (dk_at dksX4_finds_2 3 rfl rfl)
theorem dX4_finds_51 : decode cX4_finds 51 = .ok (.aload_n 0, 1) := dk_42 (dk_at dksX4_finds_2 6 rfl rfl)
theorem dX4_finds_52 : decode cX4_finds 52 = .ok (.getfield 27, 3) := dk_180 0 27 (dk_at dksX4_finds_2 7 rfl rfl)
theorem dX4_finds_55 : decode cX4_finds 55 = .ok (.iload_n 1, 1) := dk_27 (dk_at dksX4_finds_2 10 rfl rfl)
theorem dX4_finds_56 : decode cX4_finds 56 = .ok (.aaload, 1) := dk_50 (dk_at dksX4_finds_2 11 rfl rfl)
theorem dX4_finds_57 : decode cX4_finds 57 = .ok (.iload_n 2, 1) := dk_28 (dk_at dksX4_finds_2 12 rfl rfl)
theorem dX4_finds_58 : decode cX4_finds 58 = .ok (.aload_n 0, 1) := dk_42 (dk_at dksX4_finds_2 13 rfl rfl)
theorem dX4_finds_59 : decode cX4_finds 59 = .ok (.getfield 27, 3) := dk_180 0 27 (dk_at dksX4_finds_2 14 rfl rfl)
theorem dX4_finds_62 : decode cX4_finds 62 = .ok (.iload_n 3, 1) := dk_29 (dk_at dksX4_finds_2 17 rfl rfl)
theorem dX4_finds_63 : decode cX4_finds 63 = .ok (.aaload, 1) := dk_50 (dk_at dksX4_finds_2 18 rfl rfl)
theorem dX4_finds_64 : decode cX4_finds 64 = .ok (.iload 5, 2) := dk_21 5 (dk_at dksX4_finds_2 19 rfl rfl)
theorem dX4_finds_66 : decode cX4_finds 66 = .ok (.iload 4, 2) := dk_21 4 (dk_at dksX4_finds_2 21 rfl rfl)
theorem dX4_finds_68 : decode cX4_finds 68 = .ok (.invokestatic 223, 3) := dk_184 0 223 (dk_at dksX4_finds_3 0 rfl rfl)
theorem dX4_finds_71 : decode cX4_finds 71 = .ok (.ifCond .eq 6, 3) := dk_153 0 6 (dk_at dksX4_finds_3 3 rfl rfl)
theorem dX4_finds_74 : decode cX4_finds 74 = .ok (.iload 5, 2) := dk_21 5 (dk_at dksX4_finds_3 6 rfl rfl)
theorem dX4_finds_76 : decode cX4_finds 76 = .ok (.ireturn, 1) := dk_172 (dk_at dksX4_finds_3 8 rfl rfl)
theorem dX4_finds_77 : decode cX4_finds 77 = .ok (.iinc 5 1, 3) := dk_132 5 1 (dk_at dksX4_finds_3 9 rfl rfl)
theorem dX4_finds_80 : decode cX4_finds 80 = .ok (.goto (-43), 3) := dk_167 255 213 (dk_at dksX4_finds_3 12 rfl rfl)
theorem dX4_finds_83 : decode cX4_finds 83 = .ok (.aload_n 0, 1) := dk_42 (dk_at dksX4_finds_3 15 rfl rfl)
theorem dX4_finds_84 : decode cX4_finds 84 = .ok (.iconst 2, 1) := dk_5 (dk_at dksX4_finds_3 16 rfl rfl)
theorem dX4_finds_85 : decode cX4_finds 85 = .ok (.invokevirtual 126, 3) := dk_182 0 126 (dk_at dksX4_finds_3 17 rfl rfl)
theorem dX4_finds_88 : decode cX4_finds 88 = .ok (.ireturn, 1) := dk_172 (dk_at dksX4_finds_3 20 rfl rfl)
abbrev cX4_shapeTwin : ByteArray := prog_20_method_41_code
def yX4_shapeTwin : MethodName := ⟨RX4, "shapeTwin", "(III)I"⟩
def dkwX4_shapeTwin_0 : List UInt8 := [42, 27, 28, 29, 4, 182, 0, 227, 172]
abbrev dktX4_shapeTwin_0 : List UInt8 := dkwX4_shapeTwin_0 ++ []
theorem dksX4_shapeTwin_0 : cX4_shapeTwin.data.toList.drop 0 = dktX4_shapeTwin_0 := by decide +kernel
theorem dX4_shapeTwin_0 : decode cX4_shapeTwin 0 = .ok (.aload_n 0, 1) := dk_42 (dk_at dksX4_shapeTwin_0 0 rfl rfl)
theorem dX4_shapeTwin_1 : decode cX4_shapeTwin 1 = .ok (.iload_n 1, 1) := dk_27 (dk_at dksX4_shapeTwin_0 1 rfl rfl)
theorem dX4_shapeTwin_2 : decode cX4_shapeTwin 2 = .ok (.iload_n 2, 1) := dk_28 (dk_at dksX4_shapeTwin_0 2 rfl rfl)
theorem dX4_shapeTwin_3 : decode cX4_shapeTwin 3 = .ok (.iload_n 3, 1) := dk_29 (dk_at dksX4_shapeTwin_0 3 rfl rfl)
theorem dX4_shapeTwin_4 : decode cX4_shapeTwin 4 = .ok (.iconst 1, 1) := dk_4 (dk_at dksX4_shapeTwin_0 4 rfl rfl)
theorem dX4_shapeTwin_5 : decode cX4_shapeTwin 5 = .ok (.invokevirtual 227, 3) := dk_182 0 227 (dk_at dksX4_shapeTwin_0 5 rfl rfl)
theorem dX4_shapeTwin_8 : decode cX4_shapeTwin 8 = .ok (.ireturn, 1) := dk_172 (dk_at dksX4_shapeTwin_0 8 rfl rfl)
abbrev cX4_distance : ByteArray := prog_20_method_47_code
def yX4_distance : MethodName := ⟨RX4, "distance", "(II)I"⟩
def dkwX4_distance_1 : List UInt8 := [28, 50, 182, 0, 253, 172]
abbrev dktX4_distance_1 : List UInt8 := dkwX4_distance_1 ++ []
def dkwX4_distance_0 : List UInt8 := [42, 27, 28, 182, 0, 217, 153, 0, 7, 3, 167, 0, 19, 42, 42, 180, 0, 27, 27, 50, 42, 180, 0, 27]
abbrev dktX4_distance_0 : List UInt8 := dkwX4_distance_0 ++ dktX4_distance_1
theorem dksX4_distance_0 : cX4_distance.data.toList.drop 0 = dktX4_distance_0 := by decide +kernel
theorem dksX4_distance_1 : cX4_distance.data.toList.drop 24 = dktX4_distance_1 := dk_seg dksX4_distance_0 24 rfl rfl
theorem dX4_distance_0 : decode cX4_distance 0 = .ok (.aload_n 0, 1) := dk_42 (dk_at dksX4_distance_0 0 rfl rfl)
theorem dX4_distance_1 : decode cX4_distance 1 = .ok (.iload_n 1, 1) := dk_27 (dk_at dksX4_distance_0 1 rfl rfl)
theorem dX4_distance_2 : decode cX4_distance 2 = .ok (.iload_n 2, 1) := dk_28 (dk_at dksX4_distance_0 2 rfl rfl)
theorem dX4_distance_3 : decode cX4_distance 3 = .ok (.invokevirtual 217, 3) := dk_182 0 217 (dk_at dksX4_distance_0 3 rfl rfl)
theorem dX4_distance_6 : decode cX4_distance 6 = .ok (.ifCond .eq 7, 3) := dk_153 0 7 (dk_at dksX4_distance_0 6 rfl rfl)
theorem dX4_distance_9 : decode cX4_distance 9 = .ok (.iconst 0, 1) := dk_3 (dk_at dksX4_distance_0 9 rfl rfl)
theorem dX4_distance_10 : decode cX4_distance 10 = .ok (.goto 19, 3) := dk_167 0 19 (dk_at dksX4_distance_0 10 rfl rfl)
theorem dX4_distance_13 : decode cX4_distance 13 = .ok (.aload_n 0, 1) := dk_42 (dk_at dksX4_distance_0 13 rfl rfl)
theorem dX4_distance_14 : decode cX4_distance 14 = .ok (.aload_n 0, 1) := dk_42 (dk_at dksX4_distance_0 14 rfl rfl)
theorem dX4_distance_15 : decode cX4_distance 15 = .ok (.getfield 27, 3) := dk_180 0 27 (dk_at dksX4_distance_0 15 rfl rfl)
theorem dX4_distance_18 : decode cX4_distance 18 = .ok (.iload_n 1, 1) := dk_27 (dk_at dksX4_distance_0 18 rfl rfl)
theorem dX4_distance_19 : decode cX4_distance 19 = .ok (.aaload, 1) := dk_50 (dk_at dksX4_distance_0 19 rfl rfl)
theorem dX4_distance_20 : decode cX4_distance 20 = .ok (.aload_n 0, 1) := dk_42 (dk_at dksX4_distance_0 20 rfl rfl)
theorem dX4_distance_21 : decode cX4_distance 21 = .ok (.getfield 27, 3) := dk_180 0 27 (dk_at dksX4_distance_0 21 rfl rfl)
theorem dX4_distance_24 : decode cX4_distance 24 = .ok (.iload_n 2, 1) := dk_28 (dk_at dksX4_distance_1 0 rfl rfl)
theorem dX4_distance_25 : decode cX4_distance 25 = .ok (.aaload, 1) := dk_50 (dk_at dksX4_distance_1 1 rfl rfl)
theorem dX4_distance_26 : decode cX4_distance 26 = .ok (.invokevirtual 253, 3) := dk_182 0 253 (dk_at dksX4_distance_1 2 rfl rfl)
theorem dX4_distance_29 : decode cX4_distance 29 = .ok (.ireturn, 1) := dk_172 (dk_at dksX4_distance_1 5 rfl rfl)
abbrev cX4_fills : ByteArray := prog_20_method_43_code
def yX4_fills : MethodName := ⟨RX4, "fills", "(LTreeDifferModel$Tree;LTreeDifferModel$Tree;)I"⟩
def dkwX4_fills_5 : List UInt8 := [180, 0, 53, 3, 50, 3, 46, 172]
abbrev dktX4_fills_5 : List UInt8 := dkwX4_fills_5 ++ []
def dkwX4_fills_4 : List UInt8 := [182, 0, 238, 3, 50, 3, 46, 96, 79, 132, 4, 255, 167, 255, 170, 132, 3, 255, 167, 255, 152, 42]
abbrev dktX4_fills_4 : List UInt8 := dkwX4_fills_4 ++ dktX4_fills_5
def dkwX4_fills_3 : List UInt8 := [180, 0, 53, 29, 50, 21, 4, 21, 5, 42, 43, 43, 29, 182, 0, 173, 44, 44, 21, 4, 182, 0, 173]
abbrev dktX4_fills_3 : List UInt8 := dkwX4_fills_3 ++ dktX4_fills_4
def dkwX4_fills_2 : List UInt8 := [180, 0, 17, 29, 46, 44, 180, 0, 17, 21, 4, 46, 160, 0, 7, 3, 167, 0, 4, 4, 96, 54, 5, 42]
abbrev dktX4_fills_2 : List UInt8 := dkwX4_fills_2 ++ dktX4_fills_3
def dkwX4_fills_1 : List UInt8 := [43, 180, 0, 11, 29, 46, 44, 180, 0, 11, 21, 4, 46, 160, 0, 7, 3, 167, 0, 4, 6, 43]
abbrev dktX4_fills_1 : List UInt8 := dkwX4_fills_1 ++ dktX4_fills_2
def dkwX4_fills_0 : List UInt8 := [43, 180, 0, 116, 4, 100, 62, 29, 155, 0, 106, 44, 180, 0, 116, 4, 100, 54, 4, 21, 4, 155, 0, 87]
abbrev dktX4_fills_0 : List UInt8 := dkwX4_fills_0 ++ dktX4_fills_1
theorem dksX4_fills_0 : cX4_fills.data.toList.drop 0 = dktX4_fills_0 := by decide +kernel
theorem dksX4_fills_1 : cX4_fills.data.toList.drop 24 = dktX4_fills_1 := dk_seg dksX4_fills_0 24 rfl rfl
theorem dksX4_fills_2 : cX4_fills.data.toList.drop 46 = dktX4_fills_2 := dk_seg dksX4_fills_1 22 rfl rfl
theorem dksX4_fills_3 : cX4_fills.data.toList.drop 70 = dktX4_fills_3 := dk_seg dksX4_fills_2 24 rfl rfl
theorem dksX4_fills_4 : cX4_fills.data.toList.drop 93 = dktX4_fills_4 := dk_seg dksX4_fills_3 23 rfl rfl
theorem dksX4_fills_5 : cX4_fills.data.toList.drop 115 = dktX4_fills_5 := dk_seg dksX4_fills_4 22 rfl rfl
theorem dX4_fills_0 : decode cX4_fills 0 = .ok (.aload_n 1, 1) := dk_43 (dk_at dksX4_fills_0 0 rfl rfl)
theorem dX4_fills_1 : decode cX4_fills 1 = .ok (.getfield 116, 3) := dk_180 0 116 (dk_at dksX4_fills_0 1 rfl rfl)
theorem dX4_fills_4 : decode cX4_fills 4 = .ok (.iconst 1, 1) := dk_4 (dk_at dksX4_fills_0 4 rfl rfl)
theorem dX4_fills_5 : decode cX4_fills 5 = .ok (.isub, 1) := dk_100 (dk_at dksX4_fills_0 5 rfl rfl)
theorem dX4_fills_6 : decode cX4_fills 6 = .ok (.istore_n 3, 1) := dk_62 (dk_at dksX4_fills_0 6 rfl rfl)
theorem dX4_fills_7 : decode cX4_fills 7 = .ok (.iload_n 3, 1) := dk_29 (dk_at dksX4_fills_0 7 rfl rfl)
theorem dX4_fills_8 : decode cX4_fills 8 = .ok (.ifCond .lt 106, 3) := dk_155 0 106 (dk_at dksX4_fills_0 8 rfl rfl)
theorem dX4_fills_11 : decode cX4_fills 11 = .ok (.aload_n 2, 1) := dk_44 (dk_at dksX4_fills_0 11 rfl rfl)
theorem dX4_fills_12 : decode cX4_fills 12 = .ok (.getfield 116, 3) := dk_180 0 116 (dk_at dksX4_fills_0 12 rfl rfl)
theorem dX4_fills_15 : decode cX4_fills 15 = .ok (.iconst 1, 1) := dk_4 (dk_at dksX4_fills_0 15 rfl rfl)
theorem dX4_fills_16 : decode cX4_fills 16 = .ok (.isub, 1) := dk_100 (dk_at dksX4_fills_0 16 rfl rfl)
theorem dX4_fills_17 : decode cX4_fills 17 = .ok (.istore 4, 2) := dk_54 4 (dk_at dksX4_fills_0 17 rfl rfl)
theorem dX4_fills_19 : decode cX4_fills 19 = .ok (.iload 4, 2) := dk_21 4 (dk_at dksX4_fills_0 19 rfl rfl)
theorem dX4_fills_21 : decode cX4_fills 21 = .ok (.ifCond .lt 87, 3) := dk_155 0 87 (dk_at dksX4_fills_0 21 rfl rfl)
theorem dX4_fills_24 : decode cX4_fills 24 = .ok (.aload_n 1, 1) := dk_43 (dk_at dksX4_fills_1 0 rfl rfl)
theorem dX4_fills_25 : decode cX4_fills 25 = .ok (.getfield 11, 3) := dk_180 0 11 (dk_at dksX4_fills_1 1 rfl rfl)
theorem dX4_fills_28 : decode cX4_fills 28 = .ok (.iload_n 3, 1) := dk_29 (dk_at dksX4_fills_1 4 rfl rfl)
theorem dX4_fills_29 : decode cX4_fills 29 = .ok (.iaload, 1) := dk_46 (dk_at dksX4_fills_1 5 rfl rfl)
theorem dX4_fills_30 : decode cX4_fills 30 = .ok (.aload_n 2, 1) := dk_44 (dk_at dksX4_fills_1 6 rfl rfl)
theorem dX4_fills_31 : decode cX4_fills 31 = .ok (.getfield 11, 3) := dk_180 0 11 (dk_at dksX4_fills_1 7 rfl rfl)
theorem dX4_fills_34 : decode cX4_fills 34 = .ok (.iload 4, 2) := dk_21 4 (dk_at dksX4_fills_1 10 rfl rfl)
theorem dX4_fills_36 : decode cX4_fills 36 = .ok (.iaload, 1) := dk_46 (dk_at dksX4_fills_1 12 rfl rfl)
theorem dX4_fills_37 : decode cX4_fills 37 = .ok (.if_icmp .ne 7, 3) := dk_160 0 7 (dk_at dksX4_fills_1 13 rfl rfl)
theorem dX4_fills_40 : decode cX4_fills 40 = .ok (.iconst 0, 1) := dk_3 (dk_at dksX4_fills_1 16 rfl rfl)
theorem dX4_fills_41 : decode cX4_fills 41 = .ok (.goto 4, 3) := dk_167 0 4 (dk_at dksX4_fills_1 17 rfl rfl)
theorem dX4_fills_44 : decode cX4_fills 44 = .ok (.iconst 3, 1) := dk_6 (dk_at dksX4_fills_1 20 rfl rfl)
theorem dX4_fills_45 : decode cX4_fills 45 = .ok (.aload_n 1, 1) := dk_43 (dk_at dksX4_fills_1 21 rfl rfl)
theorem dX4_fills_46 : decode cX4_fills 46 = .ok (.getfield 17, 3) := dk_180 0 17 (dk_at dksX4_fills_2 0 rfl rfl)
theorem dX4_fills_49 : decode cX4_fills 49 = .ok (.iload_n 3, 1) := dk_29 (dk_at dksX4_fills_2 3 rfl rfl)
theorem dX4_fills_50 : decode cX4_fills 50 = .ok (.iaload, 1) := dk_46 (dk_at dksX4_fills_2 4 rfl rfl)
theorem dX4_fills_51 : decode cX4_fills 51 = .ok (.aload_n 2, 1) := dk_44 (dk_at dksX4_fills_2 5 rfl rfl)
theorem dX4_fills_52 : decode cX4_fills 52 = .ok (.getfield 17, 3) := dk_180 0 17 (dk_at dksX4_fills_2 6 rfl rfl)
theorem dX4_fills_55 : decode cX4_fills 55 = .ok (.iload 4, 2) := dk_21 4 (dk_at dksX4_fills_2 9 rfl rfl)
theorem dX4_fills_57 : decode cX4_fills 57 = .ok (.iaload, 1) := dk_46 (dk_at dksX4_fills_2 11 rfl rfl)
theorem dX4_fills_58 : decode cX4_fills 58 = .ok (.if_icmp .ne 7, 3) := dk_160 0 7 (dk_at dksX4_fills_2 12 rfl rfl)
theorem dX4_fills_61 : decode cX4_fills 61 = .ok (.iconst 0, 1) := dk_3 (dk_at dksX4_fills_2 15 rfl rfl)
theorem dX4_fills_62 : decode cX4_fills 62 = .ok (.goto 4, 3) := dk_167 0 4 (dk_at dksX4_fills_2 16 rfl rfl)
theorem dX4_fills_65 : decode cX4_fills 65 = .ok (.iconst 1, 1) := dk_4 (dk_at dksX4_fills_2 19 rfl rfl)
theorem dX4_fills_66 : decode cX4_fills 66 = .ok (.iadd, 1) := dk_96 (dk_at dksX4_fills_2 20 rfl rfl)
theorem dX4_fills_67 : decode cX4_fills 67 = .ok (.istore 5, 2) := dk_54 5 (dk_at dksX4_fills_2 21 rfl rfl)
theorem dX4_fills_69 : decode cX4_fills 69 = .ok (.aload_n 0, 1) := dk_42 (dk_at dksX4_fills_2 23 rfl rfl)
theorem dX4_fills_70 : decode cX4_fills 70 = .ok (.getfield 53, 3) := dk_180 0 53 (dk_at dksX4_fills_3 0 rfl rfl)
theorem dX4_fills_73 : decode cX4_fills 73 = .ok (.iload_n 3, 1) := dk_29 (dk_at dksX4_fills_3 3 rfl rfl)
theorem dX4_fills_74 : decode cX4_fills 74 = .ok (.aaload, 1) := dk_50 (dk_at dksX4_fills_3 4 rfl rfl)
theorem dX4_fills_75 : decode cX4_fills 75 = .ok (.iload 4, 2) := dk_21 4 (dk_at dksX4_fills_3 5 rfl rfl)
theorem dX4_fills_77 : decode cX4_fills 77 = .ok (.iload 5, 2) := dk_21 5 (dk_at dksX4_fills_3 7 rfl rfl)
theorem dX4_fills_79 : decode cX4_fills 79 = .ok (.aload_n 0, 1) := dk_42 (dk_at dksX4_fills_3 9 rfl rfl)
theorem dX4_fills_80 : decode cX4_fills 80 = .ok (.aload_n 1, 1) := dk_43 (dk_at dksX4_fills_3 10 rfl rfl)
theorem dX4_fills_81 : decode cX4_fills 81 = .ok (.aload_n 1, 1) := dk_43 (dk_at dksX4_fills_3 11 rfl rfl)
theorem dX4_fills_82 : decode cX4_fills 82 = .ok (.iload_n 3, 1) := dk_29 (dk_at dksX4_fills_3 12 rfl rfl)
theorem dX4_fills_83 : decode cX4_fills 83 = .ok (.invokevirtual 173, 3) := dk_182 0 173 (dk_at dksX4_fills_3 13 rfl rfl)
theorem dX4_fills_86 : decode cX4_fills 86 = .ok (.aload_n 2, 1) := dk_44 (dk_at dksX4_fills_3 16 rfl rfl)
theorem dX4_fills_87 : decode cX4_fills 87 = .ok (.aload_n 2, 1) := dk_44 (dk_at dksX4_fills_3 17 rfl rfl)
theorem dX4_fills_88 : decode cX4_fills 88 = .ok (.iload 4, 2) := dk_21 4 (dk_at dksX4_fills_3 18 rfl rfl)
theorem dX4_fills_90 : decode cX4_fills 90 = .ok (.invokevirtual 173, 3) := dk_182 0 173 (dk_at dksX4_fills_3 20 rfl rfl)
theorem dX4_fills_93 : decode cX4_fills 93 = .ok (.invokevirtual 238, 3) := dk_182 0 238 (dk_at dksX4_fills_4 0 rfl rfl)
theorem dX4_fills_96 : decode cX4_fills 96 = .ok (.iconst 0, 1) := dk_3 (dk_at dksX4_fills_4 3 rfl rfl)
theorem dX4_fills_97 : decode cX4_fills 97 = .ok (.aaload, 1) := dk_50 (dk_at dksX4_fills_4 4 rfl rfl)
theorem dX4_fills_98 : decode cX4_fills 98 = .ok (.iconst 0, 1) := dk_3 (dk_at dksX4_fills_4 5 rfl rfl)
theorem dX4_fills_99 : decode cX4_fills 99 = .ok (.iaload, 1) := dk_46 (dk_at dksX4_fills_4 6 rfl rfl)
theorem dX4_fills_100 : decode cX4_fills 100 = .ok (.iadd, 1) := dk_96 (dk_at dksX4_fills_4 7 rfl rfl)
theorem dX4_fills_101 : decode cX4_fills 101 = .ok (.iastore, 1) := dk_79 (dk_at dksX4_fills_4 8 rfl rfl)
theorem dX4_fills_102 : decode cX4_fills 102 = .ok (.iinc 4 (-1), 3) := dk_132 4 255 (dk_at dksX4_fills_4 9 rfl rfl)
theorem dX4_fills_105 : decode cX4_fills 105 = .ok (.goto (-86), 3) := dk_167 255 170 (dk_at dksX4_fills_4 12 rfl rfl)
theorem dX4_fills_108 : decode cX4_fills 108 = .ok (.iinc 3 (-1), 3) := dk_132 3 255 (dk_at dksX4_fills_4 15 rfl rfl)
theorem dX4_fills_111 : decode cX4_fills 111 = .ok (.goto (-104), 3) := dk_167 255 152 (dk_at dksX4_fills_4 18 rfl rfl)
theorem dX4_fills_114 : decode cX4_fills 114 = .ok (.aload_n 0, 1) := dk_42 (dk_at dksX4_fills_4 21 rfl rfl)
theorem dX4_fills_115 : decode cX4_fills 115 = .ok (.getfield 53, 3) := dk_180 0 53 (dk_at dksX4_fills_5 0 rfl rfl)
theorem dX4_fills_118 : decode cX4_fills 118 = .ok (.iconst 0, 1) := dk_3 (dk_at dksX4_fills_5 3 rfl rfl)
theorem dX4_fills_119 : decode cX4_fills 119 = .ok (.aaload, 1) := dk_50 (dk_at dksX4_fills_5 4 rfl rfl)
theorem dX4_fills_120 : decode cX4_fills 120 = .ok (.iconst 0, 1) := dk_3 (dk_at dksX4_fills_5 5 rfl rfl)
theorem dX4_fills_121 : decode cX4_fills 121 = .ok (.iaload, 1) := dk_46 (dk_at dksX4_fills_5 6 rfl rfl)
theorem dX4_fills_122 : decode cX4_fills 122 = .ok (.ireturn, 1) := dk_172 (dk_at dksX4_fills_5 7 rfl rfl)
abbrev cX4_left : ByteArray := prog_20_method_42_code
def yX4_left : MethodName := ⟨RX4, "left", "(LTreeDifferModel$Tree;[ILTreeDifferModel$Tree;[I)[[I"⟩
def dkwX4_left_9 : List UInt8 := [21, 7, 21, 8, 79, 132, 7, 255, 167, 255, 66, 132, 6, 255, 167, 255, 50, 25, 5, 176]
abbrev dktX4_left_9 : List UInt8 := dkwX4_left_9 ++ []
def dkwX4_left_8 : List UInt8 := [25, 5, 21, 6, 4, 96, 50, 21, 7, 4, 96, 46, 96, 184, 0, 232, 54, 8, 25, 5, 21, 6, 50]
abbrev dktX4_left_8 : List UInt8 := dkwX4_left_8 ++ dktX4_left_9
def dkwX4_left_7 : List UInt8 := [21, 7, 46, 46, 160, 0, 38, 21, 8, 42, 180, 0, 53, 44, 21, 6, 46, 50, 25, 4, 21, 7, 46, 46]
abbrev dktX4_left_7 : List UInt8 := dkwX4_left_7 ++ dktX4_left_8
def dkwX4_left_6 : List UInt8 := [21, 7, 25, 4, 190, 162, 0, 60, 43, 180, 0, 14, 44, 21, 6, 46, 46, 45, 180, 0, 14, 25, 4]
abbrev dktX4_left_6 : List UInt8 := dkwX4_left_6 ++ dktX4_left_7
def dkwX4_left_5 : List UInt8 := [104, 25, 5, 21, 6, 50, 21, 7, 4, 96, 46, 96, 184, 0, 232, 54, 8, 21, 6, 44, 190, 162, 0, 68]
abbrev dktX4_left_5 : List UInt8 := dkwX4_left_5 ++ dktX4_left_6
def dkwX4_left_4 : List UInt8 := [25, 4, 190, 162, 0, 38, 21, 8, 5, 45, 25, 4, 21, 7, 46, 182, 0, 1, 25, 4, 21, 7, 46, 100]
abbrev dktX4_left_4 : List UInt8 := dkwX4_left_4 ++ dktX4_left_5
def dkwX4_left_3 : List UInt8 := [182, 0, 1, 44, 21, 6, 46, 100, 104, 25, 5, 21, 6, 4, 96, 50, 21, 7, 46, 96, 54, 8, 21, 7]
abbrev dktX4_left_3 : List UInt8 := dkwX4_left_3 ++ dktX4_left_4
def dkwX4_left_2 : List UInt8 := [160, 0, 6, 167, 0, 167, 18, 231, 54, 8, 21, 6, 44, 190, 162, 0, 31, 5, 43, 44, 21, 6, 46]
abbrev dktX4_left_2 : List UInt8 := dkwX4_left_2 ++ dktX4_left_3
def dkwX4_left_1 : List UInt8 := [25, 4, 190, 54, 7, 21, 7, 155, 0, 191, 21, 6, 44, 190, 160, 0, 14, 21, 7, 25, 4, 190]
abbrev dktX4_left_1 : List UInt8 := dkwX4_left_1 ++ dktX4_left_2
def dkwX4_left_0 : List UInt8 := [44, 190, 4, 96, 25, 4, 190, 4, 96, 197, 0, 51, 2, 58, 5, 44, 190, 54, 6, 21, 6, 155, 0, 207]
abbrev dktX4_left_0 : List UInt8 := dkwX4_left_0 ++ dktX4_left_1
theorem dksX4_left_0 : cX4_left.data.toList.drop 0 = dktX4_left_0 := by decide +kernel
theorem dksX4_left_1 : cX4_left.data.toList.drop 24 = dktX4_left_1 := dk_seg dksX4_left_0 24 rfl rfl
theorem dksX4_left_2 : cX4_left.data.toList.drop 46 = dktX4_left_2 := dk_seg dksX4_left_1 22 rfl rfl
theorem dksX4_left_3 : cX4_left.data.toList.drop 69 = dktX4_left_3 := dk_seg dksX4_left_2 23 rfl rfl
theorem dksX4_left_4 : cX4_left.data.toList.drop 93 = dktX4_left_4 := dk_seg dksX4_left_3 24 rfl rfl
theorem dksX4_left_5 : cX4_left.data.toList.drop 117 = dktX4_left_5 := dk_seg dksX4_left_4 24 rfl rfl
theorem dksX4_left_6 : cX4_left.data.toList.drop 141 = dktX4_left_6 := dk_seg dksX4_left_5 24 rfl rfl
theorem dksX4_left_7 : cX4_left.data.toList.drop 164 = dktX4_left_7 := dk_seg dksX4_left_6 23 rfl rfl
theorem dksX4_left_8 : cX4_left.data.toList.drop 188 = dktX4_left_8 := dk_seg dksX4_left_7 24 rfl rfl
theorem dksX4_left_9 : cX4_left.data.toList.drop 211 = dktX4_left_9 := dk_seg dksX4_left_8 23 rfl rfl
theorem dX4_left_0 : decode cX4_left 0 = .ok (.aload_n 2, 1) := dk_44 (dk_at dksX4_left_0 0 rfl rfl)
theorem dX4_left_1 : decode cX4_left 1 = .ok (.arraylength, 1) := dk_190 (dk_at dksX4_left_0 1 rfl rfl)
theorem dX4_left_2 : decode cX4_left 2 = .ok (.iconst 1, 1) := dk_4 (dk_at dksX4_left_0 2 rfl rfl)
theorem dX4_left_3 : decode cX4_left 3 = .ok (.iadd, 1) := dk_96 (dk_at dksX4_left_0 3 rfl rfl)
theorem dX4_left_4 : decode cX4_left 4 = .ok (.aload 4, 2) := dk_25 4 (dk_at dksX4_left_0 4 rfl rfl)
theorem dX4_left_6 : decode cX4_left 6 = .ok (.arraylength, 1) := dk_190 (dk_at dksX4_left_0 6 rfl rfl)
theorem dX4_left_7 : decode cX4_left 7 = .ok (.iconst 1, 1) := dk_4 (dk_at dksX4_left_0 7 rfl rfl)
theorem dX4_left_8 : decode cX4_left 8 = .ok (.iadd, 1) := dk_96 (dk_at dksX4_left_0 8 rfl rfl)
theorem dX4_left_9 : decode cX4_left 9 = .ok (.multianewarray 51 2, 4) := by decide +kernel
theorem dX4_left_13 : decode cX4_left 13 = .ok (.astore 5, 2) := dk_58 5 (dk_at dksX4_left_0 13 rfl rfl)
theorem dX4_left_15 : decode cX4_left 15 = .ok (.aload_n 2, 1) := dk_44 (dk_at dksX4_left_0 15 rfl rfl)
theorem dX4_left_16 : decode cX4_left 16 = .ok (.arraylength, 1) := dk_190 (dk_at dksX4_left_0 16 rfl rfl)
theorem dX4_left_17 : decode cX4_left 17 = .ok (.istore 6, 2) := dk_54 6 (dk_at dksX4_left_0 17 rfl rfl)
theorem dX4_left_19 : decode cX4_left 19 = .ok (.iload 6, 2) := dk_21 6 (dk_at dksX4_left_0 19 rfl rfl)
theorem dX4_left_21 : decode cX4_left 21 = .ok (.ifCond .lt 207, 3) := dk_155 0 207 (dk_at dksX4_left_0 21 rfl rfl)
theorem dX4_left_24 : decode cX4_left 24 = .ok (.aload 4, 2) := dk_25 4 (dk_at dksX4_left_1 0 rfl rfl)
theorem dX4_left_26 : decode cX4_left 26 = .ok (.arraylength, 1) := dk_190 (dk_at dksX4_left_1 2 rfl rfl)
theorem dX4_left_27 : decode cX4_left 27 = .ok (.istore 7, 2) := dk_54 7 (dk_at dksX4_left_1 3 rfl rfl)
theorem dX4_left_29 : decode cX4_left 29 = .ok (.iload 7, 2) := dk_21 7 (dk_at dksX4_left_1 5 rfl rfl)
theorem dX4_left_31 : decode cX4_left 31 = .ok (.ifCond .lt 191, 3) := dk_155 0 191 (dk_at dksX4_left_1 7 rfl rfl)
theorem dX4_left_34 : decode cX4_left 34 = .ok (.iload 6, 2) := dk_21 6 (dk_at dksX4_left_1 10 rfl rfl)
theorem dX4_left_36 : decode cX4_left 36 = .ok (.aload_n 2, 1) := dk_44 (dk_at dksX4_left_1 12 rfl rfl)
theorem dX4_left_37 : decode cX4_left 37 = .ok (.arraylength, 1) := dk_190 (dk_at dksX4_left_1 13 rfl rfl)
theorem dX4_left_38 : decode cX4_left 38 = .ok (.if_icmp .ne 14, 3) := dk_160 0 14 (dk_at dksX4_left_1 14 rfl rfl)
theorem dX4_left_41 : decode cX4_left 41 = .ok (.iload 7, 2) := dk_21 7 (dk_at dksX4_left_1 17 rfl rfl)
theorem dX4_left_43 : decode cX4_left 43 = .ok (.aload 4, 2) := dk_25 4 (dk_at dksX4_left_1 19 rfl rfl)
theorem dX4_left_45 : decode cX4_left 45 = .ok (.arraylength, 1) := dk_190 (dk_at dksX4_left_1 21 rfl rfl)
theorem dX4_left_46 : decode cX4_left 46 = .ok (.if_icmp .ne 6, 3) := dk_160 0 6 (dk_at dksX4_left_2 0 rfl rfl)
theorem dX4_left_49 : decode cX4_left 49 = .ok (.goto 167, 3) := dk_167 0 167 (dk_at dksX4_left_2 3 rfl rfl)
theorem dX4_left_52 : decode cX4_left 52 = .ok (.ldc 231, 2) := dk_18 231 (dk_at dksX4_left_2 6 rfl rfl)
theorem dX4_left_54 : decode cX4_left 54 = .ok (.istore 8, 2) := dk_54 8 (dk_at dksX4_left_2 8 rfl rfl)
theorem dX4_left_56 : decode cX4_left 56 = .ok (.iload 6, 2) := dk_21 6 (dk_at dksX4_left_2 10 rfl rfl)
theorem dX4_left_58 : decode cX4_left 58 = .ok (.aload_n 2, 1) := dk_44 (dk_at dksX4_left_2 12 rfl rfl)
theorem dX4_left_59 : decode cX4_left 59 = .ok (.arraylength, 1) := dk_190 (dk_at dksX4_left_2 13 rfl rfl)
theorem dX4_left_60 : decode cX4_left 60 = .ok (.if_icmp .ge 31, 3) := dk_162 0 31 (dk_at dksX4_left_2 14 rfl rfl)
theorem dX4_left_63 : decode cX4_left 63 = .ok (.iconst 2, 1) := dk_5 (dk_at dksX4_left_2 17 rfl rfl)
theorem dX4_left_64 : decode cX4_left 64 = .ok (.aload_n 1, 1) := dk_43 (dk_at dksX4_left_2 18 rfl rfl)
theorem dX4_left_65 : decode cX4_left 65 = .ok (.aload_n 2, 1) := dk_44 (dk_at dksX4_left_2 19 rfl rfl)
theorem dX4_left_66 : decode cX4_left 66 = .ok (.iload 6, 2) := dk_21 6 (dk_at dksX4_left_2 20 rfl rfl)
theorem dX4_left_68 : decode cX4_left 68 = .ok (.iaload, 1) := dk_46 (dk_at dksX4_left_2 22 rfl rfl)
theorem dX4_left_69 : decode cX4_left 69 = .ok (.invokevirtual 1, 3) := dk_182 0 1 (dk_at dksX4_left_3 0 rfl rfl)
theorem dX4_left_72 : decode cX4_left 72 = .ok (.aload_n 2, 1) := dk_44 (dk_at dksX4_left_3 3 rfl rfl)
theorem dX4_left_73 : decode cX4_left 73 = .ok (.iload 6, 2) := dk_21 6 (dk_at dksX4_left_3 4 rfl rfl)
theorem dX4_left_75 : decode cX4_left 75 = .ok (.iaload, 1) := dk_46 (dk_at dksX4_left_3 6 rfl rfl)
theorem dX4_left_76 : decode cX4_left 76 = .ok (.isub, 1) := dk_100 (dk_at dksX4_left_3 7 rfl rfl)
theorem dX4_left_77 : decode cX4_left 77 = .ok (.imul, 1) := dk_104 (dk_at dksX4_left_3 8 rfl rfl)
theorem dX4_left_78 : decode cX4_left 78 = .ok (.aload 5, 2) := dk_25 5 (dk_at dksX4_left_3 9 rfl rfl)
theorem dX4_left_80 : decode cX4_left 80 = .ok (.iload 6, 2) := dk_21 6 (dk_at dksX4_left_3 11 rfl rfl)
theorem dX4_left_82 : decode cX4_left 82 = .ok (.iconst 1, 1) := dk_4 (dk_at dksX4_left_3 13 rfl rfl)
theorem dX4_left_83 : decode cX4_left 83 = .ok (.iadd, 1) := dk_96 (dk_at dksX4_left_3 14 rfl rfl)
theorem dX4_left_84 : decode cX4_left 84 = .ok (.aaload, 1) := dk_50 (dk_at dksX4_left_3 15 rfl rfl)
theorem dX4_left_85 : decode cX4_left 85 = .ok (.iload 7, 2) := dk_21 7 (dk_at dksX4_left_3 16 rfl rfl)
theorem dX4_left_87 : decode cX4_left 87 = .ok (.iaload, 1) := dk_46 (dk_at dksX4_left_3 18 rfl rfl)
theorem dX4_left_88 : decode cX4_left 88 = .ok (.iadd, 1) := dk_96 (dk_at dksX4_left_3 19 rfl rfl)
theorem dX4_left_89 : decode cX4_left 89 = .ok (.istore 8, 2) := dk_54 8 (dk_at dksX4_left_3 20 rfl rfl)
theorem dX4_left_91 : decode cX4_left 91 = .ok (.iload 7, 2) := dk_21 7 (dk_at dksX4_left_3 22 rfl rfl)
theorem dX4_left_93 : decode cX4_left 93 = .ok (.aload 4, 2) := dk_25 4 (dk_at dksX4_left_4 0 rfl rfl)
theorem dX4_left_95 : decode cX4_left 95 = .ok (.arraylength, 1) := dk_190 (dk_at dksX4_left_4 2 rfl rfl)
theorem dX4_left_96 : decode cX4_left 96 = .ok (.if_icmp .ge 38, 3) := dk_162 0 38 (dk_at dksX4_left_4 3 rfl rfl)
theorem dX4_left_99 : decode cX4_left 99 = .ok (.iload 8, 2) := dk_21 8 (dk_at dksX4_left_4 6 rfl rfl)
theorem dX4_left_101 : decode cX4_left 101 = .ok (.iconst 2, 1) := dk_5 (dk_at dksX4_left_4 8 rfl rfl)
theorem dX4_left_102 : decode cX4_left 102 = .ok (.aload_n 3, 1) := dk_45 (dk_at dksX4_left_4 9 rfl rfl)
theorem dX4_left_103 : decode cX4_left 103 = .ok (.aload 4, 2) := dk_25 4 (dk_at dksX4_left_4 10 rfl rfl)
theorem dX4_left_105 : decode cX4_left 105 = .ok (.iload 7, 2) := dk_21 7 (dk_at dksX4_left_4 12 rfl rfl)
theorem dX4_left_107 : decode cX4_left 107 = .ok (.iaload, 1) := dk_46 (dk_at dksX4_left_4 14 rfl rfl)
theorem dX4_left_108 : decode cX4_left 108 = .ok (.invokevirtual 1, 3) := dk_182 0 1 (dk_at dksX4_left_4 15 rfl rfl)
theorem dX4_left_111 : decode cX4_left 111 = .ok (.aload 4, 2) := dk_25 4 (dk_at dksX4_left_4 18 rfl rfl)
theorem dX4_left_113 : decode cX4_left 113 = .ok (.iload 7, 2) := dk_21 7 (dk_at dksX4_left_4 20 rfl rfl)
theorem dX4_left_115 : decode cX4_left 115 = .ok (.iaload, 1) := dk_46 (dk_at dksX4_left_4 22 rfl rfl)
theorem dX4_left_116 : decode cX4_left 116 = .ok (.isub, 1) := dk_100 (dk_at dksX4_left_4 23 rfl rfl)
theorem dX4_left_117 : decode cX4_left 117 = .ok (.imul, 1) := dk_104 (dk_at dksX4_left_5 0 rfl rfl)
theorem dX4_left_118 : decode cX4_left 118 = .ok (.aload 5, 2) := dk_25 5 (dk_at dksX4_left_5 1 rfl rfl)
theorem dX4_left_120 : decode cX4_left 120 = .ok (.iload 6, 2) := dk_21 6 (dk_at dksX4_left_5 3 rfl rfl)
theorem dX4_left_122 : decode cX4_left 122 = .ok (.aaload, 1) := dk_50 (dk_at dksX4_left_5 5 rfl rfl)
theorem dX4_left_123 : decode cX4_left 123 = .ok (.iload 7, 2) := dk_21 7 (dk_at dksX4_left_5 6 rfl rfl)
theorem dX4_left_125 : decode cX4_left 125 = .ok (.iconst 1, 1) := dk_4 (dk_at dksX4_left_5 8 rfl rfl)
theorem dX4_left_126 : decode cX4_left 126 = .ok (.iadd, 1) := dk_96 (dk_at dksX4_left_5 9 rfl rfl)
theorem dX4_left_127 : decode cX4_left 127 = .ok (.iaload, 1) := dk_46 (dk_at dksX4_left_5 10 rfl rfl)
theorem dX4_left_128 : decode cX4_left 128 = .ok (.iadd, 1) := dk_96 (dk_at dksX4_left_5 11 rfl rfl)
theorem dX4_left_129 : decode cX4_left 129 = .ok (.invokestatic 232, 3) := dk_184 0 232 (dk_at dksX4_left_5 12 rfl rfl)
theorem dX4_left_132 : decode cX4_left 132 = .ok (.istore 8, 2) := dk_54 8 (dk_at dksX4_left_5 15 rfl rfl)
theorem dX4_left_134 : decode cX4_left 134 = .ok (.iload 6, 2) := dk_21 6 (dk_at dksX4_left_5 17 rfl rfl)
theorem dX4_left_136 : decode cX4_left 136 = .ok (.aload_n 2, 1) := dk_44 (dk_at dksX4_left_5 19 rfl rfl)
theorem dX4_left_137 : decode cX4_left 137 = .ok (.arraylength, 1) := dk_190 (dk_at dksX4_left_5 20 rfl rfl)
theorem dX4_left_138 : decode cX4_left 138 = .ok (.if_icmp .ge 68, 3) := dk_162 0 68 (dk_at dksX4_left_5 21 rfl rfl)
theorem dX4_left_141 : decode cX4_left 141 = .ok (.iload 7, 2) := dk_21 7 (dk_at dksX4_left_6 0 rfl rfl)
theorem dX4_left_143 : decode cX4_left 143 = .ok (.aload 4, 2) := dk_25 4 (dk_at dksX4_left_6 2 rfl rfl)
theorem dX4_left_145 : decode cX4_left 145 = .ok (.arraylength, 1) := dk_190 (dk_at dksX4_left_6 4 rfl rfl)
theorem dX4_left_146 : decode cX4_left 146 = .ok (.if_icmp .ge 60, 3) := dk_162 0 60 (dk_at dksX4_left_6 5 rfl rfl)
theorem dX4_left_149 : decode cX4_left 149 = .ok (.aload_n 1, 1) := dk_43 (dk_at dksX4_left_6 8 rfl rfl)
theorem dX4_left_150 : decode cX4_left 150 = .ok (.getfield 14, 3) := dk_180 0 14 (dk_at dksX4_left_6 9 rfl rfl)
theorem dX4_left_153 : decode cX4_left 153 = .ok (.aload_n 2, 1) := dk_44 (dk_at dksX4_left_6 12 rfl rfl)
theorem dX4_left_154 : decode cX4_left 154 = .ok (.iload 6, 2) := dk_21 6 (dk_at dksX4_left_6 13 rfl rfl)
theorem dX4_left_156 : decode cX4_left 156 = .ok (.iaload, 1) := dk_46 (dk_at dksX4_left_6 15 rfl rfl)
theorem dX4_left_157 : decode cX4_left 157 = .ok (.iaload, 1) := dk_46 (dk_at dksX4_left_6 16 rfl rfl)
theorem dX4_left_158 : decode cX4_left 158 = .ok (.aload_n 3, 1) := dk_45 (dk_at dksX4_left_6 17 rfl rfl)
theorem dX4_left_159 : decode cX4_left 159 = .ok (.getfield 14, 3) := dk_180 0 14 (dk_at dksX4_left_6 18 rfl rfl)
theorem dX4_left_162 : decode cX4_left 162 = .ok (.aload 4, 2) := dk_25 4 (dk_at dksX4_left_6 21 rfl rfl)
theorem dX4_left_164 : decode cX4_left 164 = .ok (.iload 7, 2) := dk_21 7 (dk_at dksX4_left_7 0 rfl rfl)
theorem dX4_left_166 : decode cX4_left 166 = .ok (.iaload, 1) := dk_46 (dk_at dksX4_left_7 2 rfl rfl)
theorem dX4_left_167 : decode cX4_left 167 = .ok (.iaload, 1) := dk_46 (dk_at dksX4_left_7 3 rfl rfl)
theorem dX4_left_168 : decode cX4_left 168 = .ok (.if_icmp .ne 38, 3) := dk_160 0 38 (dk_at dksX4_left_7 4 rfl rfl)
theorem dX4_left_171 : decode cX4_left 171 = .ok (.iload 8, 2) := dk_21 8 (dk_at dksX4_left_7 7 rfl rfl)
theorem dX4_left_173 : decode cX4_left 173 = .ok (.aload_n 0, 1) := dk_42 (dk_at dksX4_left_7 9 rfl rfl)
theorem dX4_left_174 : decode cX4_left 174 = .ok (.getfield 53, 3) := dk_180 0 53 (dk_at dksX4_left_7 10 rfl rfl)
theorem dX4_left_177 : decode cX4_left 177 = .ok (.aload_n 2, 1) := dk_44 (dk_at dksX4_left_7 13 rfl rfl)
theorem dX4_left_178 : decode cX4_left 178 = .ok (.iload 6, 2) := dk_21 6 (dk_at dksX4_left_7 14 rfl rfl)
theorem dX4_left_180 : decode cX4_left 180 = .ok (.iaload, 1) := dk_46 (dk_at dksX4_left_7 16 rfl rfl)
theorem dX4_left_181 : decode cX4_left 181 = .ok (.aaload, 1) := dk_50 (dk_at dksX4_left_7 17 rfl rfl)
theorem dX4_left_182 : decode cX4_left 182 = .ok (.aload 4, 2) := dk_25 4 (dk_at dksX4_left_7 18 rfl rfl)
theorem dX4_left_184 : decode cX4_left 184 = .ok (.iload 7, 2) := dk_21 7 (dk_at dksX4_left_7 20 rfl rfl)
theorem dX4_left_186 : decode cX4_left 186 = .ok (.iaload, 1) := dk_46 (dk_at dksX4_left_7 22 rfl rfl)
theorem dX4_left_187 : decode cX4_left 187 = .ok (.iaload, 1) := dk_46 (dk_at dksX4_left_7 23 rfl rfl)
theorem dX4_left_188 : decode cX4_left 188 = .ok (.aload 5, 2) := dk_25 5 (dk_at dksX4_left_8 0 rfl rfl)
theorem dX4_left_190 : decode cX4_left 190 = .ok (.iload 6, 2) := dk_21 6 (dk_at dksX4_left_8 2 rfl rfl)
theorem dX4_left_192 : decode cX4_left 192 = .ok (.iconst 1, 1) := dk_4 (dk_at dksX4_left_8 4 rfl rfl)
theorem dX4_left_193 : decode cX4_left 193 = .ok (.iadd, 1) := dk_96 (dk_at dksX4_left_8 5 rfl rfl)
theorem dX4_left_194 : decode cX4_left 194 = .ok (.aaload, 1) := dk_50 (dk_at dksX4_left_8 6 rfl rfl)
theorem dX4_left_195 : decode cX4_left 195 = .ok (.iload 7, 2) := dk_21 7 (dk_at dksX4_left_8 7 rfl rfl)
theorem dX4_left_197 : decode cX4_left 197 = .ok (.iconst 1, 1) := dk_4 (dk_at dksX4_left_8 9 rfl rfl)
theorem dX4_left_198 : decode cX4_left 198 = .ok (.iadd, 1) := dk_96 (dk_at dksX4_left_8 10 rfl rfl)
theorem dX4_left_199 : decode cX4_left 199 = .ok (.iaload, 1) := dk_46 (dk_at dksX4_left_8 11 rfl rfl)
theorem dX4_left_200 : decode cX4_left 200 = .ok (.iadd, 1) := dk_96 (dk_at dksX4_left_8 12 rfl rfl)
theorem dX4_left_201 : decode cX4_left 201 = .ok (.invokestatic 232, 3) := dk_184 0 232 (dk_at dksX4_left_8 13 rfl rfl)
theorem dX4_left_204 : decode cX4_left 204 = .ok (.istore 8, 2) := dk_54 8 (dk_at dksX4_left_8 16 rfl rfl)
theorem dX4_left_206 : decode cX4_left 206 = .ok (.aload 5, 2) := dk_25 5 (dk_at dksX4_left_8 18 rfl rfl)
theorem dX4_left_208 : decode cX4_left 208 = .ok (.iload 6, 2) := dk_21 6 (dk_at dksX4_left_8 20 rfl rfl)
theorem dX4_left_210 : decode cX4_left 210 = .ok (.aaload, 1) := dk_50 (dk_at dksX4_left_8 22 rfl rfl)
theorem dX4_left_211 : decode cX4_left 211 = .ok (.iload 7, 2) := dk_21 7 (dk_at dksX4_left_9 0 rfl rfl)
theorem dX4_left_213 : decode cX4_left 213 = .ok (.iload 8, 2) := dk_21 8 (dk_at dksX4_left_9 2 rfl rfl)
theorem dX4_left_215 : decode cX4_left 215 = .ok (.iastore, 1) := dk_79 (dk_at dksX4_left_9 4 rfl rfl)
theorem dX4_left_216 : decode cX4_left 216 = .ok (.iinc 7 (-1), 3) := dk_132 7 255 (dk_at dksX4_left_9 5 rfl rfl)
theorem dX4_left_219 : decode cX4_left 219 = .ok (.goto (-190), 3) := dk_167 255 66 (dk_at dksX4_left_9 8 rfl rfl)
theorem dX4_left_222 : decode cX4_left 222 = .ok (.iinc 6 (-1), 3) := dk_132 6 255 (dk_at dksX4_left_9 11 rfl rfl)
theorem dX4_left_225 : decode cX4_left 225 = .ok (.goto (-206), 3) := dk_167 255 50 (dk_at dksX4_left_9 14 rfl rfl)
theorem dX4_left_228 : decode cX4_left 228 = .ok (.aload 5, 2) := dk_25 5 (dk_at dksX4_left_9 17 rfl rfl)
theorem dX4_left_230 : decode cX4_left 230 = .ok (.areturn, 1) := dk_176 (dk_at dksX4_left_9 19 rfl rfl)
abbrev cX4_distanceByMatchings : ByteArray := prog_20_method_48_code
def yX4_distanceByMatchings : MethodName := ⟨RX4, "distanceByMatchings", "(II)I"⟩
def dkwX4_distanceByMatchings_2 : List UInt8 := [167, 0, 19, 42, 42, 180, 0, 27, 27, 50, 42, 180, 0, 27, 28, 50, 182, 0, 253, 172]
abbrev dktX4_distanceByMatchings_2 : List UInt8 := dkwX4_distanceByMatchings_2 ++ []
def dkwX4_distanceByMatchings_1 : List UInt8 := [163, 0, 17, 42, 180, 0, 27, 28, 50, 180, 0, 116, 16, 7, 164, 0, 11, 42, 5, 182, 0, 126]
abbrev dktX4_distanceByMatchings_1 : List UInt8 := dkwX4_distanceByMatchings_1 ++ dktX4_distanceByMatchings_2
def dkwX4_distanceByMatchings_0 : List UInt8 := [42, 27, 28, 182, 0, 217, 153, 0, 5, 3, 172, 42, 180, 0, 27, 27, 50, 180, 0, 116, 16, 7]
abbrev dktX4_distanceByMatchings_0 : List UInt8 := dkwX4_distanceByMatchings_0 ++ dktX4_distanceByMatchings_1
theorem dksX4_distanceByMatchings_0 : cX4_distanceByMatchings.data.toList.drop 0 = dktX4_distanceByMatchings_0 := by decide +kernel
theorem dksX4_distanceByMatchings_1 : cX4_distanceByMatchings.data.toList.drop 22 = dktX4_distanceByMatchings_1 := dk_seg dksX4_distanceByMatchings_0 22 rfl rfl
theorem dksX4_distanceByMatchings_2 : cX4_distanceByMatchings.data.toList.drop 44 = dktX4_distanceByMatchings_2 := dk_seg dksX4_distanceByMatchings_1 22 rfl rfl
theorem dX4_distanceByMatchings_0 : decode cX4_distanceByMatchings 0 = .ok (.aload_n 0, 1) := dk_42 (dk_at dksX4_distanceByMatchings_0 0 rfl rfl)
theorem dX4_distanceByMatchings_1 : decode cX4_distanceByMatchings 1 = .ok (.iload_n 1, 1) := dk_27 (dk_at dksX4_distanceByMatchings_0 1 rfl rfl)
theorem dX4_distanceByMatchings_2 : decode cX4_distanceByMatchings 2 = .ok (.iload_n 2, 1) := dk_28 (dk_at dksX4_distanceByMatchings_0 2 rfl rfl)
theorem dX4_distanceByMatchings_3 : decode cX4_distanceByMatchings 3 = .ok (.invokevirtual 217, 3) := dk_182 0 217 (dk_at dksX4_distanceByMatchings_0 3 rfl rfl)
theorem dX4_distanceByMatchings_6 : decode cX4_distanceByMatchings 6 = .ok (.ifCond .eq 5, 3) := dk_153 0 5 (dk_at dksX4_distanceByMatchings_0 6 rfl rfl)
theorem dX4_distanceByMatchings_9 : decode cX4_distanceByMatchings 9 = .ok (.iconst 0, 1) := dk_3 (dk_at dksX4_distanceByMatchings_0 9 rfl rfl)
theorem dX4_distanceByMatchings_10 : decode cX4_distanceByMatchings 10 = .ok (.ireturn, 1) := dk_172 (dk_at dksX4_distanceByMatchings_0 10 rfl rfl)
theorem dX4_distanceByMatchings_11 : decode cX4_distanceByMatchings 11 = .ok (.aload_n 0, 1) := dk_42 (dk_at dksX4_distanceByMatchings_0 11 rfl rfl)
theorem dX4_distanceByMatchings_12 : decode cX4_distanceByMatchings 12 = .ok (.getfield 27, 3) := dk_180 0 27 (dk_at dksX4_distanceByMatchings_0 12 rfl rfl)
theorem dX4_distanceByMatchings_15 : decode cX4_distanceByMatchings 15 = .ok (.iload_n 1, 1) := dk_27 (dk_at dksX4_distanceByMatchings_0 15 rfl rfl)
theorem dX4_distanceByMatchings_16 : decode cX4_distanceByMatchings 16 = .ok (.aaload, 1) := dk_50 (dk_at dksX4_distanceByMatchings_0 16 rfl rfl)
theorem dX4_distanceByMatchings_17 : decode cX4_distanceByMatchings 17 = .ok (.getfield 116, 3) := dk_180 0 116 (dk_at dksX4_distanceByMatchings_0 17 rfl rfl)
theorem dX4_distanceByMatchings_20 : decode cX4_distanceByMatchings 20 = .ok (.bipush 7, 2) := dk_16 7 (dk_at dksX4_distanceByMatchings_0 20 rfl rfl)
theorem dX4_distanceByMatchings_22 : decode cX4_distanceByMatchings 22 = .ok (.if_icmp .gt 17, 3) := dk_163 0 17 (dk_at dksX4_distanceByMatchings_1 0 rfl rfl)
theorem dX4_distanceByMatchings_25 : decode cX4_distanceByMatchings 25 = .ok (.aload_n 0, 1) := dk_42 (dk_at dksX4_distanceByMatchings_1 3 rfl rfl)
theorem dX4_distanceByMatchings_26 : decode cX4_distanceByMatchings 26 = .ok (.getfield 27, 3) := dk_180 0 27 (dk_at dksX4_distanceByMatchings_1 4 rfl rfl)
theorem dX4_distanceByMatchings_29 : decode cX4_distanceByMatchings 29 = .ok (.iload_n 2, 1) := dk_28 (dk_at dksX4_distanceByMatchings_1 7 rfl rfl)
theorem dX4_distanceByMatchings_30 : decode cX4_distanceByMatchings 30 = .ok (.aaload, 1) := dk_50 (dk_at dksX4_distanceByMatchings_1 8 rfl rfl)
theorem dX4_distanceByMatchings_31 : decode cX4_distanceByMatchings 31 = .ok (.getfield 116, 3) := dk_180 0 116 (dk_at dksX4_distanceByMatchings_1 9 rfl rfl)
theorem dX4_distanceByMatchings_34 : decode cX4_distanceByMatchings 34 = .ok (.bipush 7, 2) := dk_16 7 (dk_at dksX4_distanceByMatchings_1 12 rfl rfl)
theorem dX4_distanceByMatchings_36 : decode cX4_distanceByMatchings 36 = .ok (.if_icmp .le 11, 3) := dk_164 0 11 (dk_at dksX4_distanceByMatchings_1 14 rfl rfl)
theorem dX4_distanceByMatchings_39 : decode cX4_distanceByMatchings 39 = .ok (.aload_n 0, 1) := dk_42 (dk_at dksX4_distanceByMatchings_1 17 rfl rfl)
theorem dX4_distanceByMatchings_40 : decode cX4_distanceByMatchings 40 = .ok (.iconst 2, 1) := dk_5 (dk_at dksX4_distanceByMatchings_1 18 rfl rfl)
theorem dX4_distanceByMatchings_41 : decode cX4_distanceByMatchings 41 = .ok (.invokevirtual 126, 3) := dk_182 0 126 (dk_at dksX4_distanceByMatchings_1 19 rfl rfl)
theorem dX4_distanceByMatchings_44 : decode cX4_distanceByMatchings 44 = .ok (.goto 19, 3) := dk_167 0 19 (dk_at dksX4_distanceByMatchings_2 0 rfl rfl)
theorem dX4_distanceByMatchings_47 : decode cX4_distanceByMatchings 47 = .ok (.aload_n 0, 1) := dk_42 (dk_at dksX4_distanceByMatchings_2 3 rfl rfl)
theorem dX4_distanceByMatchings_48 : decode cX4_distanceByMatchings 48 = .ok (.aload_n 0, 1) := dk_42 (dk_at dksX4_distanceByMatchings_2 4 rfl rfl)
theorem dX4_distanceByMatchings_49 : decode cX4_distanceByMatchings 49 = .ok (.getfield 27, 3) := dk_180 0 27 (dk_at dksX4_distanceByMatchings_2 5 rfl rfl)
theorem dX4_distanceByMatchings_52 : decode cX4_distanceByMatchings 52 = .ok (.iload_n 1, 1) := dk_27 (dk_at dksX4_distanceByMatchings_2 8 rfl rfl)
theorem dX4_distanceByMatchings_53 : decode cX4_distanceByMatchings 53 = .ok (.aaload, 1) := dk_50 (dk_at dksX4_distanceByMatchings_2 9 rfl rfl)
theorem dX4_distanceByMatchings_54 : decode cX4_distanceByMatchings 54 = .ok (.aload_n 0, 1) := dk_42 (dk_at dksX4_distanceByMatchings_2 10 rfl rfl)
theorem dX4_distanceByMatchings_55 : decode cX4_distanceByMatchings 55 = .ok (.getfield 27, 3) := dk_180 0 27 (dk_at dksX4_distanceByMatchings_2 11 rfl rfl)
theorem dX4_distanceByMatchings_58 : decode cX4_distanceByMatchings 58 = .ok (.iload_n 2, 1) := dk_28 (dk_at dksX4_distanceByMatchings_2 14 rfl rfl)
theorem dX4_distanceByMatchings_59 : decode cX4_distanceByMatchings 59 = .ok (.aaload, 1) := dk_50 (dk_at dksX4_distanceByMatchings_2 15 rfl rfl)
theorem dX4_distanceByMatchings_60 : decode cX4_distanceByMatchings 60 = .ok (.invokevirtual 253, 3) := dk_182 0 253 (dk_at dksX4_distanceByMatchings_2 16 rfl rfl)
theorem dX4_distanceByMatchings_63 : decode cX4_distanceByMatchings 63 = .ok (.ireturn, 1) := dk_172 (dk_at dksX4_distanceByMatchings_2 19 rfl rfl)
abbrev cX4_similarity : ByteArray := prog_20_method_49_code
def yX4_similarity : MethodName := ⟨RX4, "similarity", "(II)D"⟩
def dkwX4_similarity_2 : List UInt8 := [96, 104, 135, 111, 103, 175]
abbrev dktX4_similarity_2 : List UInt8 := dkwX4_similarity_2 ++ []
def dkwX4_similarity_1 : List UInt8 := [50, 182, 0, 253, 135, 5, 42, 180, 0, 27, 27, 50, 180, 0, 116, 42, 180, 0, 27, 28, 50, 180, 0, 116]
abbrev dktX4_similarity_1 : List UInt8 := dkwX4_similarity_1 ++ dktX4_similarity_2
def dkwX4_similarity_0 : List UInt8 := [42, 27, 28, 182, 0, 217, 153, 0, 5, 14, 175, 15, 42, 42, 180, 0, 27, 27, 50, 42, 180, 0, 27, 28]
abbrev dktX4_similarity_0 : List UInt8 := dkwX4_similarity_0 ++ dktX4_similarity_1
theorem dksX4_similarity_0 : cX4_similarity.data.toList.drop 0 = dktX4_similarity_0 := by decide +kernel
theorem dksX4_similarity_1 : cX4_similarity.data.toList.drop 24 = dktX4_similarity_1 := dk_seg dksX4_similarity_0 24 rfl rfl
theorem dksX4_similarity_2 : cX4_similarity.data.toList.drop 48 = dktX4_similarity_2 := dk_seg dksX4_similarity_1 24 rfl rfl
theorem dX4_similarity_0 : decode cX4_similarity 0 = .ok (.aload_n 0, 1) := dk_42 (dk_at dksX4_similarity_0 0 rfl rfl)
theorem dX4_similarity_1 : decode cX4_similarity 1 = .ok (.iload_n 1, 1) := dk_27 (dk_at dksX4_similarity_0 1 rfl rfl)
theorem dX4_similarity_2 : decode cX4_similarity 2 = .ok (.iload_n 2, 1) := dk_28 (dk_at dksX4_similarity_0 2 rfl rfl)
theorem dX4_similarity_3 : decode cX4_similarity 3 = .ok (.invokevirtual 217, 3) := dk_182 0 217 (dk_at dksX4_similarity_0 3 rfl rfl)
theorem dX4_similarity_6 : decode cX4_similarity 6 = .ok (.ifCond .eq 5, 3) := dk_153 0 5 (dk_at dksX4_similarity_0 6 rfl rfl)
theorem dX4_similarity_9 : decode cX4_similarity 9 = .ok (.dconst 0, 1) := dk_14 (dk_at dksX4_similarity_0 9 rfl rfl)
theorem dX4_similarity_10 : decode cX4_similarity 10 = .ok (.dreturn, 1) := dk_175 (dk_at dksX4_similarity_0 10 rfl rfl)
theorem dX4_similarity_11 : decode cX4_similarity 11 = .ok (.dconst 1, 1) := dk_15 (dk_at dksX4_similarity_0 11 rfl rfl)
theorem dX4_similarity_12 : decode cX4_similarity 12 = .ok (.aload_n 0, 1) := dk_42 (dk_at dksX4_similarity_0 12 rfl rfl)
theorem dX4_similarity_13 : decode cX4_similarity 13 = .ok (.aload_n 0, 1) := dk_42 (dk_at dksX4_similarity_0 13 rfl rfl)
theorem dX4_similarity_14 : decode cX4_similarity 14 = .ok (.getfield 27, 3) := dk_180 0 27 (dk_at dksX4_similarity_0 14 rfl rfl)
theorem dX4_similarity_17 : decode cX4_similarity 17 = .ok (.iload_n 1, 1) := dk_27 (dk_at dksX4_similarity_0 17 rfl rfl)
theorem dX4_similarity_18 : decode cX4_similarity 18 = .ok (.aaload, 1) := dk_50 (dk_at dksX4_similarity_0 18 rfl rfl)
theorem dX4_similarity_19 : decode cX4_similarity 19 = .ok (.aload_n 0, 1) := dk_42 (dk_at dksX4_similarity_0 19 rfl rfl)
theorem dX4_similarity_20 : decode cX4_similarity 20 = .ok (.getfield 27, 3) := dk_180 0 27 (dk_at dksX4_similarity_0 20 rfl rfl)
theorem dX4_similarity_23 : decode cX4_similarity 23 = .ok (.iload_n 2, 1) := dk_28 (dk_at dksX4_similarity_0 23 rfl rfl)
theorem dX4_similarity_24 : decode cX4_similarity 24 = .ok (.aaload, 1) := dk_50 (dk_at dksX4_similarity_1 0 rfl rfl)
theorem dX4_similarity_25 : decode cX4_similarity 25 = .ok (.invokevirtual 253, 3) := dk_182 0 253 (dk_at dksX4_similarity_1 1 rfl rfl)
theorem dX4_similarity_28 : decode cX4_similarity 28 = .ok (.i2d, 1) := dk_135 (dk_at dksX4_similarity_1 4 rfl rfl)
theorem dX4_similarity_29 : decode cX4_similarity 29 = .ok (.iconst 2, 1) := dk_5 (dk_at dksX4_similarity_1 5 rfl rfl)
theorem dX4_similarity_30 : decode cX4_similarity 30 = .ok (.aload_n 0, 1) := dk_42 (dk_at dksX4_similarity_1 6 rfl rfl)
theorem dX4_similarity_31 : decode cX4_similarity 31 = .ok (.getfield 27, 3) := dk_180 0 27 (dk_at dksX4_similarity_1 7 rfl rfl)
theorem dX4_similarity_34 : decode cX4_similarity 34 = .ok (.iload_n 1, 1) := dk_27 (dk_at dksX4_similarity_1 10 rfl rfl)
theorem dX4_similarity_35 : decode cX4_similarity 35 = .ok (.aaload, 1) := dk_50 (dk_at dksX4_similarity_1 11 rfl rfl)
theorem dX4_similarity_36 : decode cX4_similarity 36 = .ok (.getfield 116, 3) := dk_180 0 116 (dk_at dksX4_similarity_1 12 rfl rfl)
theorem dX4_similarity_39 : decode cX4_similarity 39 = .ok (.aload_n 0, 1) := dk_42 (dk_at dksX4_similarity_1 15 rfl rfl)
theorem dX4_similarity_40 : decode cX4_similarity 40 = .ok (.getfield 27, 3) := dk_180 0 27 (dk_at dksX4_similarity_1 16 rfl rfl)
theorem dX4_similarity_43 : decode cX4_similarity 43 = .ok (.iload_n 2, 1) := dk_28 (dk_at dksX4_similarity_1 19 rfl rfl)
theorem dX4_similarity_44 : decode cX4_similarity 44 = .ok (.aaload, 1) := dk_50 (dk_at dksX4_similarity_1 20 rfl rfl)
theorem dX4_similarity_45 : decode cX4_similarity 45 = .ok (.getfield 116, 3) := dk_180 0 116 (dk_at dksX4_similarity_1 21 rfl rfl)
theorem dX4_similarity_48 : decode cX4_similarity 48 = .ok (.iadd, 1) := dk_96 (dk_at dksX4_similarity_2 0 rfl rfl)
theorem dX4_similarity_49 : decode cX4_similarity 49 = .ok (.imul, 1) := dk_104 (dk_at dksX4_similarity_2 1 rfl rfl)
theorem dX4_similarity_50 : decode cX4_similarity 50 = .ok (.i2d, 1) := dk_135 (dk_at dksX4_similarity_2 2 rfl rfl)
theorem dX4_similarity_51 : decode cX4_similarity 51 = .ok (.ddiv, 1) := dk_111 (dk_at dksX4_similarity_2 3 rfl rfl)
theorem dX4_similarity_52 : decode cX4_similarity 52 = .ok (.dsub, 1) := dk_103 (dk_at dksX4_similarity_2 4 rfl rfl)
theorem dX4_similarity_53 : decode cX4_similarity 53 = .ok (.dreturn, 1) := dk_175 (dk_at dksX4_similarity_2 5 rfl rfl)
abbrev cX4_diff : ByteArray := prog_20_method_51_code
def yX4_diff : MethodName := ⟨RX4, "diff", "(II)I"⟩
def dkwX4_diff_8 : List UInt8 := [181, 0, 192, 42, 180, 0, 196, 172]
abbrev dktX4_diff_8 : List UInt8 := dkwX4_diff_8 ++ []
def dkwX4_diff_7 : List UInt8 := [46, 79, 42, 180, 0, 89, 29, 42, 180, 0, 68, 29, 46, 79, 132, 3, 1, 167, 255, 223, 42, 4]
abbrev dktX4_diff_7 : List UInt8 := dkwX4_diff_7 ++ dktX4_diff_8
def dkwX4_diff_6 : List UInt8 := [132, 3, 1, 167, 255, 176, 3, 62, 29, 16, 20, 162, 0, 33, 42, 180, 0, 86, 29, 42, 180, 0, 65, 29]
abbrev dktX4_diff_6 : List UInt8 := dkwX4_diff_6 ++ dktX4_diff_7
def dkwX4_diff_5 : List UInt8 := [180, 0, 83, 42, 180, 0, 196, 42, 180, 0, 62, 29, 46, 79, 42, 89, 180, 0, 196, 4, 96, 181, 0, 196]
abbrev dktX4_diff_5 : List UInt8 := dkwX4_diff_5 ++ dktX4_diff_6
def dkwX4_diff_4 : List UInt8 := [180, 0, 56, 29, 52, 85, 42, 180, 0, 80, 42, 180, 0, 196, 42, 180, 0, 59, 29, 46, 79, 42]
abbrev dktX4_diff_4 : List UInt8 := dkwX4_diff_4 ++ dktX4_diff_5
def dkwX4_diff_3 : List UInt8 := [180, 0, 56, 29, 52, 16, 45, 160, 0, 6, 167, 0, 58, 42, 180, 0, 77, 42, 180, 0, 196, 42]
abbrev dktX4_diff_3 : List UInt8 := dkwX4_diff_3 ++ dktX4_diff_4
def dkwX4_diff_2 : List UInt8 := [182, 1, 1, 42, 182, 1, 5, 42, 3, 181, 0, 196, 3, 62, 29, 42, 180, 0, 242, 162, 0, 78, 42]
abbrev dktX4_diff_2 : List UInt8 := dkwX4_diff_2 ++ dktX4_diff_3
def dkwX4_diff_1 : List UInt8 := [42, 180, 0, 74, 42, 180, 0, 27, 28, 50, 182, 0, 157, 42, 42, 180, 0, 71, 42, 180, 0, 74]
abbrev dktX4_diff_1 : List UInt8 := dkwX4_diff_1 ++ dktX4_diff_2
def dkwX4_diff_0 : List UInt8 := [42, 27, 28, 182, 0, 217, 153, 0, 5, 3, 172, 42, 180, 0, 71, 42, 180, 0, 27, 27, 50, 182, 0, 157]
abbrev dktX4_diff_0 : List UInt8 := dkwX4_diff_0 ++ dktX4_diff_1
theorem dksX4_diff_0 : cX4_diff.data.toList.drop 0 = dktX4_diff_0 := by decide +kernel
theorem dksX4_diff_1 : cX4_diff.data.toList.drop 24 = dktX4_diff_1 := dk_seg dksX4_diff_0 24 rfl rfl
theorem dksX4_diff_2 : cX4_diff.data.toList.drop 46 = dktX4_diff_2 := dk_seg dksX4_diff_1 22 rfl rfl
theorem dksX4_diff_3 : cX4_diff.data.toList.drop 69 = dktX4_diff_3 := dk_seg dksX4_diff_2 23 rfl rfl
theorem dksX4_diff_4 : cX4_diff.data.toList.drop 91 = dktX4_diff_4 := dk_seg dksX4_diff_3 22 rfl rfl
theorem dksX4_diff_5 : cX4_diff.data.toList.drop 113 = dktX4_diff_5 := dk_seg dksX4_diff_4 22 rfl rfl
theorem dksX4_diff_6 : cX4_diff.data.toList.drop 137 = dktX4_diff_6 := dk_seg dksX4_diff_5 24 rfl rfl
theorem dksX4_diff_7 : cX4_diff.data.toList.drop 161 = dktX4_diff_7 := dk_seg dksX4_diff_6 24 rfl rfl
theorem dksX4_diff_8 : cX4_diff.data.toList.drop 183 = dktX4_diff_8 := dk_seg dksX4_diff_7 22 rfl rfl
theorem dX4_diff_0 : decode cX4_diff 0 = .ok (.aload_n 0, 1) := dk_42 (dk_at dksX4_diff_0 0 rfl rfl)
theorem dX4_diff_1 : decode cX4_diff 1 = .ok (.iload_n 1, 1) := dk_27 (dk_at dksX4_diff_0 1 rfl rfl)
theorem dX4_diff_2 : decode cX4_diff 2 = .ok (.iload_n 2, 1) := dk_28 (dk_at dksX4_diff_0 2 rfl rfl)
theorem dX4_diff_3 : decode cX4_diff 3 = .ok (.invokevirtual 217, 3) := dk_182 0 217 (dk_at dksX4_diff_0 3 rfl rfl)
theorem dX4_diff_6 : decode cX4_diff 6 = .ok (.ifCond .eq 5, 3) := dk_153 0 5 (dk_at dksX4_diff_0 6 rfl rfl)
theorem dX4_diff_9 : decode cX4_diff 9 = .ok (.iconst 0, 1) := dk_3 (dk_at dksX4_diff_0 9 rfl rfl)
theorem dX4_diff_10 : decode cX4_diff 10 = .ok (.ireturn, 1) := dk_172 (dk_at dksX4_diff_0 10 rfl rfl)
theorem dX4_diff_11 : decode cX4_diff 11 = .ok (.aload_n 0, 1) := dk_42 (dk_at dksX4_diff_0 11 rfl rfl)
theorem dX4_diff_12 : decode cX4_diff 12 = .ok (.getfield 71, 3) := dk_180 0 71 (dk_at dksX4_diff_0 12 rfl rfl)
theorem dX4_diff_15 : decode cX4_diff 15 = .ok (.aload_n 0, 1) := dk_42 (dk_at dksX4_diff_0 15 rfl rfl)
theorem dX4_diff_16 : decode cX4_diff 16 = .ok (.getfield 27, 3) := dk_180 0 27 (dk_at dksX4_diff_0 16 rfl rfl)
theorem dX4_diff_19 : decode cX4_diff 19 = .ok (.iload_n 1, 1) := dk_27 (dk_at dksX4_diff_0 19 rfl rfl)
theorem dX4_diff_20 : decode cX4_diff 20 = .ok (.aaload, 1) := dk_50 (dk_at dksX4_diff_0 20 rfl rfl)
theorem dX4_diff_21 : decode cX4_diff 21 = .ok (.invokevirtual 157, 3) := dk_182 0 157 (dk_at dksX4_diff_0 21 rfl rfl)
theorem dX4_diff_24 : decode cX4_diff 24 = .ok (.aload_n 0, 1) := dk_42 (dk_at dksX4_diff_1 0 rfl rfl)
theorem dX4_diff_25 : decode cX4_diff 25 = .ok (.getfield 74, 3) := dk_180 0 74 (dk_at dksX4_diff_1 1 rfl rfl)
theorem dX4_diff_28 : decode cX4_diff 28 = .ok (.aload_n 0, 1) := dk_42 (dk_at dksX4_diff_1 4 rfl rfl)
theorem dX4_diff_29 : decode cX4_diff 29 = .ok (.getfield 27, 3) := dk_180 0 27 (dk_at dksX4_diff_1 5 rfl rfl)
theorem dX4_diff_32 : decode cX4_diff 32 = .ok (.iload_n 2, 1) := dk_28 (dk_at dksX4_diff_1 8 rfl rfl)
theorem dX4_diff_33 : decode cX4_diff 33 = .ok (.aaload, 1) := dk_50 (dk_at dksX4_diff_1 9 rfl rfl)
theorem dX4_diff_34 : decode cX4_diff 34 = .ok (.invokevirtual 157, 3) := dk_182 0 157 (dk_at dksX4_diff_1 10 rfl rfl)
theorem dX4_diff_37 : decode cX4_diff 37 = .ok (.aload_n 0, 1) := dk_42 (dk_at dksX4_diff_1 13 rfl rfl)
theorem dX4_diff_38 : decode cX4_diff 38 = .ok (.aload_n 0, 1) := dk_42 (dk_at dksX4_diff_1 14 rfl rfl)
theorem dX4_diff_39 : decode cX4_diff 39 = .ok (.getfield 71, 3) := dk_180 0 71 (dk_at dksX4_diff_1 15 rfl rfl)
theorem dX4_diff_42 : decode cX4_diff 42 = .ok (.aload_n 0, 1) := dk_42 (dk_at dksX4_diff_1 18 rfl rfl)
theorem dX4_diff_43 : decode cX4_diff 43 = .ok (.getfield 74, 3) := dk_180 0 74 (dk_at dksX4_diff_1 19 rfl rfl)
theorem dX4_diff_46 : decode cX4_diff 46 = .ok (.invokevirtual 257, 3) := dk_182 1 1 (dk_at dksX4_diff_2 0 rfl rfl)
theorem dX4_diff_49 : decode cX4_diff 49 = .ok (.aload_n 0, 1) := dk_42 (dk_at dksX4_diff_2 3 rfl rfl)
theorem dX4_diff_50 : decode cX4_diff 50 = .ok (.invokevirtual 261, 3) := dk_182 1 5 (dk_at dksX4_diff_2 4 rfl rfl)
theorem dX4_diff_53 : decode cX4_diff 53 = .ok (.aload_n 0, 1) := dk_42 (dk_at dksX4_diff_2 7 rfl rfl)
theorem dX4_diff_54 : decode cX4_diff 54 = .ok (.iconst 0, 1) := dk_3 (dk_at dksX4_diff_2 8 rfl rfl)
theorem dX4_diff_55 : decode cX4_diff 55 = .ok (.putfield 196, 3) := dk_181 0 196 (dk_at dksX4_diff_2 9 rfl rfl)
theorem dX4_diff_58 : decode cX4_diff 58 = .ok (.iconst 0, 1) := dk_3 (dk_at dksX4_diff_2 12 rfl rfl)
theorem dX4_diff_59 : decode cX4_diff 59 = .ok (.istore_n 3, 1) := dk_62 (dk_at dksX4_diff_2 13 rfl rfl)
theorem dX4_diff_60 : decode cX4_diff 60 = .ok (.iload_n 3, 1) := dk_29 (dk_at dksX4_diff_2 14 rfl rfl)
theorem dX4_diff_61 : decode cX4_diff 61 = .ok (.aload_n 0, 1) := dk_42 (dk_at dksX4_diff_2 15 rfl rfl)
theorem dX4_diff_62 : decode cX4_diff 62 = .ok (.getfield 242, 3) := dk_180 0 242 (dk_at dksX4_diff_2 16 rfl rfl)
theorem dX4_diff_65 : decode cX4_diff 65 = .ok (.if_icmp .ge 78, 3) := dk_162 0 78 (dk_at dksX4_diff_2 19 rfl rfl)
theorem dX4_diff_68 : decode cX4_diff 68 = .ok (.aload_n 0, 1) := dk_42 (dk_at dksX4_diff_2 22 rfl rfl)
theorem dX4_diff_69 : decode cX4_diff 69 = .ok (.getfield 56, 3) := dk_180 0 56 (dk_at dksX4_diff_3 0 rfl rfl)
theorem dX4_diff_72 : decode cX4_diff 72 = .ok (.iload_n 3, 1) := dk_29 (dk_at dksX4_diff_3 3 rfl rfl)
theorem dX4_diff_73 : decode cX4_diff 73 = .ok (.caload, 1) := dk_52 (dk_at dksX4_diff_3 4 rfl rfl)
theorem dX4_diff_74 : decode cX4_diff 74 = .ok (.bipush 45, 2) := dk_16 45 (dk_at dksX4_diff_3 5 rfl rfl)
theorem dX4_diff_76 : decode cX4_diff 76 = .ok (.if_icmp .ne 6, 3) := dk_160 0 6 (dk_at dksX4_diff_3 7 rfl rfl)
theorem dX4_diff_79 : decode cX4_diff 79 = .ok (.goto 58, 3) := dk_167 0 58 (dk_at dksX4_diff_3 10 rfl rfl)
theorem dX4_diff_82 : decode cX4_diff 82 = .ok (.aload_n 0, 1) := dk_42 (dk_at dksX4_diff_3 13 rfl rfl)
theorem dX4_diff_83 : decode cX4_diff 83 = .ok (.getfield 77, 3) := dk_180 0 77 (dk_at dksX4_diff_3 14 rfl rfl)
theorem dX4_diff_86 : decode cX4_diff 86 = .ok (.aload_n 0, 1) := dk_42 (dk_at dksX4_diff_3 17 rfl rfl)
theorem dX4_diff_87 : decode cX4_diff 87 = .ok (.getfield 196, 3) := dk_180 0 196 (dk_at dksX4_diff_3 18 rfl rfl)
theorem dX4_diff_90 : decode cX4_diff 90 = .ok (.aload_n 0, 1) := dk_42 (dk_at dksX4_diff_3 21 rfl rfl)
theorem dX4_diff_91 : decode cX4_diff 91 = .ok (.getfield 56, 3) := dk_180 0 56 (dk_at dksX4_diff_4 0 rfl rfl)
theorem dX4_diff_94 : decode cX4_diff 94 = .ok (.iload_n 3, 1) := dk_29 (dk_at dksX4_diff_4 3 rfl rfl)
theorem dX4_diff_95 : decode cX4_diff 95 = .ok (.caload, 1) := dk_52 (dk_at dksX4_diff_4 4 rfl rfl)
theorem dX4_diff_96 : decode cX4_diff 96 = .ok (.castore, 1) := dk_85 (dk_at dksX4_diff_4 5 rfl rfl)
theorem dX4_diff_97 : decode cX4_diff 97 = .ok (.aload_n 0, 1) := dk_42 (dk_at dksX4_diff_4 6 rfl rfl)
theorem dX4_diff_98 : decode cX4_diff 98 = .ok (.getfield 80, 3) := dk_180 0 80 (dk_at dksX4_diff_4 7 rfl rfl)
theorem dX4_diff_101 : decode cX4_diff 101 = .ok (.aload_n 0, 1) := dk_42 (dk_at dksX4_diff_4 10 rfl rfl)
theorem dX4_diff_102 : decode cX4_diff 102 = .ok (.getfield 196, 3) := dk_180 0 196 (dk_at dksX4_diff_4 11 rfl rfl)
theorem dX4_diff_105 : decode cX4_diff 105 = .ok (.aload_n 0, 1) := dk_42 (dk_at dksX4_diff_4 14 rfl rfl)
theorem dX4_diff_106 : decode cX4_diff 106 = .ok (.getfield 59, 3) := dk_180 0 59 (dk_at dksX4_diff_4 15 rfl rfl)
theorem dX4_diff_109 : decode cX4_diff 109 = .ok (.iload_n 3, 1) := dk_29 (dk_at dksX4_diff_4 18 rfl rfl)
theorem dX4_diff_110 : decode cX4_diff 110 = .ok (.iaload, 1) := dk_46 (dk_at dksX4_diff_4 19 rfl rfl)
theorem dX4_diff_111 : decode cX4_diff 111 = .ok (.iastore, 1) := dk_79 (dk_at dksX4_diff_4 20 rfl rfl)
theorem dX4_diff_112 : decode cX4_diff 112 = .ok (.aload_n 0, 1) := dk_42 (dk_at dksX4_diff_4 21 rfl rfl)
theorem dX4_diff_113 : decode cX4_diff 113 = .ok (.getfield 83, 3) := dk_180 0 83 (dk_at dksX4_diff_5 0 rfl rfl)
theorem dX4_diff_116 : decode cX4_diff 116 = .ok (.aload_n 0, 1) := dk_42 (dk_at dksX4_diff_5 3 rfl rfl)
theorem dX4_diff_117 : decode cX4_diff 117 = .ok (.getfield 196, 3) := dk_180 0 196 (dk_at dksX4_diff_5 4 rfl rfl)
theorem dX4_diff_120 : decode cX4_diff 120 = .ok (.aload_n 0, 1) := dk_42 (dk_at dksX4_diff_5 7 rfl rfl)
theorem dX4_diff_121 : decode cX4_diff 121 = .ok (.getfield 62, 3) := dk_180 0 62 (dk_at dksX4_diff_5 8 rfl rfl)
theorem dX4_diff_124 : decode cX4_diff 124 = .ok (.iload_n 3, 1) := dk_29 (dk_at dksX4_diff_5 11 rfl rfl)
theorem dX4_diff_125 : decode cX4_diff 125 = .ok (.iaload, 1) := dk_46 (dk_at dksX4_diff_5 12 rfl rfl)
theorem dX4_diff_126 : decode cX4_diff 126 = .ok (.iastore, 1) := dk_79 (dk_at dksX4_diff_5 13 rfl rfl)
theorem dX4_diff_127 : decode cX4_diff 127 = .ok (.aload_n 0, 1) := dk_42 (dk_at dksX4_diff_5 14 rfl rfl)
theorem dX4_diff_128 : decode cX4_diff 128 = .ok (.dup, 1) := dk_89 (dk_at dksX4_diff_5 15 rfl rfl)
theorem dX4_diff_129 : decode cX4_diff 129 = .ok (.getfield 196, 3) := dk_180 0 196 (dk_at dksX4_diff_5 16 rfl rfl)
theorem dX4_diff_132 : decode cX4_diff 132 = .ok (.iconst 1, 1) := dk_4 (dk_at dksX4_diff_5 19 rfl rfl)
theorem dX4_diff_133 : decode cX4_diff 133 = .ok (.iadd, 1) := dk_96 (dk_at dksX4_diff_5 20 rfl rfl)
theorem dX4_diff_134 : decode cX4_diff 134 = .ok (.putfield 196, 3) := dk_181 0 196 (dk_at dksX4_diff_5 21 rfl rfl)
theorem dX4_diff_137 : decode cX4_diff 137 = .ok (.iinc 3 1, 3) := dk_132 3 1 (dk_at dksX4_diff_6 0 rfl rfl)
theorem dX4_diff_140 : decode cX4_diff 140 = .ok (.goto (-80), 3) := dk_167 255 176 (dk_at dksX4_diff_6 3 rfl rfl)
theorem dX4_diff_143 : decode cX4_diff 143 = .ok (.iconst 0, 1) := dk_3 (dk_at dksX4_diff_6 6 rfl rfl)
theorem dX4_diff_144 : decode cX4_diff 144 = .ok (.istore_n 3, 1) := dk_62 (dk_at dksX4_diff_6 7 rfl rfl)
theorem dX4_diff_145 : decode cX4_diff 145 = .ok (.iload_n 3, 1) := dk_29 (dk_at dksX4_diff_6 8 rfl rfl)
theorem dX4_diff_146 : decode cX4_diff 146 = .ok (.bipush 20, 2) := dk_16 20 (dk_at dksX4_diff_6 9 rfl rfl)
theorem dX4_diff_148 : decode cX4_diff 148 = .ok (.if_icmp .ge 33, 3) := dk_162 0 33 (dk_at dksX4_diff_6 11 rfl rfl)
theorem dX4_diff_151 : decode cX4_diff 151 = .ok (.aload_n 0, 1) := dk_42 (dk_at dksX4_diff_6 14 rfl rfl)
theorem dX4_diff_152 : decode cX4_diff 152 = .ok (.getfield 86, 3) := dk_180 0 86 (dk_at dksX4_diff_6 15 rfl rfl)
theorem dX4_diff_155 : decode cX4_diff 155 = .ok (.iload_n 3, 1) := dk_29 (dk_at dksX4_diff_6 18 rfl rfl)
theorem dX4_diff_156 : decode cX4_diff 156 = .ok (.aload_n 0, 1) := dk_42 (dk_at dksX4_diff_6 19 rfl rfl)
theorem dX4_diff_157 : decode cX4_diff 157 = .ok (.getfield 65, 3) := dk_180 0 65 (dk_at dksX4_diff_6 20 rfl rfl)
theorem dX4_diff_160 : decode cX4_diff 160 = .ok (.iload_n 3, 1) := dk_29 (dk_at dksX4_diff_6 23 rfl rfl)
theorem dX4_diff_161 : decode cX4_diff 161 = .ok (.iaload, 1) := dk_46 (dk_at dksX4_diff_7 0 rfl rfl)
theorem dX4_diff_162 : decode cX4_diff 162 = .ok (.iastore, 1) := dk_79 (dk_at dksX4_diff_7 1 rfl rfl)
theorem dX4_diff_163 : decode cX4_diff 163 = .ok (.aload_n 0, 1) := dk_42 (dk_at dksX4_diff_7 2 rfl rfl)
theorem dX4_diff_164 : decode cX4_diff 164 = .ok (.getfield 89, 3) := dk_180 0 89 (dk_at dksX4_diff_7 3 rfl rfl)
theorem dX4_diff_167 : decode cX4_diff 167 = .ok (.iload_n 3, 1) := dk_29 (dk_at dksX4_diff_7 6 rfl rfl)
theorem dX4_diff_168 : decode cX4_diff 168 = .ok (.aload_n 0, 1) := dk_42 (dk_at dksX4_diff_7 7 rfl rfl)
theorem dX4_diff_169 : decode cX4_diff 169 = .ok (.getfield 68, 3) := dk_180 0 68 (dk_at dksX4_diff_7 8 rfl rfl)
theorem dX4_diff_172 : decode cX4_diff 172 = .ok (.iload_n 3, 1) := dk_29 (dk_at dksX4_diff_7 11 rfl rfl)
theorem dX4_diff_173 : decode cX4_diff 173 = .ok (.iaload, 1) := dk_46 (dk_at dksX4_diff_7 12 rfl rfl)
theorem dX4_diff_174 : decode cX4_diff 174 = .ok (.iastore, 1) := dk_79 (dk_at dksX4_diff_7 13 rfl rfl)
theorem dX4_diff_175 : decode cX4_diff 175 = .ok (.iinc 3 1, 3) := dk_132 3 1 (dk_at dksX4_diff_7 14 rfl rfl)
theorem dX4_diff_178 : decode cX4_diff 178 = .ok (.goto (-33), 3) := dk_167 255 223 (dk_at dksX4_diff_7 17 rfl rfl)
theorem dX4_diff_181 : decode cX4_diff 181 = .ok (.aload_n 0, 1) := dk_42 (dk_at dksX4_diff_7 20 rfl rfl)
theorem dX4_diff_182 : decode cX4_diff 182 = .ok (.iconst 1, 1) := dk_4 (dk_at dksX4_diff_7 21 rfl rfl)
theorem dX4_diff_183 : decode cX4_diff 183 = .ok (.putfield 192, 3) := dk_181 0 192 (dk_at dksX4_diff_8 0 rfl rfl)
theorem dX4_diff_186 : decode cX4_diff 186 = .ok (.aload_n 0, 1) := dk_42 (dk_at dksX4_diff_8 3 rfl rfl)
theorem dX4_diff_187 : decode cX4_diff 187 = .ok (.getfield 196, 3) := dk_180 0 196 (dk_at dksX4_diff_8 4 rfl rfl)
theorem dX4_diff_190 : decode cX4_diff 190 = .ok (.ireturn, 1) := dk_172 (dk_at dksX4_diff_8 7 rfl rfl)
abbrev cX4_matches : ByteArray := prog_20_method_46_code
def yX4_matches : MethodName := ⟨RX4, "matches", "(LTreeDifferModel$Tree;LTreeDifferModel$Tree;)V"⟩
def dkwX4_matches_2 : List UInt8 := [177]
abbrev dktX4_matches_2 : List UInt8 := dkwX4_matches_2 ++ []
def dkwX4_matches_1 : List UInt8 := [29, 2, 79, 132, 3, 1, 167, 255, 233, 42, 43, 44, 182, 0, 253, 87, 42, 43, 3, 44, 3, 182, 0, 249]
abbrev dktX4_matches_1 : List UInt8 := dkwX4_matches_1 ++ dktX4_matches_2
def dkwX4_matches_0 : List UInt8 := [42, 3, 181, 0, 242, 3, 62, 29, 16, 20, 162, 0, 23, 42, 180, 0, 65, 29, 2, 79, 42, 180, 0, 68]
abbrev dktX4_matches_0 : List UInt8 := dkwX4_matches_0 ++ dktX4_matches_1
theorem dksX4_matches_0 : cX4_matches.data.toList.drop 0 = dktX4_matches_0 := by decide +kernel
theorem dksX4_matches_1 : cX4_matches.data.toList.drop 24 = dktX4_matches_1 := dk_seg dksX4_matches_0 24 rfl rfl
theorem dksX4_matches_2 : cX4_matches.data.toList.drop 48 = dktX4_matches_2 := dk_seg dksX4_matches_1 24 rfl rfl
theorem dX4_matches_0 : decode cX4_matches 0 = .ok (.aload_n 0, 1) := dk_42 (dk_at dksX4_matches_0 0 rfl rfl)
theorem dX4_matches_1 : decode cX4_matches 1 = .ok (.iconst 0, 1) := dk_3 (dk_at dksX4_matches_0 1 rfl rfl)
theorem dX4_matches_2 : decode cX4_matches 2 = .ok (.putfield 242, 3) := dk_181 0 242 (dk_at dksX4_matches_0 2 rfl rfl)
theorem dX4_matches_5 : decode cX4_matches 5 = .ok (.iconst 0, 1) := dk_3 (dk_at dksX4_matches_0 5 rfl rfl)
theorem dX4_matches_6 : decode cX4_matches 6 = .ok (.istore_n 3, 1) := dk_62 (dk_at dksX4_matches_0 6 rfl rfl)
theorem dX4_matches_7 : decode cX4_matches 7 = .ok (.iload_n 3, 1) := dk_29 (dk_at dksX4_matches_0 7 rfl rfl)
theorem dX4_matches_8 : decode cX4_matches 8 = .ok (.bipush 20, 2) := dk_16 20 (dk_at dksX4_matches_0 8 rfl rfl)
theorem dX4_matches_10 : decode cX4_matches 10 = .ok (.if_icmp .ge 23, 3) := dk_162 0 23 (dk_at dksX4_matches_0 10 rfl rfl)
theorem dX4_matches_13 : decode cX4_matches 13 = .ok (.aload_n 0, 1) := dk_42 (dk_at dksX4_matches_0 13 rfl rfl)
theorem dX4_matches_14 : decode cX4_matches 14 = .ok (.getfield 65, 3) := dk_180 0 65 (dk_at dksX4_matches_0 14 rfl rfl)
theorem dX4_matches_17 : decode cX4_matches 17 = .ok (.iload_n 3, 1) := dk_29 (dk_at dksX4_matches_0 17 rfl rfl)
theorem dX4_matches_18 : decode cX4_matches 18 = .ok (.iconst (-1), 1) := dk_2 (dk_at dksX4_matches_0 18 rfl rfl)
theorem dX4_matches_19 : decode cX4_matches 19 = .ok (.iastore, 1) := dk_79 (dk_at dksX4_matches_0 19 rfl rfl)
theorem dX4_matches_20 : decode cX4_matches 20 = .ok (.aload_n 0, 1) := dk_42 (dk_at dksX4_matches_0 20 rfl rfl)
theorem dX4_matches_21 : decode cX4_matches 21 = .ok (.getfield 68, 3) := dk_180 0 68 (dk_at dksX4_matches_0 21 rfl rfl)
theorem dX4_matches_24 : decode cX4_matches 24 = .ok (.iload_n 3, 1) := dk_29 (dk_at dksX4_matches_1 0 rfl rfl)
theorem dX4_matches_25 : decode cX4_matches 25 = .ok (.iconst (-1), 1) := dk_2 (dk_at dksX4_matches_1 1 rfl rfl)
theorem dX4_matches_26 : decode cX4_matches 26 = .ok (.iastore, 1) := dk_79 (dk_at dksX4_matches_1 2 rfl rfl)
theorem dX4_matches_27 : decode cX4_matches 27 = .ok (.iinc 3 1, 3) := dk_132 3 1 (dk_at dksX4_matches_1 3 rfl rfl)
theorem dX4_matches_30 : decode cX4_matches 30 = .ok (.goto (-23), 3) := dk_167 255 233 (dk_at dksX4_matches_1 6 rfl rfl)
theorem dX4_matches_33 : decode cX4_matches 33 = .ok (.aload_n 0, 1) := dk_42 (dk_at dksX4_matches_1 9 rfl rfl)
theorem dX4_matches_34 : decode cX4_matches 34 = .ok (.aload_n 1, 1) := dk_43 (dk_at dksX4_matches_1 10 rfl rfl)
theorem dX4_matches_35 : decode cX4_matches 35 = .ok (.aload_n 2, 1) := dk_44 (dk_at dksX4_matches_1 11 rfl rfl)
theorem dX4_matches_36 : decode cX4_matches 36 = .ok (.invokevirtual 253, 3) := dk_182 0 253 (dk_at dksX4_matches_1 12 rfl rfl)
theorem dX4_matches_39 : decode cX4_matches 39 = .ok (.pop, 1) := dk_87 (dk_at dksX4_matches_1 15 rfl rfl)
theorem dX4_matches_40 : decode cX4_matches 40 = .ok (.aload_n 0, 1) := dk_42 (dk_at dksX4_matches_1 16 rfl rfl)
theorem dX4_matches_41 : decode cX4_matches 41 = .ok (.aload_n 1, 1) := dk_43 (dk_at dksX4_matches_1 17 rfl rfl)
theorem dX4_matches_42 : decode cX4_matches 42 = .ok (.iconst 0, 1) := dk_3 (dk_at dksX4_matches_1 18 rfl rfl)
theorem dX4_matches_43 : decode cX4_matches 43 = .ok (.aload_n 2, 1) := dk_44 (dk_at dksX4_matches_1 19 rfl rfl)
theorem dX4_matches_44 : decode cX4_matches 44 = .ok (.iconst 0, 1) := dk_3 (dk_at dksX4_matches_1 20 rfl rfl)
theorem dX4_matches_45 : decode cX4_matches 45 = .ok (.invokevirtual 249, 3) := dk_182 0 249 (dk_at dksX4_matches_1 21 rfl rfl)
theorem dX4_matches_48 : decode cX4_matches 48 = .ok (.return_, 1) := dk_177 (dk_at dksX4_matches_2 0 rfl rfl)
abbrev cX4_pairs : ByteArray := prog_20_method_45_code
def yX4_pairs : MethodName := ⟨RX4, "pairs", "(LTreeDifferModel$Tree;ILTreeDifferModel$Tree;I)V"⟩
def dkwX4_pairs_13 : List UInt8 := [21, 9, 46, 182, 0, 245, 132, 9, 1, 167, 255, 44, 177]
abbrev dktX4_pairs_13 : List UInt8 := dkwX4_pairs_13 ++ []
def dkwX4_pairs_12 : List UInt8 := [16, 100, 25, 5, 21, 8, 46, 2, 182, 0, 245, 132, 8, 1, 167, 0, 18, 42, 16, 105, 2, 25, 6]
abbrev dktX4_pairs_12 : List UInt8 := dkwX4_pairs_12 ++ dktX4_pairs_13
def dkwX4_pairs_11 : List UInt8 := [25, 7, 21, 8, 4, 96, 50, 21, 9, 46, 96, 25, 7, 21, 8, 50, 21, 9, 46, 160, 0, 21, 42]
abbrev dktX4_pairs_11 : List UInt8 := dkwX4_pairs_11 ++ dktX4_pairs_12
def dkwX4_pairs_10 : List UInt8 := [25, 5, 190, 162, 0, 60, 5, 43, 25, 5, 21, 8, 46, 182, 0, 1, 25, 5, 21, 8, 46, 100, 104]
abbrev dktX4_pairs_10 : List UInt8 := dkwX4_pairs_10 ++ dktX4_pairs_11
def dkwX4_pairs_9 : List UInt8 := [21, 8, 46, 45, 25, 6, 21, 9, 46, 182, 0, 249, 132, 8, 1, 132, 9, 1, 167, 0, 83, 21, 8]
abbrev dktX4_pairs_9 : List UInt8 := dkwX4_pairs_9 ++ dktX4_pairs_10
def dkwX4_pairs_8 : List UInt8 := [96, 50, 21, 9, 4, 96, 46, 96, 25, 7, 21, 8, 50, 21, 9, 46, 160, 0, 28, 42, 43, 25, 5]
abbrev dktX4_pairs_8 : List UInt8 := dkwX4_pairs_8 ++ dktX4_pairs_9
def dkwX4_pairs_7 : List UInt8 := [160, 0, 68, 42, 180, 0, 53, 25, 5, 21, 8, 46, 50, 25, 6, 21, 9, 46, 46, 25, 7, 21, 8, 4]
abbrev dktX4_pairs_7 : List UInt8 := dkwX4_pairs_7 ++ dktX4_pairs_8
def dkwX4_pairs_6 : List UInt8 := [153, 0, 91, 43, 180, 0, 14, 25, 5, 21, 8, 46, 46, 45, 180, 0, 14, 25, 6, 21, 9, 46, 46]
abbrev dktX4_pairs_6 : List UInt8 := dkwX4_pairs_6 ++ dktX4_pairs_7
def dkwX4_pairs_5 : List UInt8 := [25, 5, 190, 162, 0, 15, 21, 9, 25, 6, 190, 162, 0, 7, 4, 167, 0, 4, 3, 54, 10, 21, 10]
abbrev dktX4_pairs_5 : List UInt8 := dkwX4_pairs_5 ++ dktX4_pairs_6
def dkwX4_pairs_4 : List UInt8 := [54, 8, 3, 54, 9, 21, 8, 25, 5, 190, 161, 0, 11, 21, 9, 25, 6, 190, 162, 0, 202, 21, 8]
abbrev dktX4_pairs_4 : List UInt8 := dkwX4_pairs_4 ++ dktX4_pairs_5
def dkwX4_pairs_3 : List UInt8 := [58, 5, 45, 21, 4, 182, 0, 173, 58, 6, 42, 43, 25, 5, 45, 25, 6, 182, 0, 238, 58, 7, 3]
abbrev dktX4_pairs_3 : List UInt8 := dkwX4_pairs_3 ++ dktX4_pairs_4
def dkwX4_pairs_2 : List UInt8 := [45, 180, 0, 17, 21, 4, 46, 159, 0, 12, 42, 16, 118, 28, 21, 4, 182, 0, 245, 43, 28, 182, 0, 173]
abbrev dktX4_pairs_2 : List UInt8 := dkwX4_pairs_2 ++ dktX4_pairs_3
def dkwX4_pairs_1 : List UInt8 := [180, 0, 11, 21, 4, 46, 159, 0, 12, 42, 16, 108, 28, 21, 4, 182, 0, 245, 43, 180, 0, 17, 28, 46]
abbrev dktX4_pairs_1 : List UInt8 := dkwX4_pairs_1 ++ dktX4_pairs_2
def dkwX4_pairs_0 : List UInt8 := [42, 180, 0, 65, 28, 21, 4, 79, 42, 180, 0, 68, 21, 4, 28, 79, 43, 180, 0, 11, 28, 46, 45]
abbrev dktX4_pairs_0 : List UInt8 := dkwX4_pairs_0 ++ dktX4_pairs_1
theorem dksX4_pairs_0 : cX4_pairs.data.toList.drop 0 = dktX4_pairs_0 := by decide +kernel
theorem dksX4_pairs_1 : cX4_pairs.data.toList.drop 23 = dktX4_pairs_1 := dk_seg dksX4_pairs_0 23 rfl rfl
theorem dksX4_pairs_2 : cX4_pairs.data.toList.drop 47 = dktX4_pairs_2 := dk_seg dksX4_pairs_1 24 rfl rfl
theorem dksX4_pairs_3 : cX4_pairs.data.toList.drop 71 = dktX4_pairs_3 := dk_seg dksX4_pairs_2 24 rfl rfl
theorem dksX4_pairs_4 : cX4_pairs.data.toList.drop 94 = dktX4_pairs_4 := dk_seg dksX4_pairs_3 23 rfl rfl
theorem dksX4_pairs_5 : cX4_pairs.data.toList.drop 117 = dktX4_pairs_5 := dk_seg dksX4_pairs_4 23 rfl rfl
theorem dksX4_pairs_6 : cX4_pairs.data.toList.drop 140 = dktX4_pairs_6 := dk_seg dksX4_pairs_5 23 rfl rfl
theorem dksX4_pairs_7 : cX4_pairs.data.toList.drop 163 = dktX4_pairs_7 := dk_seg dksX4_pairs_6 23 rfl rfl
theorem dksX4_pairs_8 : cX4_pairs.data.toList.drop 187 = dktX4_pairs_8 := dk_seg dksX4_pairs_7 24 rfl rfl
theorem dksX4_pairs_9 : cX4_pairs.data.toList.drop 210 = dktX4_pairs_9 := dk_seg dksX4_pairs_8 23 rfl rfl
theorem dksX4_pairs_10 : cX4_pairs.data.toList.drop 233 = dktX4_pairs_10 := dk_seg dksX4_pairs_9 23 rfl rfl
theorem dksX4_pairs_11 : cX4_pairs.data.toList.drop 256 = dktX4_pairs_11 := dk_seg dksX4_pairs_10 23 rfl rfl
theorem dksX4_pairs_12 : cX4_pairs.data.toList.drop 279 = dktX4_pairs_12 := dk_seg dksX4_pairs_11 23 rfl rfl
theorem dksX4_pairs_13 : cX4_pairs.data.toList.drop 302 = dktX4_pairs_13 := dk_seg dksX4_pairs_12 23 rfl rfl
theorem dX4_pairs_0 : decode cX4_pairs 0 = .ok (.aload_n 0, 1) := dk_42 (dk_at dksX4_pairs_0 0 rfl rfl)
theorem dX4_pairs_1 : decode cX4_pairs 1 = .ok (.getfield 65, 3) := dk_180 0 65 (dk_at dksX4_pairs_0 1 rfl rfl)
theorem dX4_pairs_4 : decode cX4_pairs 4 = .ok (.iload_n 2, 1) := dk_28 (dk_at dksX4_pairs_0 4 rfl rfl)
theorem dX4_pairs_5 : decode cX4_pairs 5 = .ok (.iload 4, 2) := dk_21 4 (dk_at dksX4_pairs_0 5 rfl rfl)
theorem dX4_pairs_7 : decode cX4_pairs 7 = .ok (.iastore, 1) := dk_79 (dk_at dksX4_pairs_0 7 rfl rfl)
theorem dX4_pairs_8 : decode cX4_pairs 8 = .ok (.aload_n 0, 1) := dk_42 (dk_at dksX4_pairs_0 8 rfl rfl)
theorem dX4_pairs_9 : decode cX4_pairs 9 = .ok (.getfield 68, 3) := dk_180 0 68 (dk_at dksX4_pairs_0 9 rfl rfl)
theorem dX4_pairs_12 : decode cX4_pairs 12 = .ok (.iload 4, 2) := dk_21 4 (dk_at dksX4_pairs_0 12 rfl rfl)
theorem dX4_pairs_14 : decode cX4_pairs 14 = .ok (.iload_n 2, 1) := dk_28 (dk_at dksX4_pairs_0 14 rfl rfl)
theorem dX4_pairs_15 : decode cX4_pairs 15 = .ok (.iastore, 1) := dk_79 (dk_at dksX4_pairs_0 15 rfl rfl)
theorem dX4_pairs_16 : decode cX4_pairs 16 = .ok (.aload_n 1, 1) := dk_43 (dk_at dksX4_pairs_0 16 rfl rfl)
theorem dX4_pairs_17 : decode cX4_pairs 17 = .ok (.getfield 11, 3) := dk_180 0 11 (dk_at dksX4_pairs_0 17 rfl rfl)
theorem dX4_pairs_20 : decode cX4_pairs 20 = .ok (.iload_n 2, 1) := dk_28 (dk_at dksX4_pairs_0 20 rfl rfl)
theorem dX4_pairs_21 : decode cX4_pairs 21 = .ok (.iaload, 1) := dk_46 (dk_at dksX4_pairs_0 21 rfl rfl)
theorem dX4_pairs_22 : decode cX4_pairs 22 = .ok (.aload_n 3, 1) := dk_45 (dk_at dksX4_pairs_0 22 rfl rfl)
theorem dX4_pairs_23 : decode cX4_pairs 23 = .ok (.getfield 11, 3) := dk_180 0 11 (dk_at dksX4_pairs_1 0 rfl rfl)
theorem dX4_pairs_26 : decode cX4_pairs 26 = .ok (.iload 4, 2) := dk_21 4 (dk_at dksX4_pairs_1 3 rfl rfl)
theorem dX4_pairs_28 : decode cX4_pairs 28 = .ok (.iaload, 1) := dk_46 (dk_at dksX4_pairs_1 5 rfl rfl)
theorem dX4_pairs_29 : decode cX4_pairs 29 = .ok (.if_icmp .eq 12, 3) := dk_159 0 12 (dk_at dksX4_pairs_1 6 rfl rfl)
theorem dX4_pairs_32 : decode cX4_pairs 32 = .ok (.aload_n 0, 1) := dk_42 (dk_at dksX4_pairs_1 9 rfl rfl)
theorem dX4_pairs_33 : decode cX4_pairs 33 = .ok (.bipush 108, 2) := dk_16 108 (dk_at dksX4_pairs_1 10 rfl rfl)
theorem dX4_pairs_35 : decode cX4_pairs 35 = .ok (.iload_n 2, 1) := dk_28 (dk_at dksX4_pairs_1 12 rfl rfl)
theorem dX4_pairs_36 : decode cX4_pairs 36 = .ok (.iload 4, 2) := dk_21 4 (dk_at dksX4_pairs_1 13 rfl rfl)
theorem dX4_pairs_38 : decode cX4_pairs 38 = .ok (.invokevirtual 245, 3) := dk_182 0 245 (dk_at dksX4_pairs_1 15 rfl rfl)
theorem dX4_pairs_41 : decode cX4_pairs 41 = .ok (.aload_n 1, 1) := dk_43 (dk_at dksX4_pairs_1 18 rfl rfl)
theorem dX4_pairs_42 : decode cX4_pairs 42 = .ok (.getfield 17, 3) := dk_180 0 17 (dk_at dksX4_pairs_1 19 rfl rfl)
theorem dX4_pairs_45 : decode cX4_pairs 45 = .ok (.iload_n 2, 1) := dk_28 (dk_at dksX4_pairs_1 22 rfl rfl)
theorem dX4_pairs_46 : decode cX4_pairs 46 = .ok (.iaload, 1) := dk_46 (dk_at dksX4_pairs_1 23 rfl rfl)
theorem dX4_pairs_47 : decode cX4_pairs 47 = .ok (.aload_n 3, 1) := dk_45 (dk_at dksX4_pairs_2 0 rfl rfl)
theorem dX4_pairs_48 : decode cX4_pairs 48 = .ok (.getfield 17, 3) := dk_180 0 17 (dk_at dksX4_pairs_2 1 rfl rfl)
theorem dX4_pairs_51 : decode cX4_pairs 51 = .ok (.iload 4, 2) := dk_21 4 (dk_at dksX4_pairs_2 4 rfl rfl)
theorem dX4_pairs_53 : decode cX4_pairs 53 = .ok (.iaload, 1) := dk_46 (dk_at dksX4_pairs_2 6 rfl rfl)
theorem dX4_pairs_54 : decode cX4_pairs 54 = .ok (.if_icmp .eq 12, 3) := dk_159 0 12 (dk_at dksX4_pairs_2 7 rfl rfl)
theorem dX4_pairs_57 : decode cX4_pairs 57 = .ok (.aload_n 0, 1) := dk_42 (dk_at dksX4_pairs_2 10 rfl rfl)
theorem dX4_pairs_58 : decode cX4_pairs 58 = .ok (.bipush 118, 2) := dk_16 118 (dk_at dksX4_pairs_2 11 rfl rfl)
theorem dX4_pairs_60 : decode cX4_pairs 60 = .ok (.iload_n 2, 1) := dk_28 (dk_at dksX4_pairs_2 13 rfl rfl)
theorem dX4_pairs_61 : decode cX4_pairs 61 = .ok (.iload 4, 2) := dk_21 4 (dk_at dksX4_pairs_2 14 rfl rfl)
theorem dX4_pairs_63 : decode cX4_pairs 63 = .ok (.invokevirtual 245, 3) := dk_182 0 245 (dk_at dksX4_pairs_2 16 rfl rfl)
theorem dX4_pairs_66 : decode cX4_pairs 66 = .ok (.aload_n 1, 1) := dk_43 (dk_at dksX4_pairs_2 19 rfl rfl)
theorem dX4_pairs_67 : decode cX4_pairs 67 = .ok (.iload_n 2, 1) := dk_28 (dk_at dksX4_pairs_2 20 rfl rfl)
theorem dX4_pairs_68 : decode cX4_pairs 68 = .ok (.invokevirtual 173, 3) := dk_182 0 173 (dk_at dksX4_pairs_2 21 rfl rfl)
theorem dX4_pairs_71 : decode cX4_pairs 71 = .ok (.astore 5, 2) := dk_58 5 (dk_at dksX4_pairs_3 0 rfl rfl)
theorem dX4_pairs_73 : decode cX4_pairs 73 = .ok (.aload_n 3, 1) := dk_45 (dk_at dksX4_pairs_3 2 rfl rfl)
theorem dX4_pairs_74 : decode cX4_pairs 74 = .ok (.iload 4, 2) := dk_21 4 (dk_at dksX4_pairs_3 3 rfl rfl)
theorem dX4_pairs_76 : decode cX4_pairs 76 = .ok (.invokevirtual 173, 3) := dk_182 0 173 (dk_at dksX4_pairs_3 5 rfl rfl)
theorem dX4_pairs_79 : decode cX4_pairs 79 = .ok (.astore 6, 2) := dk_58 6 (dk_at dksX4_pairs_3 8 rfl rfl)
theorem dX4_pairs_81 : decode cX4_pairs 81 = .ok (.aload_n 0, 1) := dk_42 (dk_at dksX4_pairs_3 10 rfl rfl)
theorem dX4_pairs_82 : decode cX4_pairs 82 = .ok (.aload_n 1, 1) := dk_43 (dk_at dksX4_pairs_3 11 rfl rfl)
theorem dX4_pairs_83 : decode cX4_pairs 83 = .ok (.aload 5, 2) := dk_25 5 (dk_at dksX4_pairs_3 12 rfl rfl)
theorem dX4_pairs_85 : decode cX4_pairs 85 = .ok (.aload_n 3, 1) := dk_45 (dk_at dksX4_pairs_3 14 rfl rfl)
theorem dX4_pairs_86 : decode cX4_pairs 86 = .ok (.aload 6, 2) := dk_25 6 (dk_at dksX4_pairs_3 15 rfl rfl)
theorem dX4_pairs_88 : decode cX4_pairs 88 = .ok (.invokevirtual 238, 3) := dk_182 0 238 (dk_at dksX4_pairs_3 17 rfl rfl)
theorem dX4_pairs_91 : decode cX4_pairs 91 = .ok (.astore 7, 2) := dk_58 7 (dk_at dksX4_pairs_3 20 rfl rfl)
theorem dX4_pairs_93 : decode cX4_pairs 93 = .ok (.iconst 0, 1) := dk_3 (dk_at dksX4_pairs_3 22 rfl rfl)
theorem dX4_pairs_94 : decode cX4_pairs 94 = .ok (.istore 8, 2) := dk_54 8 (dk_at dksX4_pairs_4 0 rfl rfl)
theorem dX4_pairs_96 : decode cX4_pairs 96 = .ok (.iconst 0, 1) := dk_3 (dk_at dksX4_pairs_4 2 rfl rfl)
theorem dX4_pairs_97 : decode cX4_pairs 97 = .ok (.istore 9, 2) := dk_54 9 (dk_at dksX4_pairs_4 3 rfl rfl)
theorem dX4_pairs_99 : decode cX4_pairs 99 = .ok (.iload 8, 2) := dk_21 8 (dk_at dksX4_pairs_4 5 rfl rfl)
theorem dX4_pairs_101 : decode cX4_pairs 101 = .ok (.aload 5, 2) := dk_25 5 (dk_at dksX4_pairs_4 7 rfl rfl)
theorem dX4_pairs_103 : decode cX4_pairs 103 = .ok (.arraylength, 1) := dk_190 (dk_at dksX4_pairs_4 9 rfl rfl)
theorem dX4_pairs_104 : decode cX4_pairs 104 = .ok (.if_icmp .lt 11, 3) := dk_161 0 11 (dk_at dksX4_pairs_4 10 rfl rfl)
theorem dX4_pairs_107 : decode cX4_pairs 107 = .ok (.iload 9, 2) := dk_21 9 (dk_at dksX4_pairs_4 13 rfl rfl)
theorem dX4_pairs_109 : decode cX4_pairs 109 = .ok (.aload 6, 2) := dk_25 6 (dk_at dksX4_pairs_4 15 rfl rfl)
theorem dX4_pairs_111 : decode cX4_pairs 111 = .ok (.arraylength, 1) := dk_190 (dk_at dksX4_pairs_4 17 rfl rfl)
theorem dX4_pairs_112 : decode cX4_pairs 112 = .ok (.if_icmp .ge 202, 3) := dk_162 0 202 (dk_at dksX4_pairs_4 18 rfl rfl)
theorem dX4_pairs_115 : decode cX4_pairs 115 = .ok (.iload 8, 2) := dk_21 8 (dk_at dksX4_pairs_4 21 rfl rfl)
theorem dX4_pairs_117 : decode cX4_pairs 117 = .ok (.aload 5, 2) := dk_25 5 (dk_at dksX4_pairs_5 0 rfl rfl)
theorem dX4_pairs_119 : decode cX4_pairs 119 = .ok (.arraylength, 1) := dk_190 (dk_at dksX4_pairs_5 2 rfl rfl)
theorem dX4_pairs_120 : decode cX4_pairs 120 = .ok (.if_icmp .ge 15, 3) := dk_162 0 15 (dk_at dksX4_pairs_5 3 rfl rfl)
theorem dX4_pairs_123 : decode cX4_pairs 123 = .ok (.iload 9, 2) := dk_21 9 (dk_at dksX4_pairs_5 6 rfl rfl)
theorem dX4_pairs_125 : decode cX4_pairs 125 = .ok (.aload 6, 2) := dk_25 6 (dk_at dksX4_pairs_5 8 rfl rfl)
theorem dX4_pairs_127 : decode cX4_pairs 127 = .ok (.arraylength, 1) := dk_190 (dk_at dksX4_pairs_5 10 rfl rfl)
theorem dX4_pairs_128 : decode cX4_pairs 128 = .ok (.if_icmp .ge 7, 3) := dk_162 0 7 (dk_at dksX4_pairs_5 11 rfl rfl)
theorem dX4_pairs_131 : decode cX4_pairs 131 = .ok (.iconst 1, 1) := dk_4 (dk_at dksX4_pairs_5 14 rfl rfl)
theorem dX4_pairs_132 : decode cX4_pairs 132 = .ok (.goto 4, 3) := dk_167 0 4 (dk_at dksX4_pairs_5 15 rfl rfl)
theorem dX4_pairs_135 : decode cX4_pairs 135 = .ok (.iconst 0, 1) := dk_3 (dk_at dksX4_pairs_5 18 rfl rfl)
theorem dX4_pairs_136 : decode cX4_pairs 136 = .ok (.istore 10, 2) := dk_54 10 (dk_at dksX4_pairs_5 19 rfl rfl)
theorem dX4_pairs_138 : decode cX4_pairs 138 = .ok (.iload 10, 2) := dk_21 10 (dk_at dksX4_pairs_5 21 rfl rfl)
theorem dX4_pairs_140 : decode cX4_pairs 140 = .ok (.ifCond .eq 91, 3) := dk_153 0 91 (dk_at dksX4_pairs_6 0 rfl rfl)
theorem dX4_pairs_143 : decode cX4_pairs 143 = .ok (.aload_n 1, 1) := dk_43 (dk_at dksX4_pairs_6 3 rfl rfl)
theorem dX4_pairs_144 : decode cX4_pairs 144 = .ok (.getfield 14, 3) := dk_180 0 14 (dk_at dksX4_pairs_6 4 rfl rfl)
theorem dX4_pairs_147 : decode cX4_pairs 147 = .ok (.aload 5, 2) := dk_25 5 (dk_at dksX4_pairs_6 7 rfl rfl)
theorem dX4_pairs_149 : decode cX4_pairs 149 = .ok (.iload 8, 2) := dk_21 8 (dk_at dksX4_pairs_6 9 rfl rfl)
theorem dX4_pairs_151 : decode cX4_pairs 151 = .ok (.iaload, 1) := dk_46 (dk_at dksX4_pairs_6 11 rfl rfl)
theorem dX4_pairs_152 : decode cX4_pairs 152 = .ok (.iaload, 1) := dk_46 (dk_at dksX4_pairs_6 12 rfl rfl)
theorem dX4_pairs_153 : decode cX4_pairs 153 = .ok (.aload_n 3, 1) := dk_45 (dk_at dksX4_pairs_6 13 rfl rfl)
theorem dX4_pairs_154 : decode cX4_pairs 154 = .ok (.getfield 14, 3) := dk_180 0 14 (dk_at dksX4_pairs_6 14 rfl rfl)
theorem dX4_pairs_157 : decode cX4_pairs 157 = .ok (.aload 6, 2) := dk_25 6 (dk_at dksX4_pairs_6 17 rfl rfl)
theorem dX4_pairs_159 : decode cX4_pairs 159 = .ok (.iload 9, 2) := dk_21 9 (dk_at dksX4_pairs_6 19 rfl rfl)
theorem dX4_pairs_161 : decode cX4_pairs 161 = .ok (.iaload, 1) := dk_46 (dk_at dksX4_pairs_6 21 rfl rfl)
theorem dX4_pairs_162 : decode cX4_pairs 162 = .ok (.iaload, 1) := dk_46 (dk_at dksX4_pairs_6 22 rfl rfl)
theorem dX4_pairs_163 : decode cX4_pairs 163 = .ok (.if_icmp .ne 68, 3) := dk_160 0 68 (dk_at dksX4_pairs_7 0 rfl rfl)
theorem dX4_pairs_166 : decode cX4_pairs 166 = .ok (.aload_n 0, 1) := dk_42 (dk_at dksX4_pairs_7 3 rfl rfl)
theorem dX4_pairs_167 : decode cX4_pairs 167 = .ok (.getfield 53, 3) := dk_180 0 53 (dk_at dksX4_pairs_7 4 rfl rfl)
theorem dX4_pairs_170 : decode cX4_pairs 170 = .ok (.aload 5, 2) := dk_25 5 (dk_at dksX4_pairs_7 7 rfl rfl)
theorem dX4_pairs_172 : decode cX4_pairs 172 = .ok (.iload 8, 2) := dk_21 8 (dk_at dksX4_pairs_7 9 rfl rfl)
theorem dX4_pairs_174 : decode cX4_pairs 174 = .ok (.iaload, 1) := dk_46 (dk_at dksX4_pairs_7 11 rfl rfl)
theorem dX4_pairs_175 : decode cX4_pairs 175 = .ok (.aaload, 1) := dk_50 (dk_at dksX4_pairs_7 12 rfl rfl)
theorem dX4_pairs_176 : decode cX4_pairs 176 = .ok (.aload 6, 2) := dk_25 6 (dk_at dksX4_pairs_7 13 rfl rfl)
theorem dX4_pairs_178 : decode cX4_pairs 178 = .ok (.iload 9, 2) := dk_21 9 (dk_at dksX4_pairs_7 15 rfl rfl)
theorem dX4_pairs_180 : decode cX4_pairs 180 = .ok (.iaload, 1) := dk_46 (dk_at dksX4_pairs_7 17 rfl rfl)
theorem dX4_pairs_181 : decode cX4_pairs 181 = .ok (.iaload, 1) := dk_46 (dk_at dksX4_pairs_7 18 rfl rfl)
theorem dX4_pairs_182 : decode cX4_pairs 182 = .ok (.aload 7, 2) := dk_25 7 (dk_at dksX4_pairs_7 19 rfl rfl)
theorem dX4_pairs_184 : decode cX4_pairs 184 = .ok (.iload 8, 2) := dk_21 8 (dk_at dksX4_pairs_7 21 rfl rfl)
theorem dX4_pairs_186 : decode cX4_pairs 186 = .ok (.iconst 1, 1) := dk_4 (dk_at dksX4_pairs_7 23 rfl rfl)
theorem dX4_pairs_187 : decode cX4_pairs 187 = .ok (.iadd, 1) := dk_96 (dk_at dksX4_pairs_8 0 rfl rfl)
theorem dX4_pairs_188 : decode cX4_pairs 188 = .ok (.aaload, 1) := dk_50 (dk_at dksX4_pairs_8 1 rfl rfl)
theorem dX4_pairs_189 : decode cX4_pairs 189 = .ok (.iload 9, 2) := dk_21 9 (dk_at dksX4_pairs_8 2 rfl rfl)
theorem dX4_pairs_191 : decode cX4_pairs 191 = .ok (.iconst 1, 1) := dk_4 (dk_at dksX4_pairs_8 4 rfl rfl)
theorem dX4_pairs_192 : decode cX4_pairs 192 = .ok (.iadd, 1) := dk_96 (dk_at dksX4_pairs_8 5 rfl rfl)
theorem dX4_pairs_193 : decode cX4_pairs 193 = .ok (.iaload, 1) := dk_46 (dk_at dksX4_pairs_8 6 rfl rfl)
theorem dX4_pairs_194 : decode cX4_pairs 194 = .ok (.iadd, 1) := dk_96 (dk_at dksX4_pairs_8 7 rfl rfl)
theorem dX4_pairs_195 : decode cX4_pairs 195 = .ok (.aload 7, 2) := dk_25 7 (dk_at dksX4_pairs_8 8 rfl rfl)
theorem dX4_pairs_197 : decode cX4_pairs 197 = .ok (.iload 8, 2) := dk_21 8 (dk_at dksX4_pairs_8 10 rfl rfl)
theorem dX4_pairs_199 : decode cX4_pairs 199 = .ok (.aaload, 1) := dk_50 (dk_at dksX4_pairs_8 12 rfl rfl)
theorem dX4_pairs_200 : decode cX4_pairs 200 = .ok (.iload 9, 2) := dk_21 9 (dk_at dksX4_pairs_8 13 rfl rfl)
theorem dX4_pairs_202 : decode cX4_pairs 202 = .ok (.iaload, 1) := dk_46 (dk_at dksX4_pairs_8 15 rfl rfl)
theorem dX4_pairs_203 : decode cX4_pairs 203 = .ok (.if_icmp .ne 28, 3) := dk_160 0 28 (dk_at dksX4_pairs_8 16 rfl rfl)
theorem dX4_pairs_206 : decode cX4_pairs 206 = .ok (.aload_n 0, 1) := dk_42 (dk_at dksX4_pairs_8 19 rfl rfl)
theorem dX4_pairs_207 : decode cX4_pairs 207 = .ok (.aload_n 1, 1) := dk_43 (dk_at dksX4_pairs_8 20 rfl rfl)
theorem dX4_pairs_208 : decode cX4_pairs 208 = .ok (.aload 5, 2) := dk_25 5 (dk_at dksX4_pairs_8 21 rfl rfl)
theorem dX4_pairs_210 : decode cX4_pairs 210 = .ok (.iload 8, 2) := dk_21 8 (dk_at dksX4_pairs_9 0 rfl rfl)
theorem dX4_pairs_212 : decode cX4_pairs 212 = .ok (.iaload, 1) := dk_46 (dk_at dksX4_pairs_9 2 rfl rfl)
theorem dX4_pairs_213 : decode cX4_pairs 213 = .ok (.aload_n 3, 1) := dk_45 (dk_at dksX4_pairs_9 3 rfl rfl)
theorem dX4_pairs_214 : decode cX4_pairs 214 = .ok (.aload 6, 2) := dk_25 6 (dk_at dksX4_pairs_9 4 rfl rfl)
theorem dX4_pairs_216 : decode cX4_pairs 216 = .ok (.iload 9, 2) := dk_21 9 (dk_at dksX4_pairs_9 6 rfl rfl)
theorem dX4_pairs_218 : decode cX4_pairs 218 = .ok (.iaload, 1) := dk_46 (dk_at dksX4_pairs_9 8 rfl rfl)
theorem dX4_pairs_219 : decode cX4_pairs 219 = .ok (.invokevirtual 249, 3) := dk_182 0 249 (dk_at dksX4_pairs_9 9 rfl rfl)
theorem dX4_pairs_222 : decode cX4_pairs 222 = .ok (.iinc 8 1, 3) := dk_132 8 1 (dk_at dksX4_pairs_9 12 rfl rfl)
theorem dX4_pairs_225 : decode cX4_pairs 225 = .ok (.iinc 9 1, 3) := dk_132 9 1 (dk_at dksX4_pairs_9 15 rfl rfl)
theorem dX4_pairs_228 : decode cX4_pairs 228 = .ok (.goto 83, 3) := dk_167 0 83 (dk_at dksX4_pairs_9 18 rfl rfl)
theorem dX4_pairs_231 : decode cX4_pairs 231 = .ok (.iload 8, 2) := dk_21 8 (dk_at dksX4_pairs_9 21 rfl rfl)
theorem dX4_pairs_233 : decode cX4_pairs 233 = .ok (.aload 5, 2) := dk_25 5 (dk_at dksX4_pairs_10 0 rfl rfl)
theorem dX4_pairs_235 : decode cX4_pairs 235 = .ok (.arraylength, 1) := dk_190 (dk_at dksX4_pairs_10 2 rfl rfl)
theorem dX4_pairs_236 : decode cX4_pairs 236 = .ok (.if_icmp .ge 60, 3) := dk_162 0 60 (dk_at dksX4_pairs_10 3 rfl rfl)
theorem dX4_pairs_239 : decode cX4_pairs 239 = .ok (.iconst 2, 1) := dk_5 (dk_at dksX4_pairs_10 6 rfl rfl)
theorem dX4_pairs_240 : decode cX4_pairs 240 = .ok (.aload_n 1, 1) := dk_43 (dk_at dksX4_pairs_10 7 rfl rfl)
theorem dX4_pairs_241 : decode cX4_pairs 241 = .ok (.aload 5, 2) := dk_25 5 (dk_at dksX4_pairs_10 8 rfl rfl)
theorem dX4_pairs_243 : decode cX4_pairs 243 = .ok (.iload 8, 2) := dk_21 8 (dk_at dksX4_pairs_10 10 rfl rfl)
theorem dX4_pairs_245 : decode cX4_pairs 245 = .ok (.iaload, 1) := dk_46 (dk_at dksX4_pairs_10 12 rfl rfl)
theorem dX4_pairs_246 : decode cX4_pairs 246 = .ok (.invokevirtual 1, 3) := dk_182 0 1 (dk_at dksX4_pairs_10 13 rfl rfl)
theorem dX4_pairs_249 : decode cX4_pairs 249 = .ok (.aload 5, 2) := dk_25 5 (dk_at dksX4_pairs_10 16 rfl rfl)
theorem dX4_pairs_251 : decode cX4_pairs 251 = .ok (.iload 8, 2) := dk_21 8 (dk_at dksX4_pairs_10 18 rfl rfl)
theorem dX4_pairs_253 : decode cX4_pairs 253 = .ok (.iaload, 1) := dk_46 (dk_at dksX4_pairs_10 20 rfl rfl)
theorem dX4_pairs_254 : decode cX4_pairs 254 = .ok (.isub, 1) := dk_100 (dk_at dksX4_pairs_10 21 rfl rfl)
theorem dX4_pairs_255 : decode cX4_pairs 255 = .ok (.imul, 1) := dk_104 (dk_at dksX4_pairs_10 22 rfl rfl)
theorem dX4_pairs_256 : decode cX4_pairs 256 = .ok (.aload 7, 2) := dk_25 7 (dk_at dksX4_pairs_11 0 rfl rfl)
theorem dX4_pairs_258 : decode cX4_pairs 258 = .ok (.iload 8, 2) := dk_21 8 (dk_at dksX4_pairs_11 2 rfl rfl)
theorem dX4_pairs_260 : decode cX4_pairs 260 = .ok (.iconst 1, 1) := dk_4 (dk_at dksX4_pairs_11 4 rfl rfl)
theorem dX4_pairs_261 : decode cX4_pairs 261 = .ok (.iadd, 1) := dk_96 (dk_at dksX4_pairs_11 5 rfl rfl)
theorem dX4_pairs_262 : decode cX4_pairs 262 = .ok (.aaload, 1) := dk_50 (dk_at dksX4_pairs_11 6 rfl rfl)
theorem dX4_pairs_263 : decode cX4_pairs 263 = .ok (.iload 9, 2) := dk_21 9 (dk_at dksX4_pairs_11 7 rfl rfl)
theorem dX4_pairs_265 : decode cX4_pairs 265 = .ok (.iaload, 1) := dk_46 (dk_at dksX4_pairs_11 9 rfl rfl)
theorem dX4_pairs_266 : decode cX4_pairs 266 = .ok (.iadd, 1) := dk_96 (dk_at dksX4_pairs_11 10 rfl rfl)
theorem dX4_pairs_267 : decode cX4_pairs 267 = .ok (.aload 7, 2) := dk_25 7 (dk_at dksX4_pairs_11 11 rfl rfl)
theorem dX4_pairs_269 : decode cX4_pairs 269 = .ok (.iload 8, 2) := dk_21 8 (dk_at dksX4_pairs_11 13 rfl rfl)
theorem dX4_pairs_271 : decode cX4_pairs 271 = .ok (.aaload, 1) := dk_50 (dk_at dksX4_pairs_11 15 rfl rfl)
theorem dX4_pairs_272 : decode cX4_pairs 272 = .ok (.iload 9, 2) := dk_21 9 (dk_at dksX4_pairs_11 16 rfl rfl)
theorem dX4_pairs_274 : decode cX4_pairs 274 = .ok (.iaload, 1) := dk_46 (dk_at dksX4_pairs_11 18 rfl rfl)
theorem dX4_pairs_275 : decode cX4_pairs 275 = .ok (.if_icmp .ne 21, 3) := dk_160 0 21 (dk_at dksX4_pairs_11 19 rfl rfl)
theorem dX4_pairs_278 : decode cX4_pairs 278 = .ok (.aload_n 0, 1) := dk_42 (dk_at dksX4_pairs_11 22 rfl rfl)
theorem dX4_pairs_279 : decode cX4_pairs 279 = .ok (.bipush 100, 2) := dk_16 100 (dk_at dksX4_pairs_12 0 rfl rfl)
theorem dX4_pairs_281 : decode cX4_pairs 281 = .ok (.aload 5, 2) := dk_25 5 (dk_at dksX4_pairs_12 2 rfl rfl)
theorem dX4_pairs_283 : decode cX4_pairs 283 = .ok (.iload 8, 2) := dk_21 8 (dk_at dksX4_pairs_12 4 rfl rfl)
theorem dX4_pairs_285 : decode cX4_pairs 285 = .ok (.iaload, 1) := dk_46 (dk_at dksX4_pairs_12 6 rfl rfl)
theorem dX4_pairs_286 : decode cX4_pairs 286 = .ok (.iconst (-1), 1) := dk_2 (dk_at dksX4_pairs_12 7 rfl rfl)
theorem dX4_pairs_287 : decode cX4_pairs 287 = .ok (.invokevirtual 245, 3) := dk_182 0 245 (dk_at dksX4_pairs_12 8 rfl rfl)
theorem dX4_pairs_290 : decode cX4_pairs 290 = .ok (.iinc 8 1, 3) := dk_132 8 1 (dk_at dksX4_pairs_12 11 rfl rfl)
theorem dX4_pairs_293 : decode cX4_pairs 293 = .ok (.goto 18, 3) := dk_167 0 18 (dk_at dksX4_pairs_12 14 rfl rfl)
theorem dX4_pairs_296 : decode cX4_pairs 296 = .ok (.aload_n 0, 1) := dk_42 (dk_at dksX4_pairs_12 17 rfl rfl)
theorem dX4_pairs_297 : decode cX4_pairs 297 = .ok (.bipush 105, 2) := dk_16 105 (dk_at dksX4_pairs_12 18 rfl rfl)
theorem dX4_pairs_299 : decode cX4_pairs 299 = .ok (.iconst (-1), 1) := dk_2 (dk_at dksX4_pairs_12 20 rfl rfl)
theorem dX4_pairs_300 : decode cX4_pairs 300 = .ok (.aload 6, 2) := dk_25 6 (dk_at dksX4_pairs_12 21 rfl rfl)
theorem dX4_pairs_302 : decode cX4_pairs 302 = .ok (.iload 9, 2) := dk_21 9 (dk_at dksX4_pairs_13 0 rfl rfl)
theorem dX4_pairs_304 : decode cX4_pairs 304 = .ok (.iaload, 1) := dk_46 (dk_at dksX4_pairs_13 2 rfl rfl)
theorem dX4_pairs_305 : decode cX4_pairs 305 = .ok (.invokevirtual 245, 3) := dk_182 0 245 (dk_at dksX4_pairs_13 3 rfl rfl)
theorem dX4_pairs_308 : decode cX4_pairs 308 = .ok (.iinc 9 1, 3) := dk_132 9 1 (dk_at dksX4_pairs_13 6 rfl rfl)
theorem dX4_pairs_311 : decode cX4_pairs 311 = .ok (.goto (-212), 3) := dk_167 255 44 (dk_at dksX4_pairs_13 9 rfl rfl)
theorem dX4_pairs_314 : decode cX4_pairs 314 = .ok (.return_, 1) := dk_177 (dk_at dksX4_pairs_13 12 rfl rfl)
abbrev cX4_notes : ByteArray := prog_20_method_44_code
def yX4_notes : MethodName := ⟨RX4, "notes", "(CII)V"⟩
def dkwX4_notes_1 : List UInt8 := [42, 180, 0, 242, 29, 79, 42, 89, 180, 0, 242, 4, 96, 181, 0, 242, 177]
abbrev dktX4_notes_1 : List UInt8 := dkwX4_notes_1 ++ []
def dkwX4_notes_0 : List UInt8 := [42, 180, 0, 56, 42, 180, 0, 242, 27, 85, 42, 180, 0, 59, 42, 180, 0, 242, 28, 79, 42, 180, 0, 62]
abbrev dktX4_notes_0 : List UInt8 := dkwX4_notes_0 ++ dktX4_notes_1
theorem dksX4_notes_0 : cX4_notes.data.toList.drop 0 = dktX4_notes_0 := by decide +kernel
theorem dksX4_notes_1 : cX4_notes.data.toList.drop 24 = dktX4_notes_1 := dk_seg dksX4_notes_0 24 rfl rfl
theorem dX4_notes_0 : decode cX4_notes 0 = .ok (.aload_n 0, 1) := dk_42 (dk_at dksX4_notes_0 0 rfl rfl)
theorem dX4_notes_1 : decode cX4_notes 1 = .ok (.getfield 56, 3) := dk_180 0 56 (dk_at dksX4_notes_0 1 rfl rfl)
theorem dX4_notes_4 : decode cX4_notes 4 = .ok (.aload_n 0, 1) := dk_42 (dk_at dksX4_notes_0 4 rfl rfl)
theorem dX4_notes_5 : decode cX4_notes 5 = .ok (.getfield 242, 3) := dk_180 0 242 (dk_at dksX4_notes_0 5 rfl rfl)
theorem dX4_notes_8 : decode cX4_notes 8 = .ok (.iload_n 1, 1) := dk_27 (dk_at dksX4_notes_0 8 rfl rfl)
theorem dX4_notes_9 : decode cX4_notes 9 = .ok (.castore, 1) := dk_85 (dk_at dksX4_notes_0 9 rfl rfl)
theorem dX4_notes_10 : decode cX4_notes 10 = .ok (.aload_n 0, 1) := dk_42 (dk_at dksX4_notes_0 10 rfl rfl)
theorem dX4_notes_11 : decode cX4_notes 11 = .ok (.getfield 59, 3) := dk_180 0 59 (dk_at dksX4_notes_0 11 rfl rfl)
theorem dX4_notes_14 : decode cX4_notes 14 = .ok (.aload_n 0, 1) := dk_42 (dk_at dksX4_notes_0 14 rfl rfl)
theorem dX4_notes_15 : decode cX4_notes 15 = .ok (.getfield 242, 3) := dk_180 0 242 (dk_at dksX4_notes_0 15 rfl rfl)
theorem dX4_notes_18 : decode cX4_notes 18 = .ok (.iload_n 2, 1) := dk_28 (dk_at dksX4_notes_0 18 rfl rfl)
theorem dX4_notes_19 : decode cX4_notes 19 = .ok (.iastore, 1) := dk_79 (dk_at dksX4_notes_0 19 rfl rfl)
theorem dX4_notes_20 : decode cX4_notes 20 = .ok (.aload_n 0, 1) := dk_42 (dk_at dksX4_notes_0 20 rfl rfl)
theorem dX4_notes_21 : decode cX4_notes 21 = .ok (.getfield 62, 3) := dk_180 0 62 (dk_at dksX4_notes_0 21 rfl rfl)
theorem dX4_notes_24 : decode cX4_notes 24 = .ok (.aload_n 0, 1) := dk_42 (dk_at dksX4_notes_1 0 rfl rfl)
theorem dX4_notes_25 : decode cX4_notes 25 = .ok (.getfield 242, 3) := dk_180 0 242 (dk_at dksX4_notes_1 1 rfl rfl)
theorem dX4_notes_28 : decode cX4_notes 28 = .ok (.iload_n 3, 1) := dk_29 (dk_at dksX4_notes_1 4 rfl rfl)
theorem dX4_notes_29 : decode cX4_notes 29 = .ok (.iastore, 1) := dk_79 (dk_at dksX4_notes_1 5 rfl rfl)
theorem dX4_notes_30 : decode cX4_notes 30 = .ok (.aload_n 0, 1) := dk_42 (dk_at dksX4_notes_1 6 rfl rfl)
theorem dX4_notes_31 : decode cX4_notes 31 = .ok (.dup, 1) := dk_89 (dk_at dksX4_notes_1 7 rfl rfl)
theorem dX4_notes_32 : decode cX4_notes 32 = .ok (.getfield 242, 3) := dk_180 0 242 (dk_at dksX4_notes_1 8 rfl rfl)
theorem dX4_notes_35 : decode cX4_notes 35 = .ok (.iconst 1, 1) := dk_4 (dk_at dksX4_notes_1 11 rfl rfl)
theorem dX4_notes_36 : decode cX4_notes 36 = .ok (.iadd, 1) := dk_96 (dk_at dksX4_notes_1 12 rfl rfl)
theorem dX4_notes_37 : decode cX4_notes 37 = .ok (.putfield 242, 3) := dk_181 0 242 (dk_at dksX4_notes_1 13 rfl rfl)
theorem dX4_notes_40 : decode cX4_notes 40 = .ok (.return_, 1) := dk_177 (dk_at dksX4_notes_1 16 rfl rfl)
abbrev cX4_recognizes : ByteArray := prog_20_method_50_code
def yX4_recognizes : MethodName := ⟨RX4, "recognizes", "()V"⟩
def dkwX4_recognizes_5 : List UInt8 := [132, 1, 1, 167, 255, 138, 177]
abbrev dktX4_recognizes_5 : List UInt8 := dkwX4_recognizes_5 ++ []
def dkwX4_recognizes_4 : List UInt8 := [28, 16, 109, 85, 42, 180, 0, 59, 28, 42, 180, 0, 59, 27, 46, 79, 42, 180, 0, 56, 27, 16, 45, 85]
abbrev dktX4_recognizes_4 : List UInt8 := dkwX4_recognizes_4 ++ dktX4_recognizes_5
def dkwX4_recognizes_3 : List UInt8 := [154, 0, 9, 132, 2, 1, 167, 255, 207, 28, 42, 180, 0, 242, 160, 0, 6, 167, 0, 31, 42, 180, 0, 56]
abbrev dktX4_recognizes_3 : List UInt8 := dkwX4_recognizes_3 ++ dktX4_recognizes_4
def dkwX4_recognizes_2 : List UInt8 := [180, 0, 71, 42, 180, 0, 59, 27, 46, 42, 180, 0, 74, 42, 180, 0, 62, 28, 46, 3, 184, 0, 223]
abbrev dktX4_recognizes_2 : List UInt8 := dkwX4_recognizes_2 ++ dktX4_recognizes_3
def dkwX4_recognizes_1 : List UInt8 := [3, 61, 28, 42, 180, 0, 242, 162, 0, 47, 42, 180, 0, 56, 28, 52, 16, 105, 160, 0, 30, 42]
abbrev dktX4_recognizes_1 : List UInt8 := dkwX4_recognizes_1 ++ dktX4_recognizes_2
def dkwX4_recognizes_0 : List UInt8 := [3, 60, 27, 42, 180, 0, 242, 162, 0, 116, 42, 180, 0, 56, 27, 52, 16, 100, 159, 0, 6, 167, 0, 96]
abbrev dktX4_recognizes_0 : List UInt8 := dkwX4_recognizes_0 ++ dktX4_recognizes_1
theorem dksX4_recognizes_0 : cX4_recognizes.data.toList.drop 0 = dktX4_recognizes_0 := by decide +kernel
theorem dksX4_recognizes_1 : cX4_recognizes.data.toList.drop 24 = dktX4_recognizes_1 := dk_seg dksX4_recognizes_0 24 rfl rfl
theorem dksX4_recognizes_2 : cX4_recognizes.data.toList.drop 46 = dktX4_recognizes_2 := dk_seg dksX4_recognizes_1 22 rfl rfl
theorem dksX4_recognizes_3 : cX4_recognizes.data.toList.drop 69 = dktX4_recognizes_3 := dk_seg dksX4_recognizes_2 23 rfl rfl
theorem dksX4_recognizes_4 : cX4_recognizes.data.toList.drop 93 = dktX4_recognizes_4 := dk_seg dksX4_recognizes_3 24 rfl rfl
theorem dksX4_recognizes_5 : cX4_recognizes.data.toList.drop 117 = dktX4_recognizes_5 := dk_seg dksX4_recognizes_4 24 rfl rfl
theorem dX4_recognizes_0 : decode cX4_recognizes 0 = .ok (.iconst 0, 1) := dk_3 (dk_at dksX4_recognizes_0 0 rfl rfl)
theorem dX4_recognizes_1 : decode cX4_recognizes 1 = .ok (.istore_n 1, 1) := dk_60 (dk_at dksX4_recognizes_0 1 rfl rfl)
theorem dX4_recognizes_2 : decode cX4_recognizes 2 = .ok (.iload_n 1, 1) := dk_27 (dk_at dksX4_recognizes_0 2 rfl rfl)
theorem dX4_recognizes_3 : decode cX4_recognizes 3 = .ok (.aload_n 0, 1) := dk_42 (dk_at dksX4_recognizes_0 3 rfl rfl)
theorem dX4_recognizes_4 : decode cX4_recognizes 4 = .ok (.getfield 242, 3) := dk_180 0 242 (dk_at dksX4_recognizes_0 4 rfl rfl)
theorem dX4_recognizes_7 : decode cX4_recognizes 7 = .ok (.if_icmp .ge 116, 3) := dk_162 0 116 (dk_at dksX4_recognizes_0 7 rfl rfl)
theorem dX4_recognizes_10 : decode cX4_recognizes 10 = .ok (.aload_n 0, 1) := dk_42 (dk_at dksX4_recognizes_0 10 rfl rfl)
theorem dX4_recognizes_11 : decode cX4_recognizes 11 = .ok (.getfield 56, 3) := dk_180 0 56 (dk_at dksX4_recognizes_0 11 rfl rfl)
theorem dX4_recognizes_14 : decode cX4_recognizes 14 = .ok (.iload_n 1, 1) := dk_27 (dk_at dksX4_recognizes_0 14 rfl rfl)
theorem dX4_recognizes_15 : decode cX4_recognizes 15 = .ok (.caload, 1) := dk_52 (dk_at dksX4_recognizes_0 15 rfl rfl)
theorem dX4_recognizes_16 : decode cX4_recognizes 16 = .ok (.bipush 100, 2) := dk_16 100 (dk_at dksX4_recognizes_0 16 rfl rfl)
theorem dX4_recognizes_18 : decode cX4_recognizes 18 = .ok (.if_icmp .eq 6, 3) := dk_159 0 6 (dk_at dksX4_recognizes_0 18 rfl rfl)
theorem dX4_recognizes_21 : decode cX4_recognizes 21 = .ok (.goto 96, 3) := dk_167 0 96 (dk_at dksX4_recognizes_0 21 rfl rfl)
theorem dX4_recognizes_24 : decode cX4_recognizes 24 = .ok (.iconst 0, 1) := dk_3 (dk_at dksX4_recognizes_1 0 rfl rfl)
theorem dX4_recognizes_25 : decode cX4_recognizes 25 = .ok (.istore_n 2, 1) := dk_61 (dk_at dksX4_recognizes_1 1 rfl rfl)
theorem dX4_recognizes_26 : decode cX4_recognizes 26 = .ok (.iload_n 2, 1) := dk_28 (dk_at dksX4_recognizes_1 2 rfl rfl)
theorem dX4_recognizes_27 : decode cX4_recognizes 27 = .ok (.aload_n 0, 1) := dk_42 (dk_at dksX4_recognizes_1 3 rfl rfl)
theorem dX4_recognizes_28 : decode cX4_recognizes 28 = .ok (.getfield 242, 3) := dk_180 0 242 (dk_at dksX4_recognizes_1 4 rfl rfl)
theorem dX4_recognizes_31 : decode cX4_recognizes 31 = .ok (.if_icmp .ge 47, 3) := dk_162 0 47 (dk_at dksX4_recognizes_1 7 rfl rfl)
theorem dX4_recognizes_34 : decode cX4_recognizes 34 = .ok (.aload_n 0, 1) := dk_42 (dk_at dksX4_recognizes_1 10 rfl rfl)
theorem dX4_recognizes_35 : decode cX4_recognizes 35 = .ok (.getfield 56, 3) := dk_180 0 56 (dk_at dksX4_recognizes_1 11 rfl rfl)
theorem dX4_recognizes_38 : decode cX4_recognizes 38 = .ok (.iload_n 2, 1) := dk_28 (dk_at dksX4_recognizes_1 14 rfl rfl)
theorem dX4_recognizes_39 : decode cX4_recognizes 39 = .ok (.caload, 1) := dk_52 (dk_at dksX4_recognizes_1 15 rfl rfl)
theorem dX4_recognizes_40 : decode cX4_recognizes 40 = .ok (.bipush 105, 2) := dk_16 105 (dk_at dksX4_recognizes_1 16 rfl rfl)
theorem dX4_recognizes_42 : decode cX4_recognizes 42 = .ok (.if_icmp .ne 30, 3) := dk_160 0 30 (dk_at dksX4_recognizes_1 18 rfl rfl)
theorem dX4_recognizes_45 : decode cX4_recognizes 45 = .ok (.aload_n 0, 1) := dk_42 (dk_at dksX4_recognizes_1 21 rfl rfl)
theorem dX4_recognizes_46 : decode cX4_recognizes 46 = .ok (.getfield 71, 3) := dk_180 0 71 (dk_at dksX4_recognizes_2 0 rfl rfl)
theorem dX4_recognizes_49 : decode cX4_recognizes 49 = .ok (.aload_n 0, 1) := dk_42 (dk_at dksX4_recognizes_2 3 rfl rfl)
theorem dX4_recognizes_50 : decode cX4_recognizes 50 = .ok (.getfield 59, 3) := dk_180 0 59 (dk_at dksX4_recognizes_2 4 rfl rfl)
theorem dX4_recognizes_53 : decode cX4_recognizes 53 = .ok (.iload_n 1, 1) := dk_27 (dk_at dksX4_recognizes_2 7 rfl rfl)
theorem dX4_recognizes_54 : decode cX4_recognizes 54 = .ok (.iaload, 1) := dk_46 (dk_at dksX4_recognizes_2 8 rfl rfl)
theorem dX4_recognizes_55 : decode cX4_recognizes 55 = .ok (.aload_n 0, 1) := dk_42 (dk_at dksX4_recognizes_2 9 rfl rfl)
theorem dX4_recognizes_56 : decode cX4_recognizes 56 = .ok (.getfield 74, 3) := dk_180 0 74 (dk_at dksX4_recognizes_2 10 rfl rfl)
theorem dX4_recognizes_59 : decode cX4_recognizes 59 = .ok (.aload_n 0, 1) := dk_42 (dk_at dksX4_recognizes_2 13 rfl rfl)
theorem dX4_recognizes_60 : decode cX4_recognizes 60 = .ok (.getfield 62, 3) := dk_180 0 62 (dk_at dksX4_recognizes_2 14 rfl rfl)
theorem dX4_recognizes_63 : decode cX4_recognizes 63 = .ok (.iload_n 2, 1) := dk_28 (dk_at dksX4_recognizes_2 17 rfl rfl)
theorem dX4_recognizes_64 : decode cX4_recognizes 64 = .ok (.iaload, 1) := dk_46 (dk_at dksX4_recognizes_2 18 rfl rfl)
theorem dX4_recognizes_65 : decode cX4_recognizes 65 = .ok (.iconst 0, 1) := dk_3 (dk_at dksX4_recognizes_2 19 rfl rfl)
theorem dX4_recognizes_66 : decode cX4_recognizes 66 = .ok (.invokestatic 223, 3) := dk_184 0 223 (dk_at dksX4_recognizes_2 20 rfl rfl)
theorem dX4_recognizes_69 : decode cX4_recognizes 69 = .ok (.ifCond .ne 9, 3) := dk_154 0 9 (dk_at dksX4_recognizes_3 0 rfl rfl)
theorem dX4_recognizes_72 : decode cX4_recognizes 72 = .ok (.iinc 2 1, 3) := dk_132 2 1 (dk_at dksX4_recognizes_3 3 rfl rfl)
theorem dX4_recognizes_75 : decode cX4_recognizes 75 = .ok (.goto (-49), 3) := dk_167 255 207 (dk_at dksX4_recognizes_3 6 rfl rfl)
theorem dX4_recognizes_78 : decode cX4_recognizes 78 = .ok (.iload_n 2, 1) := dk_28 (dk_at dksX4_recognizes_3 9 rfl rfl)
theorem dX4_recognizes_79 : decode cX4_recognizes 79 = .ok (.aload_n 0, 1) := dk_42 (dk_at dksX4_recognizes_3 10 rfl rfl)
theorem dX4_recognizes_80 : decode cX4_recognizes 80 = .ok (.getfield 242, 3) := dk_180 0 242 (dk_at dksX4_recognizes_3 11 rfl rfl)
theorem dX4_recognizes_83 : decode cX4_recognizes 83 = .ok (.if_icmp .ne 6, 3) := dk_160 0 6 (dk_at dksX4_recognizes_3 14 rfl rfl)
theorem dX4_recognizes_86 : decode cX4_recognizes 86 = .ok (.goto 31, 3) := dk_167 0 31 (dk_at dksX4_recognizes_3 17 rfl rfl)
theorem dX4_recognizes_89 : decode cX4_recognizes 89 = .ok (.aload_n 0, 1) := dk_42 (dk_at dksX4_recognizes_3 20 rfl rfl)
theorem dX4_recognizes_90 : decode cX4_recognizes 90 = .ok (.getfield 56, 3) := dk_180 0 56 (dk_at dksX4_recognizes_3 21 rfl rfl)
theorem dX4_recognizes_93 : decode cX4_recognizes 93 = .ok (.iload_n 2, 1) := dk_28 (dk_at dksX4_recognizes_4 0 rfl rfl)
theorem dX4_recognizes_94 : decode cX4_recognizes 94 = .ok (.bipush 109, 2) := dk_16 109 (dk_at dksX4_recognizes_4 1 rfl rfl)
theorem dX4_recognizes_96 : decode cX4_recognizes 96 = .ok (.castore, 1) := dk_85 (dk_at dksX4_recognizes_4 3 rfl rfl)
theorem dX4_recognizes_97 : decode cX4_recognizes 97 = .ok (.aload_n 0, 1) := dk_42 (dk_at dksX4_recognizes_4 4 rfl rfl)
theorem dX4_recognizes_98 : decode cX4_recognizes 98 = .ok (.getfield 59, 3) := dk_180 0 59 (dk_at dksX4_recognizes_4 5 rfl rfl)
theorem dX4_recognizes_101 : decode cX4_recognizes 101 = .ok (.iload_n 2, 1) := dk_28 (dk_at dksX4_recognizes_4 8 rfl rfl)
theorem dX4_recognizes_102 : decode cX4_recognizes 102 = .ok (.aload_n 0, 1) := dk_42 (dk_at dksX4_recognizes_4 9 rfl rfl)
theorem dX4_recognizes_103 : decode cX4_recognizes 103 = .ok (.getfield 59, 3) := dk_180 0 59 (dk_at dksX4_recognizes_4 10 rfl rfl)
theorem dX4_recognizes_106 : decode cX4_recognizes 106 = .ok (.iload_n 1, 1) := dk_27 (dk_at dksX4_recognizes_4 13 rfl rfl)
theorem dX4_recognizes_107 : decode cX4_recognizes 107 = .ok (.iaload, 1) := dk_46 (dk_at dksX4_recognizes_4 14 rfl rfl)
theorem dX4_recognizes_108 : decode cX4_recognizes 108 = .ok (.iastore, 1) := dk_79 (dk_at dksX4_recognizes_4 15 rfl rfl)
theorem dX4_recognizes_109 : decode cX4_recognizes 109 = .ok (.aload_n 0, 1) := dk_42 (dk_at dksX4_recognizes_4 16 rfl rfl)
theorem dX4_recognizes_110 : decode cX4_recognizes 110 = .ok (.getfield 56, 3) := dk_180 0 56 (dk_at dksX4_recognizes_4 17 rfl rfl)
theorem dX4_recognizes_113 : decode cX4_recognizes 113 = .ok (.iload_n 1, 1) := dk_27 (dk_at dksX4_recognizes_4 20 rfl rfl)
theorem dX4_recognizes_114 : decode cX4_recognizes 114 = .ok (.bipush 45, 2) := dk_16 45 (dk_at dksX4_recognizes_4 21 rfl rfl)
theorem dX4_recognizes_116 : decode cX4_recognizes 116 = .ok (.castore, 1) := dk_85 (dk_at dksX4_recognizes_4 23 rfl rfl)
theorem dX4_recognizes_117 : decode cX4_recognizes 117 = .ok (.iinc 1 1, 3) := dk_132 1 1 (dk_at dksX4_recognizes_5 0 rfl rfl)
theorem dX4_recognizes_120 : decode cX4_recognizes 120 = .ok (.goto (-118), 3) := dk_167 255 138 (dk_at dksX4_recognizes_5 3 rfl rfl)
theorem dX4_recognizes_123 : decode cX4_recognizes 123 = .ok (.return_, 1) := dk_177 (dk_at dksX4_recognizes_5 6 rfl rfl)
abbrev cX4_operations : ByteArray := prog_20_method_54_code
def yX4_operations : MethodName := ⟨RX4, "operations", "()I"⟩
def dkwX4_operations_0 : List UInt8 := [42, 182, 1, 8, 153, 0, 7, 3, 167, 0, 7, 42, 180, 0, 196, 172]
abbrev dktX4_operations_0 : List UInt8 := dkwX4_operations_0 ++ []
theorem dksX4_operations_0 : cX4_operations.data.toList.drop 0 = dktX4_operations_0 := by decide +kernel
theorem dX4_operations_0 : decode cX4_operations 0 = .ok (.aload_n 0, 1) := dk_42 (dk_at dksX4_operations_0 0 rfl rfl)
theorem dX4_operations_1 : decode cX4_operations 1 = .ok (.invokevirtual 264, 3) := dk_182 1 8 (dk_at dksX4_operations_0 1 rfl rfl)
theorem dX4_operations_4 : decode cX4_operations 4 = .ok (.ifCond .eq 7, 3) := dk_153 0 7 (dk_at dksX4_operations_0 4 rfl rfl)
theorem dX4_operations_7 : decode cX4_operations 7 = .ok (.iconst 0, 1) := dk_3 (dk_at dksX4_operations_0 7 rfl rfl)
theorem dX4_operations_8 : decode cX4_operations 8 = .ok (.goto 7, 3) := dk_167 0 7 (dk_at dksX4_operations_0 8 rfl rfl)
theorem dX4_operations_11 : decode cX4_operations 11 = .ok (.aload_n 0, 1) := dk_42 (dk_at dksX4_operations_0 11 rfl rfl)
theorem dX4_operations_12 : decode cX4_operations 12 = .ok (.getfield 196, 3) := dk_180 0 196 (dk_at dksX4_operations_0 12 rfl rfl)
theorem dX4_operations_15 : decode cX4_operations 15 = .ok (.ireturn, 1) := dk_172 (dk_at dksX4_operations_0 15 rfl rfl)
abbrev cX4_isNoScript : ByteArray := prog_20_method_53_code
def yX4_isNoScript : MethodName := ⟨RX4, "isNoScript", "()Z"⟩
def dkwX4_isNoScript_1 : List UInt8 := [167, 0, 4, 3, 172]
abbrev dktX4_isNoScript_1 : List UInt8 := dkwX4_isNoScript_1 ++ []
def dkwX4_isNoScript_0 : List UInt8 := [42, 42, 180, 0, 192, 153, 0, 7, 3, 167, 0, 4, 4, 181, 0, 105, 42, 180, 0, 105, 158, 0, 7, 4]
abbrev dktX4_isNoScript_0 : List UInt8 := dkwX4_isNoScript_0 ++ dktX4_isNoScript_1
theorem dksX4_isNoScript_0 : cX4_isNoScript.data.toList.drop 0 = dktX4_isNoScript_0 := by decide +kernel
theorem dksX4_isNoScript_1 : cX4_isNoScript.data.toList.drop 24 = dktX4_isNoScript_1 := dk_seg dksX4_isNoScript_0 24 rfl rfl
theorem dX4_isNoScript_0 : decode cX4_isNoScript 0 = .ok (.aload_n 0, 1) := dk_42 (dk_at dksX4_isNoScript_0 0 rfl rfl)
theorem dX4_isNoScript_1 : decode cX4_isNoScript 1 = .ok (.aload_n 0, 1) := dk_42 (dk_at dksX4_isNoScript_0 1 rfl rfl)
theorem dX4_isNoScript_2 : decode cX4_isNoScript 2 = .ok (.getfield 192, 3) := dk_180 0 192 (dk_at dksX4_isNoScript_0 2 rfl rfl)
theorem dX4_isNoScript_5 : decode cX4_isNoScript 5 = .ok (.ifCond .eq 7, 3) := dk_153 0 7 (dk_at dksX4_isNoScript_0 5 rfl rfl)
theorem dX4_isNoScript_8 : decode cX4_isNoScript 8 = .ok (.iconst 0, 1) := dk_3 (dk_at dksX4_isNoScript_0 8 rfl rfl)
theorem dX4_isNoScript_9 : decode cX4_isNoScript 9 = .ok (.goto 4, 3) := dk_167 0 4 (dk_at dksX4_isNoScript_0 9 rfl rfl)
theorem dX4_isNoScript_12 : decode cX4_isNoScript 12 = .ok (.iconst 1, 1) := dk_4 (dk_at dksX4_isNoScript_0 12 rfl rfl)
theorem dX4_isNoScript_13 : decode cX4_isNoScript 13 = .ok (.putfield 105, 3) := dk_181 0 105 (dk_at dksX4_isNoScript_0 13 rfl rfl)
theorem dX4_isNoScript_16 : decode cX4_isNoScript 16 = .ok (.aload_n 0, 1) := dk_42 (dk_at dksX4_isNoScript_0 16 rfl rfl)
theorem dX4_isNoScript_17 : decode cX4_isNoScript 17 = .ok (.getfield 105, 3) := dk_180 0 105 (dk_at dksX4_isNoScript_0 17 rfl rfl)
theorem dX4_isNoScript_20 : decode cX4_isNoScript 20 = .ok (.ifCond .le 7, 3) := dk_158 0 7 (dk_at dksX4_isNoScript_0 20 rfl rfl)
theorem dX4_isNoScript_23 : decode cX4_isNoScript 23 = .ok (.iconst 1, 1) := dk_4 (dk_at dksX4_isNoScript_0 23 rfl rfl)
theorem dX4_isNoScript_24 : decode cX4_isNoScript 24 = .ok (.goto 4, 3) := dk_167 0 4 (dk_at dksX4_isNoScript_1 0 rfl rfl)
theorem dX4_isNoScript_27 : decode cX4_isNoScript 27 = .ok (.iconst 0, 1) := dk_3 (dk_at dksX4_isNoScript_1 3 rfl rfl)
theorem dX4_isNoScript_28 : decode cX4_isNoScript 28 = .ok (.ireturn, 1) := dk_172 (dk_at dksX4_isNoScript_1 4 rfl rfl)
abbrev cX4_opKind : ByteArray := prog_20_method_55_code
def yX4_opKind : MethodName := ⟨RX4, "opKind", "(I)C"⟩
def dkwX4_opKind_0 : List UInt8 := [42, 27, 182, 1, 12, 153, 0, 7, 3, 167, 0, 9, 42, 180, 0, 77, 27, 52, 172]
abbrev dktX4_opKind_0 : List UInt8 := dkwX4_opKind_0 ++ []
theorem dksX4_opKind_0 : cX4_opKind.data.toList.drop 0 = dktX4_opKind_0 := by decide +kernel
theorem dX4_opKind_0 : decode cX4_opKind 0 = .ok (.aload_n 0, 1) := dk_42 (dk_at dksX4_opKind_0 0 rfl rfl)
theorem dX4_opKind_1 : decode cX4_opKind 1 = .ok (.iload_n 1, 1) := dk_27 (dk_at dksX4_opKind_0 1 rfl rfl)
theorem dX4_opKind_2 : decode cX4_opKind 2 = .ok (.invokevirtual 268, 3) := dk_182 1 12 (dk_at dksX4_opKind_0 2 rfl rfl)
theorem dX4_opKind_5 : decode cX4_opKind 5 = .ok (.ifCond .eq 7, 3) := dk_153 0 7 (dk_at dksX4_opKind_0 5 rfl rfl)
theorem dX4_opKind_8 : decode cX4_opKind 8 = .ok (.iconst 0, 1) := dk_3 (dk_at dksX4_opKind_0 8 rfl rfl)
theorem dX4_opKind_9 : decode cX4_opKind 9 = .ok (.goto 9, 3) := dk_167 0 9 (dk_at dksX4_opKind_0 9 rfl rfl)
theorem dX4_opKind_12 : decode cX4_opKind 12 = .ok (.aload_n 0, 1) := dk_42 (dk_at dksX4_opKind_0 12 rfl rfl)
theorem dX4_opKind_13 : decode cX4_opKind 13 = .ok (.getfield 77, 3) := dk_180 0 77 (dk_at dksX4_opKind_0 13 rfl rfl)
theorem dX4_opKind_16 : decode cX4_opKind 16 = .ok (.iload_n 1, 1) := dk_27 (dk_at dksX4_opKind_0 16 rfl rfl)
theorem dX4_opKind_17 : decode cX4_opKind 17 = .ok (.caload, 1) := dk_52 (dk_at dksX4_opKind_0 17 rfl rfl)
theorem dX4_opKind_18 : decode cX4_opKind 18 = .ok (.ireturn, 1) := dk_172 (dk_at dksX4_opKind_0 18 rfl rfl)
abbrev cX4_isNoOperation : ByteArray := prog_20_method_52_code
def yX4_isNoOperation : MethodName := ⟨RX4, "isNoOperation", "(I)Z"⟩
def dkwX4_isNoOperation_1 : List UInt8 := [153, 0, 7, 3, 167, 0, 4, 5, 181, 0, 105, 42, 180, 0, 105, 158, 0, 7, 4, 167, 0, 4, 3, 172]
abbrev dktX4_isNoOperation_1 : List UInt8 := dkwX4_isNoOperation_1 ++ []
def dkwX4_isNoOperation_0 : List UInt8 := [42, 42, 180, 0, 192, 154, 0, 7, 4, 167, 0, 22, 27, 3, 42, 180, 0, 196, 4, 100, 184, 0, 108]
abbrev dktX4_isNoOperation_0 : List UInt8 := dkwX4_isNoOperation_0 ++ dktX4_isNoOperation_1
theorem dksX4_isNoOperation_0 : cX4_isNoOperation.data.toList.drop 0 = dktX4_isNoOperation_0 := by decide +kernel
theorem dksX4_isNoOperation_1 : cX4_isNoOperation.data.toList.drop 23 = dktX4_isNoOperation_1 := dk_seg dksX4_isNoOperation_0 23 rfl rfl
theorem dX4_isNoOperation_0 : decode cX4_isNoOperation 0 = .ok (.aload_n 0, 1) := dk_42 (dk_at dksX4_isNoOperation_0 0 rfl rfl)
theorem dX4_isNoOperation_1 : decode cX4_isNoOperation 1 = .ok (.aload_n 0, 1) := dk_42 (dk_at dksX4_isNoOperation_0 1 rfl rfl)
theorem dX4_isNoOperation_2 : decode cX4_isNoOperation 2 = .ok (.getfield 192, 3) := dk_180 0 192 (dk_at dksX4_isNoOperation_0 2 rfl rfl)
theorem dX4_isNoOperation_5 : decode cX4_isNoOperation 5 = .ok (.ifCond .ne 7, 3) := dk_154 0 7 (dk_at dksX4_isNoOperation_0 5 rfl rfl)
theorem dX4_isNoOperation_8 : decode cX4_isNoOperation 8 = .ok (.iconst 1, 1) := dk_4 (dk_at dksX4_isNoOperation_0 8 rfl rfl)
theorem dX4_isNoOperation_9 : decode cX4_isNoOperation 9 = .ok (.goto 22, 3) := dk_167 0 22 (dk_at dksX4_isNoOperation_0 9 rfl rfl)
theorem dX4_isNoOperation_12 : decode cX4_isNoOperation 12 = .ok (.iload_n 1, 1) := dk_27 (dk_at dksX4_isNoOperation_0 12 rfl rfl)
theorem dX4_isNoOperation_13 : decode cX4_isNoOperation 13 = .ok (.iconst 0, 1) := dk_3 (dk_at dksX4_isNoOperation_0 13 rfl rfl)
theorem dX4_isNoOperation_14 : decode cX4_isNoOperation 14 = .ok (.aload_n 0, 1) := dk_42 (dk_at dksX4_isNoOperation_0 14 rfl rfl)
theorem dX4_isNoOperation_15 : decode cX4_isNoOperation 15 = .ok (.getfield 196, 3) := dk_180 0 196 (dk_at dksX4_isNoOperation_0 15 rfl rfl)
theorem dX4_isNoOperation_18 : decode cX4_isNoOperation 18 = .ok (.iconst 1, 1) := dk_4 (dk_at dksX4_isNoOperation_0 18 rfl rfl)
theorem dX4_isNoOperation_19 : decode cX4_isNoOperation 19 = .ok (.isub, 1) := dk_100 (dk_at dksX4_isNoOperation_0 19 rfl rfl)
theorem dX4_isNoOperation_20 : decode cX4_isNoOperation 20 = .ok (.invokestatic 108, 3) := dk_184 0 108 (dk_at dksX4_isNoOperation_0 20 rfl rfl)
theorem dX4_isNoOperation_23 : decode cX4_isNoOperation 23 = .ok (.ifCond .eq 7, 3) := dk_153 0 7 (dk_at dksX4_isNoOperation_1 0 rfl rfl)
theorem dX4_isNoOperation_26 : decode cX4_isNoOperation 26 = .ok (.iconst 0, 1) := dk_3 (dk_at dksX4_isNoOperation_1 3 rfl rfl)
theorem dX4_isNoOperation_27 : decode cX4_isNoOperation 27 = .ok (.goto 4, 3) := dk_167 0 4 (dk_at dksX4_isNoOperation_1 4 rfl rfl)
theorem dX4_isNoOperation_30 : decode cX4_isNoOperation 30 = .ok (.iconst 2, 1) := dk_5 (dk_at dksX4_isNoOperation_1 7 rfl rfl)
theorem dX4_isNoOperation_31 : decode cX4_isNoOperation 31 = .ok (.putfield 105, 3) := dk_181 0 105 (dk_at dksX4_isNoOperation_1 8 rfl rfl)
theorem dX4_isNoOperation_34 : decode cX4_isNoOperation 34 = .ok (.aload_n 0, 1) := dk_42 (dk_at dksX4_isNoOperation_1 11 rfl rfl)
theorem dX4_isNoOperation_35 : decode cX4_isNoOperation 35 = .ok (.getfield 105, 3) := dk_180 0 105 (dk_at dksX4_isNoOperation_1 12 rfl rfl)
theorem dX4_isNoOperation_38 : decode cX4_isNoOperation 38 = .ok (.ifCond .le 7, 3) := dk_158 0 7 (dk_at dksX4_isNoOperation_1 15 rfl rfl)
theorem dX4_isNoOperation_41 : decode cX4_isNoOperation 41 = .ok (.iconst 1, 1) := dk_4 (dk_at dksX4_isNoOperation_1 18 rfl rfl)
theorem dX4_isNoOperation_42 : decode cX4_isNoOperation 42 = .ok (.goto 4, 3) := dk_167 0 4 (dk_at dksX4_isNoOperation_1 19 rfl rfl)
theorem dX4_isNoOperation_45 : decode cX4_isNoOperation 45 = .ok (.iconst 0, 1) := dk_3 (dk_at dksX4_isNoOperation_1 22 rfl rfl)
theorem dX4_isNoOperation_46 : decode cX4_isNoOperation 46 = .ok (.ireturn, 1) := dk_172 (dk_at dksX4_isNoOperation_1 23 rfl rfl)
abbrev cX4_opNode : ByteArray := prog_20_method_56_code
def yX4_opNode : MethodName := ⟨RX4, "opNode", "(I)I"⟩
def dkwX4_opNode_1 : List UInt8 := [180, 0, 83, 27, 46, 167, 0, 9, 42, 180, 0, 80, 27, 46, 172]
abbrev dktX4_opNode_1 : List UInt8 := dkwX4_opNode_1 ++ []
def dkwX4_opNode_0 : List UInt8 := [42, 27, 182, 1, 12, 153, 0, 7, 3, 167, 0, 29, 42, 180, 0, 77, 27, 52, 16, 105, 160, 0, 12, 42]
abbrev dktX4_opNode_0 : List UInt8 := dkwX4_opNode_0 ++ dktX4_opNode_1
theorem dksX4_opNode_0 : cX4_opNode.data.toList.drop 0 = dktX4_opNode_0 := by decide +kernel
theorem dksX4_opNode_1 : cX4_opNode.data.toList.drop 24 = dktX4_opNode_1 := dk_seg dksX4_opNode_0 24 rfl rfl
theorem dX4_opNode_0 : decode cX4_opNode 0 = .ok (.aload_n 0, 1) := dk_42 (dk_at dksX4_opNode_0 0 rfl rfl)
theorem dX4_opNode_1 : decode cX4_opNode 1 = .ok (.iload_n 1, 1) := dk_27 (dk_at dksX4_opNode_0 1 rfl rfl)
theorem dX4_opNode_2 : decode cX4_opNode 2 = .ok (.invokevirtual 268, 3) := dk_182 1 12 (dk_at dksX4_opNode_0 2 rfl rfl)
theorem dX4_opNode_5 : decode cX4_opNode 5 = .ok (.ifCond .eq 7, 3) := dk_153 0 7 (dk_at dksX4_opNode_0 5 rfl rfl)
theorem dX4_opNode_8 : decode cX4_opNode 8 = .ok (.iconst 0, 1) := dk_3 (dk_at dksX4_opNode_0 8 rfl rfl)
theorem dX4_opNode_9 : decode cX4_opNode 9 = .ok (.goto 29, 3) := dk_167 0 29 (dk_at dksX4_opNode_0 9 rfl rfl)
theorem dX4_opNode_12 : decode cX4_opNode 12 = .ok (.aload_n 0, 1) := dk_42 (dk_at dksX4_opNode_0 12 rfl rfl)
theorem dX4_opNode_13 : decode cX4_opNode 13 = .ok (.getfield 77, 3) := dk_180 0 77 (dk_at dksX4_opNode_0 13 rfl rfl)
theorem dX4_opNode_16 : decode cX4_opNode 16 = .ok (.iload_n 1, 1) := dk_27 (dk_at dksX4_opNode_0 16 rfl rfl)
theorem dX4_opNode_17 : decode cX4_opNode 17 = .ok (.caload, 1) := dk_52 (dk_at dksX4_opNode_0 17 rfl rfl)
theorem dX4_opNode_18 : decode cX4_opNode 18 = .ok (.bipush 105, 2) := dk_16 105 (dk_at dksX4_opNode_0 18 rfl rfl)
theorem dX4_opNode_20 : decode cX4_opNode 20 = .ok (.if_icmp .ne 12, 3) := dk_160 0 12 (dk_at dksX4_opNode_0 20 rfl rfl)
theorem dX4_opNode_23 : decode cX4_opNode 23 = .ok (.aload_n 0, 1) := dk_42 (dk_at dksX4_opNode_0 23 rfl rfl)
theorem dX4_opNode_24 : decode cX4_opNode 24 = .ok (.getfield 83, 3) := dk_180 0 83 (dk_at dksX4_opNode_1 0 rfl rfl)
theorem dX4_opNode_27 : decode cX4_opNode 27 = .ok (.iload_n 1, 1) := dk_27 (dk_at dksX4_opNode_1 3 rfl rfl)
theorem dX4_opNode_28 : decode cX4_opNode 28 = .ok (.iaload, 1) := dk_46 (dk_at dksX4_opNode_1 4 rfl rfl)
theorem dX4_opNode_29 : decode cX4_opNode 29 = .ok (.goto 9, 3) := dk_167 0 9 (dk_at dksX4_opNode_1 5 rfl rfl)
theorem dX4_opNode_32 : decode cX4_opNode 32 = .ok (.aload_n 0, 1) := dk_42 (dk_at dksX4_opNode_1 8 rfl rfl)
theorem dX4_opNode_33 : decode cX4_opNode 33 = .ok (.getfield 80, 3) := dk_180 0 80 (dk_at dksX4_opNode_1 9 rfl rfl)
theorem dX4_opNode_36 : decode cX4_opNode 36 = .ok (.iload_n 1, 1) := dk_27 (dk_at dksX4_opNode_1 12 rfl rfl)
theorem dX4_opNode_37 : decode cX4_opNode 37 = .ok (.iaload, 1) := dk_46 (dk_at dksX4_opNode_1 13 rfl rfl)
theorem dX4_opNode_38 : decode cX4_opNode 38 = .ok (.ireturn, 1) := dk_172 (dk_at dksX4_opNode_1 14 rfl rfl)
abbrev cX4_opTarget : ByteArray := prog_20_method_57_code
def yX4_opTarget : MethodName := ⟨RX4, "opTarget", "(I)I"⟩
def dkwX4_opTarget_1 : List UInt8 := [182, 0, 126, 167, 0, 9, 42, 180, 0, 83, 27, 46, 172]
abbrev dktX4_opTarget_1 : List UInt8 := dkwX4_opTarget_1 ++ []
def dkwX4_opTarget_0 : List UInt8 := [42, 27, 182, 1, 12, 153, 0, 5, 3, 172, 42, 180, 0, 77, 27, 52, 16, 100, 160, 0, 11, 42, 6]
abbrev dktX4_opTarget_0 : List UInt8 := dkwX4_opTarget_0 ++ dktX4_opTarget_1
theorem dksX4_opTarget_0 : cX4_opTarget.data.toList.drop 0 = dktX4_opTarget_0 := by decide +kernel
theorem dksX4_opTarget_1 : cX4_opTarget.data.toList.drop 23 = dktX4_opTarget_1 := dk_seg dksX4_opTarget_0 23 rfl rfl
theorem dX4_opTarget_0 : decode cX4_opTarget 0 = .ok (.aload_n 0, 1) := dk_42 (dk_at dksX4_opTarget_0 0 rfl rfl)
theorem dX4_opTarget_1 : decode cX4_opTarget 1 = .ok (.iload_n 1, 1) := dk_27 (dk_at dksX4_opTarget_0 1 rfl rfl)
theorem dX4_opTarget_2 : decode cX4_opTarget 2 = .ok (.invokevirtual 268, 3) := dk_182 1 12 (dk_at dksX4_opTarget_0 2 rfl rfl)
theorem dX4_opTarget_5 : decode cX4_opTarget 5 = .ok (.ifCond .eq 5, 3) := dk_153 0 5 (dk_at dksX4_opTarget_0 5 rfl rfl)
theorem dX4_opTarget_8 : decode cX4_opTarget 8 = .ok (.iconst 0, 1) := dk_3 (dk_at dksX4_opTarget_0 8 rfl rfl)
theorem dX4_opTarget_9 : decode cX4_opTarget 9 = .ok (.ireturn, 1) := dk_172 (dk_at dksX4_opTarget_0 9 rfl rfl)
theorem dX4_opTarget_10 : decode cX4_opTarget 10 = .ok (.aload_n 0, 1) := dk_42 (dk_at dksX4_opTarget_0 10 rfl rfl)
theorem dX4_opTarget_11 : decode cX4_opTarget 11 = .ok (.getfield 77, 3) := dk_180 0 77 (dk_at dksX4_opTarget_0 11 rfl rfl)
theorem dX4_opTarget_14 : decode cX4_opTarget 14 = .ok (.iload_n 1, 1) := dk_27 (dk_at dksX4_opTarget_0 14 rfl rfl)
theorem dX4_opTarget_15 : decode cX4_opTarget 15 = .ok (.caload, 1) := dk_52 (dk_at dksX4_opTarget_0 15 rfl rfl)
theorem dX4_opTarget_16 : decode cX4_opTarget 16 = .ok (.bipush 100, 2) := dk_16 100 (dk_at dksX4_opTarget_0 16 rfl rfl)
theorem dX4_opTarget_18 : decode cX4_opTarget 18 = .ok (.if_icmp .ne 11, 3) := dk_160 0 11 (dk_at dksX4_opTarget_0 18 rfl rfl)
theorem dX4_opTarget_21 : decode cX4_opTarget 21 = .ok (.aload_n 0, 1) := dk_42 (dk_at dksX4_opTarget_0 21 rfl rfl)
theorem dX4_opTarget_22 : decode cX4_opTarget 22 = .ok (.iconst 3, 1) := dk_6 (dk_at dksX4_opTarget_0 22 rfl rfl)
theorem dX4_opTarget_23 : decode cX4_opTarget 23 = .ok (.invokevirtual 126, 3) := dk_182 0 126 (dk_at dksX4_opTarget_1 0 rfl rfl)
theorem dX4_opTarget_26 : decode cX4_opTarget 26 = .ok (.goto 9, 3) := dk_167 0 9 (dk_at dksX4_opTarget_1 3 rfl rfl)
theorem dX4_opTarget_29 : decode cX4_opTarget 29 = .ok (.aload_n 0, 1) := dk_42 (dk_at dksX4_opTarget_1 6 rfl rfl)
theorem dX4_opTarget_30 : decode cX4_opTarget 30 = .ok (.getfield 83, 3) := dk_180 0 83 (dk_at dksX4_opTarget_1 7 rfl rfl)
theorem dX4_opTarget_33 : decode cX4_opTarget 33 = .ok (.iload_n 1, 1) := dk_27 (dk_at dksX4_opTarget_1 10 rfl rfl)
theorem dX4_opTarget_34 : decode cX4_opTarget 34 = .ok (.iaload, 1) := dk_46 (dk_at dksX4_opTarget_1 11 rfl rfl)
theorem dX4_opTarget_35 : decode cX4_opTarget 35 = .ok (.ireturn, 1) := dk_172 (dk_at dksX4_opTarget_1 12 rfl rfl)
abbrev cX4_partner : ByteArray := prog_20_method_58_code
def yX4_partner : MethodName := ⟨RX4, "partner", "(I)I"⟩
def dkwX4_partner_2 : List UInt8 := [167, 0, 9, 42, 180, 0, 86, 27, 46, 172]
abbrev dktX4_partner_2 : List UInt8 := dkwX4_partner_2 ++ []
def dkwX4_partner_1 : List UInt8 := [154, 0, 9, 42, 5, 182, 0, 126, 172, 42, 180, 0, 86, 27, 46, 156, 0, 11, 42, 6, 182, 0, 126]
abbrev dktX4_partner_1 : List UInt8 := dkwX4_partner_1 ++ dktX4_partner_2
def dkwX4_partner_0 : List UInt8 := [42, 182, 1, 8, 153, 0, 5, 3, 172, 27, 3, 42, 180, 0, 71, 180, 0, 116, 4, 100, 184, 0, 108]
abbrev dktX4_partner_0 : List UInt8 := dkwX4_partner_0 ++ dktX4_partner_1
theorem dksX4_partner_0 : cX4_partner.data.toList.drop 0 = dktX4_partner_0 := by decide +kernel
theorem dksX4_partner_1 : cX4_partner.data.toList.drop 23 = dktX4_partner_1 := dk_seg dksX4_partner_0 23 rfl rfl
theorem dksX4_partner_2 : cX4_partner.data.toList.drop 46 = dktX4_partner_2 := dk_seg dksX4_partner_1 23 rfl rfl
theorem dX4_partner_0 : decode cX4_partner 0 = .ok (.aload_n 0, 1) := dk_42 (dk_at dksX4_partner_0 0 rfl rfl)
theorem dX4_partner_1 : decode cX4_partner 1 = .ok (.invokevirtual 264, 3) := dk_182 1 8 (dk_at dksX4_partner_0 1 rfl rfl)
theorem dX4_partner_4 : decode cX4_partner 4 = .ok (.ifCond .eq 5, 3) := dk_153 0 5 (dk_at dksX4_partner_0 4 rfl rfl)
theorem dX4_partner_7 : decode cX4_partner 7 = .ok (.iconst 0, 1) := dk_3 (dk_at dksX4_partner_0 7 rfl rfl)
theorem dX4_partner_8 : decode cX4_partner 8 = .ok (.ireturn, 1) := dk_172 (dk_at dksX4_partner_0 8 rfl rfl)
theorem dX4_partner_9 : decode cX4_partner 9 = .ok (.iload_n 1, 1) := dk_27 (dk_at dksX4_partner_0 9 rfl rfl)
theorem dX4_partner_10 : decode cX4_partner 10 = .ok (.iconst 0, 1) := dk_3 (dk_at dksX4_partner_0 10 rfl rfl)
theorem dX4_partner_11 : decode cX4_partner 11 = .ok (.aload_n 0, 1) := dk_42 (dk_at dksX4_partner_0 11 rfl rfl)
theorem dX4_partner_12 : decode cX4_partner 12 = .ok (.getfield 71, 3) := dk_180 0 71 (dk_at dksX4_partner_0 12 rfl rfl)
theorem dX4_partner_15 : decode cX4_partner 15 = .ok (.getfield 116, 3) := dk_180 0 116 (dk_at dksX4_partner_0 15 rfl rfl)
theorem dX4_partner_18 : decode cX4_partner 18 = .ok (.iconst 1, 1) := dk_4 (dk_at dksX4_partner_0 18 rfl rfl)
theorem dX4_partner_19 : decode cX4_partner 19 = .ok (.isub, 1) := dk_100 (dk_at dksX4_partner_0 19 rfl rfl)
theorem dX4_partner_20 : decode cX4_partner 20 = .ok (.invokestatic 108, 3) := dk_184 0 108 (dk_at dksX4_partner_0 20 rfl rfl)
theorem dX4_partner_23 : decode cX4_partner 23 = .ok (.ifCond .ne 9, 3) := dk_154 0 9 (dk_at dksX4_partner_1 0 rfl rfl)
theorem dX4_partner_26 : decode cX4_partner 26 = .ok (.aload_n 0, 1) := dk_42 (dk_at dksX4_partner_1 3 rfl rfl)
theorem dX4_partner_27 : decode cX4_partner 27 = .ok (.iconst 2, 1) := dk_5 (dk_at dksX4_partner_1 4 rfl rfl)
theorem dX4_partner_28 : decode cX4_partner 28 = .ok (.invokevirtual 126, 3) := dk_182 0 126 (dk_at dksX4_partner_1 5 rfl rfl)
theorem dX4_partner_31 : decode cX4_partner 31 = .ok (.ireturn, 1) := dk_172 (dk_at dksX4_partner_1 8 rfl rfl)
theorem dX4_partner_32 : decode cX4_partner 32 = .ok (.aload_n 0, 1) := dk_42 (dk_at dksX4_partner_1 9 rfl rfl)
theorem dX4_partner_33 : decode cX4_partner 33 = .ok (.getfield 86, 3) := dk_180 0 86 (dk_at dksX4_partner_1 10 rfl rfl)
theorem dX4_partner_36 : decode cX4_partner 36 = .ok (.iload_n 1, 1) := dk_27 (dk_at dksX4_partner_1 13 rfl rfl)
theorem dX4_partner_37 : decode cX4_partner 37 = .ok (.iaload, 1) := dk_46 (dk_at dksX4_partner_1 14 rfl rfl)
theorem dX4_partner_38 : decode cX4_partner 38 = .ok (.ifCond .ge 11, 3) := dk_156 0 11 (dk_at dksX4_partner_1 15 rfl rfl)
theorem dX4_partner_41 : decode cX4_partner 41 = .ok (.aload_n 0, 1) := dk_42 (dk_at dksX4_partner_1 18 rfl rfl)
theorem dX4_partner_42 : decode cX4_partner 42 = .ok (.iconst 3, 1) := dk_6 (dk_at dksX4_partner_1 19 rfl rfl)
theorem dX4_partner_43 : decode cX4_partner 43 = .ok (.invokevirtual 126, 3) := dk_182 0 126 (dk_at dksX4_partner_1 20 rfl rfl)
theorem dX4_partner_46 : decode cX4_partner 46 = .ok (.goto 9, 3) := dk_167 0 9 (dk_at dksX4_partner_2 0 rfl rfl)
theorem dX4_partner_49 : decode cX4_partner 49 = .ok (.aload_n 0, 1) := dk_42 (dk_at dksX4_partner_2 3 rfl rfl)
theorem dX4_partner_50 : decode cX4_partner 50 = .ok (.getfield 86, 3) := dk_180 0 86 (dk_at dksX4_partner_2 4 rfl rfl)
theorem dX4_partner_53 : decode cX4_partner 53 = .ok (.iload_n 1, 1) := dk_27 (dk_at dksX4_partner_2 7 rfl rfl)
theorem dX4_partner_54 : decode cX4_partner 54 = .ok (.iaload, 1) := dk_46 (dk_at dksX4_partner_2 8 rfl rfl)
theorem dX4_partner_55 : decode cX4_partner 55 = .ok (.ireturn, 1) := dk_172 (dk_at dksX4_partner_2 9 rfl rfl)
abbrev cX4_moves : ByteArray := prog_20_method_59_code
def yX4_moves : MethodName := ⟨RX4, "moves", "()I"⟩
def dkwX4_moves_2 : List UInt8 := [172]
abbrev dktX4_moves_2 : List UInt8 := dkwX4_moves_2 ++ []
def dkwX4_moves_1 : List UInt8 := [180, 0, 77, 28, 52, 16, 109, 160, 0, 7, 4, 167, 0, 4, 3, 96, 60, 132, 2, 1, 167, 255, 226, 27]
abbrev dktX4_moves_1 : List UInt8 := dkwX4_moves_1 ++ dktX4_moves_2
def dkwX4_moves_0 : List UInt8 := [42, 182, 1, 8, 153, 0, 5, 3, 172, 3, 60, 3, 61, 28, 42, 180, 0, 196, 162, 0, 28, 27, 42]
abbrev dktX4_moves_0 : List UInt8 := dkwX4_moves_0 ++ dktX4_moves_1
theorem dksX4_moves_0 : cX4_moves.data.toList.drop 0 = dktX4_moves_0 := by decide +kernel
theorem dksX4_moves_1 : cX4_moves.data.toList.drop 23 = dktX4_moves_1 := dk_seg dksX4_moves_0 23 rfl rfl
theorem dksX4_moves_2 : cX4_moves.data.toList.drop 47 = dktX4_moves_2 := dk_seg dksX4_moves_1 24 rfl rfl
theorem dX4_moves_0 : decode cX4_moves 0 = .ok (.aload_n 0, 1) := dk_42 (dk_at dksX4_moves_0 0 rfl rfl)
theorem dX4_moves_1 : decode cX4_moves 1 = .ok (.invokevirtual 264, 3) := dk_182 1 8 (dk_at dksX4_moves_0 1 rfl rfl)
theorem dX4_moves_4 : decode cX4_moves 4 = .ok (.ifCond .eq 5, 3) := dk_153 0 5 (dk_at dksX4_moves_0 4 rfl rfl)
theorem dX4_moves_7 : decode cX4_moves 7 = .ok (.iconst 0, 1) := dk_3 (dk_at dksX4_moves_0 7 rfl rfl)
theorem dX4_moves_8 : decode cX4_moves 8 = .ok (.ireturn, 1) := dk_172 (dk_at dksX4_moves_0 8 rfl rfl)
theorem dX4_moves_9 : decode cX4_moves 9 = .ok (.iconst 0, 1) := dk_3 (dk_at dksX4_moves_0 9 rfl rfl)
theorem dX4_moves_10 : decode cX4_moves 10 = .ok (.istore_n 1, 1) := dk_60 (dk_at dksX4_moves_0 10 rfl rfl)
theorem dX4_moves_11 : decode cX4_moves 11 = .ok (.iconst 0, 1) := dk_3 (dk_at dksX4_moves_0 11 rfl rfl)
theorem dX4_moves_12 : decode cX4_moves 12 = .ok (.istore_n 2, 1) := dk_61 (dk_at dksX4_moves_0 12 rfl rfl)
theorem dX4_moves_13 : decode cX4_moves 13 = .ok (.iload_n 2, 1) := dk_28 (dk_at dksX4_moves_0 13 rfl rfl)
theorem dX4_moves_14 : decode cX4_moves 14 = .ok (.aload_n 0, 1) := dk_42 (dk_at dksX4_moves_0 14 rfl rfl)
theorem dX4_moves_15 : decode cX4_moves 15 = .ok (.getfield 196, 3) := dk_180 0 196 (dk_at dksX4_moves_0 15 rfl rfl)
theorem dX4_moves_18 : decode cX4_moves 18 = .ok (.if_icmp .ge 28, 3) := dk_162 0 28 (dk_at dksX4_moves_0 18 rfl rfl)
theorem dX4_moves_21 : decode cX4_moves 21 = .ok (.iload_n 1, 1) := dk_27 (dk_at dksX4_moves_0 21 rfl rfl)
theorem dX4_moves_22 : decode cX4_moves 22 = .ok (.aload_n 0, 1) := dk_42 (dk_at dksX4_moves_0 22 rfl rfl)
theorem dX4_moves_23 : decode cX4_moves 23 = .ok (.getfield 77, 3) := dk_180 0 77 (dk_at dksX4_moves_1 0 rfl rfl)
theorem dX4_moves_26 : decode cX4_moves 26 = .ok (.iload_n 2, 1) := dk_28 (dk_at dksX4_moves_1 3 rfl rfl)
theorem dX4_moves_27 : decode cX4_moves 27 = .ok (.caload, 1) := dk_52 (dk_at dksX4_moves_1 4 rfl rfl)
theorem dX4_moves_28 : decode cX4_moves 28 = .ok (.bipush 109, 2) := dk_16 109 (dk_at dksX4_moves_1 5 rfl rfl)
theorem dX4_moves_30 : decode cX4_moves 30 = .ok (.if_icmp .ne 7, 3) := dk_160 0 7 (dk_at dksX4_moves_1 7 rfl rfl)
theorem dX4_moves_33 : decode cX4_moves 33 = .ok (.iconst 1, 1) := dk_4 (dk_at dksX4_moves_1 10 rfl rfl)
theorem dX4_moves_34 : decode cX4_moves 34 = .ok (.goto 4, 3) := dk_167 0 4 (dk_at dksX4_moves_1 11 rfl rfl)
theorem dX4_moves_37 : decode cX4_moves 37 = .ok (.iconst 0, 1) := dk_3 (dk_at dksX4_moves_1 14 rfl rfl)
theorem dX4_moves_38 : decode cX4_moves 38 = .ok (.iadd, 1) := dk_96 (dk_at dksX4_moves_1 15 rfl rfl)
theorem dX4_moves_39 : decode cX4_moves 39 = .ok (.istore_n 1, 1) := dk_60 (dk_at dksX4_moves_1 16 rfl rfl)
theorem dX4_moves_40 : decode cX4_moves 40 = .ok (.iinc 2 1, 3) := dk_132 2 1 (dk_at dksX4_moves_1 17 rfl rfl)
theorem dX4_moves_43 : decode cX4_moves 43 = .ok (.goto (-30), 3) := dk_167 255 226 (dk_at dksX4_moves_1 20 rfl rfl)
theorem dX4_moves_46 : decode cX4_moves 46 = .ok (.iload_n 1, 1) := dk_27 (dk_at dksX4_moves_1 23 rfl rfl)
theorem dX4_moves_47 : decode cX4_moves 47 = .ok (.ireturn, 1) := dk_172 (dk_at dksX4_moves_2 0 rfl rfl)
abbrev cX4_scriptCost : ByteArray := prog_20_method_61_code
def yX4_scriptCost : MethodName := ⟨RX4, "scriptCost", "()I"⟩
def dkwX4_scriptCost_1 : List UInt8 := [182, 1, 15, 96, 60, 132, 2, 1, 167, 255, 237, 27, 172]
abbrev dktX4_scriptCost_1 : List UInt8 := dkwX4_scriptCost_1 ++ []
def dkwX4_scriptCost_0 : List UInt8 := [42, 182, 1, 8, 153, 0, 5, 3, 172, 3, 60, 3, 61, 28, 42, 180, 0, 196, 162, 0, 17, 27, 42, 28]
abbrev dktX4_scriptCost_0 : List UInt8 := dkwX4_scriptCost_0 ++ dktX4_scriptCost_1
theorem dksX4_scriptCost_0 : cX4_scriptCost.data.toList.drop 0 = dktX4_scriptCost_0 := by decide +kernel
theorem dksX4_scriptCost_1 : cX4_scriptCost.data.toList.drop 24 = dktX4_scriptCost_1 := dk_seg dksX4_scriptCost_0 24 rfl rfl
theorem dX4_scriptCost_0 : decode cX4_scriptCost 0 = .ok (.aload_n 0, 1) := dk_42 (dk_at dksX4_scriptCost_0 0 rfl rfl)
theorem dX4_scriptCost_1 : decode cX4_scriptCost 1 = .ok (.invokevirtual 264, 3) := dk_182 1 8 (dk_at dksX4_scriptCost_0 1 rfl rfl)
theorem dX4_scriptCost_4 : decode cX4_scriptCost 4 = .ok (.ifCond .eq 5, 3) := dk_153 0 5 (dk_at dksX4_scriptCost_0 4 rfl rfl)
theorem dX4_scriptCost_7 : decode cX4_scriptCost 7 = .ok (.iconst 0, 1) := dk_3 (dk_at dksX4_scriptCost_0 7 rfl rfl)
theorem dX4_scriptCost_8 : decode cX4_scriptCost 8 = .ok (.ireturn, 1) := dk_172 (dk_at dksX4_scriptCost_0 8 rfl rfl)
theorem dX4_scriptCost_9 : decode cX4_scriptCost 9 = .ok (.iconst 0, 1) := dk_3 (dk_at dksX4_scriptCost_0 9 rfl rfl)
theorem dX4_scriptCost_10 : decode cX4_scriptCost 10 = .ok (.istore_n 1, 1) := dk_60 (dk_at dksX4_scriptCost_0 10 rfl rfl)
theorem dX4_scriptCost_11 : decode cX4_scriptCost 11 = .ok (.iconst 0, 1) := dk_3 (dk_at dksX4_scriptCost_0 11 rfl rfl)
theorem dX4_scriptCost_12 : decode cX4_scriptCost 12 = .ok (.istore_n 2, 1) := dk_61 (dk_at dksX4_scriptCost_0 12 rfl rfl)
theorem dX4_scriptCost_13 : decode cX4_scriptCost 13 = .ok (.iload_n 2, 1) := dk_28 (dk_at dksX4_scriptCost_0 13 rfl rfl)
theorem dX4_scriptCost_14 : decode cX4_scriptCost 14 = .ok (.aload_n 0, 1) := dk_42 (dk_at dksX4_scriptCost_0 14 rfl rfl)
theorem dX4_scriptCost_15 : decode cX4_scriptCost 15 = .ok (.getfield 196, 3) := dk_180 0 196 (dk_at dksX4_scriptCost_0 15 rfl rfl)
theorem dX4_scriptCost_18 : decode cX4_scriptCost 18 = .ok (.if_icmp .ge 17, 3) := dk_162 0 17 (dk_at dksX4_scriptCost_0 18 rfl rfl)
theorem dX4_scriptCost_21 : decode cX4_scriptCost 21 = .ok (.iload_n 1, 1) := dk_27 (dk_at dksX4_scriptCost_0 21 rfl rfl)
theorem dX4_scriptCost_22 : decode cX4_scriptCost 22 = .ok (.aload_n 0, 1) := dk_42 (dk_at dksX4_scriptCost_0 22 rfl rfl)
theorem dX4_scriptCost_23 : decode cX4_scriptCost 23 = .ok (.iload_n 2, 1) := dk_28 (dk_at dksX4_scriptCost_0 23 rfl rfl)
theorem dX4_scriptCost_24 : decode cX4_scriptCost 24 = .ok (.invokevirtual 271, 3) := dk_182 1 15 (dk_at dksX4_scriptCost_1 0 rfl rfl)
theorem dX4_scriptCost_27 : decode cX4_scriptCost 27 = .ok (.iadd, 1) := dk_96 (dk_at dksX4_scriptCost_1 3 rfl rfl)
theorem dX4_scriptCost_28 : decode cX4_scriptCost 28 = .ok (.istore_n 1, 1) := dk_60 (dk_at dksX4_scriptCost_1 4 rfl rfl)
theorem dX4_scriptCost_29 : decode cX4_scriptCost 29 = .ok (.iinc 2 1, 3) := dk_132 2 1 (dk_at dksX4_scriptCost_1 5 rfl rfl)
theorem dX4_scriptCost_32 : decode cX4_scriptCost 32 = .ok (.goto (-19), 3) := dk_167 255 237 (dk_at dksX4_scriptCost_1 8 rfl rfl)
theorem dX4_scriptCost_35 : decode cX4_scriptCost 35 = .ok (.iload_n 1, 1) := dk_27 (dk_at dksX4_scriptCost_1 11 rfl rfl)
theorem dX4_scriptCost_36 : decode cX4_scriptCost 36 = .ok (.ireturn, 1) := dk_172 (dk_at dksX4_scriptCost_1 12 rfl rfl)
abbrev cX4_cost : ByteArray := prog_20_method_60_code
def yX4_cost : MethodName := ⟨RX4, "cost", "(I)I"⟩
def dkwX4_cost_3 : List UInt8 := [42, 180, 0, 83, 27, 46, 100, 104, 167, 0, 4, 4, 172]
abbrev dktX4_cost_3 : List UInt8 := dkwX4_cost_3 ++ []
def dkwX4_cost_2 : List UInt8 := [180, 0, 77, 27, 52, 16, 105, 160, 0, 28, 5, 42, 180, 0, 74, 42, 180, 0, 83, 27, 46, 182, 0, 1]
abbrev dktX4_cost_2 : List UInt8 := dkwX4_cost_2 ++ dktX4_cost_3
def dkwX4_cost_1 : List UInt8 := [5, 42, 180, 0, 71, 42, 180, 0, 80, 27, 46, 182, 0, 1, 42, 180, 0, 80, 27, 46, 100, 104, 172, 42]
abbrev dktX4_cost_1 : List UInt8 := dkwX4_cost_1 ++ dktX4_cost_2
def dkwX4_cost_0 : List UInt8 := [42, 180, 0, 77, 27, 52, 16, 108, 160, 0, 5, 6, 172, 42, 180, 0, 77, 27, 52, 16, 100, 160, 0, 26]
abbrev dktX4_cost_0 : List UInt8 := dkwX4_cost_0 ++ dktX4_cost_1
theorem dksX4_cost_0 : cX4_cost.data.toList.drop 0 = dktX4_cost_0 := by decide +kernel
theorem dksX4_cost_1 : cX4_cost.data.toList.drop 24 = dktX4_cost_1 := dk_seg dksX4_cost_0 24 rfl rfl
theorem dksX4_cost_2 : cX4_cost.data.toList.drop 48 = dktX4_cost_2 := dk_seg dksX4_cost_1 24 rfl rfl
theorem dksX4_cost_3 : cX4_cost.data.toList.drop 72 = dktX4_cost_3 := dk_seg dksX4_cost_2 24 rfl rfl
theorem dX4_cost_0 : decode cX4_cost 0 = .ok (.aload_n 0, 1) := dk_42 (dk_at dksX4_cost_0 0 rfl rfl)
theorem dX4_cost_1 : decode cX4_cost 1 = .ok (.getfield 77, 3) := dk_180 0 77 (dk_at dksX4_cost_0 1 rfl rfl)
theorem dX4_cost_4 : decode cX4_cost 4 = .ok (.iload_n 1, 1) := dk_27 (dk_at dksX4_cost_0 4 rfl rfl)
theorem dX4_cost_5 : decode cX4_cost 5 = .ok (.caload, 1) := dk_52 (dk_at dksX4_cost_0 5 rfl rfl)
theorem dX4_cost_6 : decode cX4_cost 6 = .ok (.bipush 108, 2) := dk_16 108 (dk_at dksX4_cost_0 6 rfl rfl)
theorem dX4_cost_8 : decode cX4_cost 8 = .ok (.if_icmp .ne 5, 3) := dk_160 0 5 (dk_at dksX4_cost_0 8 rfl rfl)
theorem dX4_cost_11 : decode cX4_cost 11 = .ok (.iconst 3, 1) := dk_6 (dk_at dksX4_cost_0 11 rfl rfl)
theorem dX4_cost_12 : decode cX4_cost 12 = .ok (.ireturn, 1) := dk_172 (dk_at dksX4_cost_0 12 rfl rfl)
theorem dX4_cost_13 : decode cX4_cost 13 = .ok (.aload_n 0, 1) := dk_42 (dk_at dksX4_cost_0 13 rfl rfl)
theorem dX4_cost_14 : decode cX4_cost 14 = .ok (.getfield 77, 3) := dk_180 0 77 (dk_at dksX4_cost_0 14 rfl rfl)
theorem dX4_cost_17 : decode cX4_cost 17 = .ok (.iload_n 1, 1) := dk_27 (dk_at dksX4_cost_0 17 rfl rfl)
theorem dX4_cost_18 : decode cX4_cost 18 = .ok (.caload, 1) := dk_52 (dk_at dksX4_cost_0 18 rfl rfl)
theorem dX4_cost_19 : decode cX4_cost 19 = .ok (.bipush 100, 2) := dk_16 100 (dk_at dksX4_cost_0 19 rfl rfl)
theorem dX4_cost_21 : decode cX4_cost 21 = .ok (.if_icmp .ne 26, 3) := dk_160 0 26 (dk_at dksX4_cost_0 21 rfl rfl)
theorem dX4_cost_24 : decode cX4_cost 24 = .ok (.iconst 2, 1) := dk_5 (dk_at dksX4_cost_1 0 rfl rfl)
theorem dX4_cost_25 : decode cX4_cost 25 = .ok (.aload_n 0, 1) := dk_42 (dk_at dksX4_cost_1 1 rfl rfl)
theorem dX4_cost_26 : decode cX4_cost 26 = .ok (.getfield 71, 3) := dk_180 0 71 (dk_at dksX4_cost_1 2 rfl rfl)
theorem dX4_cost_29 : decode cX4_cost 29 = .ok (.aload_n 0, 1) := dk_42 (dk_at dksX4_cost_1 5 rfl rfl)
theorem dX4_cost_30 : decode cX4_cost 30 = .ok (.getfield 80, 3) := dk_180 0 80 (dk_at dksX4_cost_1 6 rfl rfl)
theorem dX4_cost_33 : decode cX4_cost 33 = .ok (.iload_n 1, 1) := dk_27 (dk_at dksX4_cost_1 9 rfl rfl)
theorem dX4_cost_34 : decode cX4_cost 34 = .ok (.iaload, 1) := dk_46 (dk_at dksX4_cost_1 10 rfl rfl)
theorem dX4_cost_35 : decode cX4_cost 35 = .ok (.invokevirtual 1, 3) := dk_182 0 1 (dk_at dksX4_cost_1 11 rfl rfl)
theorem dX4_cost_38 : decode cX4_cost 38 = .ok (.aload_n 0, 1) := dk_42 (dk_at dksX4_cost_1 14 rfl rfl)
theorem dX4_cost_39 : decode cX4_cost 39 = .ok (.getfield 80, 3) := dk_180 0 80 (dk_at dksX4_cost_1 15 rfl rfl)
theorem dX4_cost_42 : decode cX4_cost 42 = .ok (.iload_n 1, 1) := dk_27 (dk_at dksX4_cost_1 18 rfl rfl)
theorem dX4_cost_43 : decode cX4_cost 43 = .ok (.iaload, 1) := dk_46 (dk_at dksX4_cost_1 19 rfl rfl)
theorem dX4_cost_44 : decode cX4_cost 44 = .ok (.isub, 1) := dk_100 (dk_at dksX4_cost_1 20 rfl rfl)
theorem dX4_cost_45 : decode cX4_cost 45 = .ok (.imul, 1) := dk_104 (dk_at dksX4_cost_1 21 rfl rfl)
theorem dX4_cost_46 : decode cX4_cost 46 = .ok (.ireturn, 1) := dk_172 (dk_at dksX4_cost_1 22 rfl rfl)
theorem dX4_cost_47 : decode cX4_cost 47 = .ok (.aload_n 0, 1) := dk_42 (dk_at dksX4_cost_1 23 rfl rfl)
theorem dX4_cost_48 : decode cX4_cost 48 = .ok (.getfield 77, 3) := dk_180 0 77 (dk_at dksX4_cost_2 0 rfl rfl)
theorem dX4_cost_51 : decode cX4_cost 51 = .ok (.iload_n 1, 1) := dk_27 (dk_at dksX4_cost_2 3 rfl rfl)
theorem dX4_cost_52 : decode cX4_cost 52 = .ok (.caload, 1) := dk_52 (dk_at dksX4_cost_2 4 rfl rfl)
theorem dX4_cost_53 : decode cX4_cost 53 = .ok (.bipush 105, 2) := dk_16 105 (dk_at dksX4_cost_2 5 rfl rfl)
theorem dX4_cost_55 : decode cX4_cost 55 = .ok (.if_icmp .ne 28, 3) := dk_160 0 28 (dk_at dksX4_cost_2 7 rfl rfl)
theorem dX4_cost_58 : decode cX4_cost 58 = .ok (.iconst 2, 1) := dk_5 (dk_at dksX4_cost_2 10 rfl rfl)
theorem dX4_cost_59 : decode cX4_cost 59 = .ok (.aload_n 0, 1) := dk_42 (dk_at dksX4_cost_2 11 rfl rfl)
theorem dX4_cost_60 : decode cX4_cost 60 = .ok (.getfield 74, 3) := dk_180 0 74 (dk_at dksX4_cost_2 12 rfl rfl)
theorem dX4_cost_63 : decode cX4_cost 63 = .ok (.aload_n 0, 1) := dk_42 (dk_at dksX4_cost_2 15 rfl rfl)
theorem dX4_cost_64 : decode cX4_cost 64 = .ok (.getfield 83, 3) := dk_180 0 83 (dk_at dksX4_cost_2 16 rfl rfl)
theorem dX4_cost_67 : decode cX4_cost 67 = .ok (.iload_n 1, 1) := dk_27 (dk_at dksX4_cost_2 19 rfl rfl)
theorem dX4_cost_68 : decode cX4_cost 68 = .ok (.iaload, 1) := dk_46 (dk_at dksX4_cost_2 20 rfl rfl)
theorem dX4_cost_69 : decode cX4_cost 69 = .ok (.invokevirtual 1, 3) := dk_182 0 1 (dk_at dksX4_cost_2 21 rfl rfl)
theorem dX4_cost_72 : decode cX4_cost 72 = .ok (.aload_n 0, 1) := dk_42 (dk_at dksX4_cost_3 0 rfl rfl)
theorem dX4_cost_73 : decode cX4_cost 73 = .ok (.getfield 83, 3) := dk_180 0 83 (dk_at dksX4_cost_3 1 rfl rfl)
theorem dX4_cost_76 : decode cX4_cost 76 = .ok (.iload_n 1, 1) := dk_27 (dk_at dksX4_cost_3 4 rfl rfl)
theorem dX4_cost_77 : decode cX4_cost 77 = .ok (.iaload, 1) := dk_46 (dk_at dksX4_cost_3 5 rfl rfl)
theorem dX4_cost_78 : decode cX4_cost 78 = .ok (.isub, 1) := dk_100 (dk_at dksX4_cost_3 6 rfl rfl)
theorem dX4_cost_79 : decode cX4_cost 79 = .ok (.imul, 1) := dk_104 (dk_at dksX4_cost_3 7 rfl rfl)
theorem dX4_cost_80 : decode cX4_cost 80 = .ok (.goto 4, 3) := dk_167 0 4 (dk_at dksX4_cost_3 8 rfl rfl)
theorem dX4_cost_83 : decode cX4_cost 83 = .ok (.iconst 1, 1) := dk_4 (dk_at dksX4_cost_3 11 rfl rfl)
theorem dX4_cost_84 : decode cX4_cost 84 = .ok (.ireturn, 1) := dk_172 (dk_at dksX4_cost_3 12 rfl rfl)
abbrev cX4_givesTarget : ByteArray := prog_20_method_71_code
def yX4_givesTarget : MethodName := ⟨RX4, "givesTarget", "()Z"⟩
def dkwX4_givesTarget_1 : List UInt8 := [3, 42, 180, 0, 74, 3, 3, 184, 0, 223, 153, 0, 7, 4, 167, 0, 4, 3, 172]
abbrev dktX4_givesTarget_1 : List UInt8 := dkwX4_givesTarget_1 ++ []
def dkwX4_givesTarget_0 : List UInt8 := [42, 182, 1, 8, 153, 0, 5, 3, 172, 42, 42, 180, 0, 71, 182, 1, 87, 156, 0, 24, 42, 180, 0, 47]
abbrev dktX4_givesTarget_0 : List UInt8 := dkwX4_givesTarget_0 ++ dktX4_givesTarget_1
theorem dksX4_givesTarget_0 : cX4_givesTarget.data.toList.drop 0 = dktX4_givesTarget_0 := by decide +kernel
theorem dksX4_givesTarget_1 : cX4_givesTarget.data.toList.drop 24 = dktX4_givesTarget_1 := dk_seg dksX4_givesTarget_0 24 rfl rfl
theorem dX4_givesTarget_0 : decode cX4_givesTarget 0 = .ok (.aload_n 0, 1) := dk_42 (dk_at dksX4_givesTarget_0 0 rfl rfl)
theorem dX4_givesTarget_1 : decode cX4_givesTarget 1 = .ok (.invokevirtual 264, 3) := dk_182 1 8 (dk_at dksX4_givesTarget_0 1 rfl rfl)
theorem dX4_givesTarget_4 : decode cX4_givesTarget 4 = .ok (.ifCond .eq 5, 3) := dk_153 0 5 (dk_at dksX4_givesTarget_0 4 rfl rfl)
theorem dX4_givesTarget_7 : decode cX4_givesTarget 7 = .ok (.iconst 0, 1) := dk_3 (dk_at dksX4_givesTarget_0 7 rfl rfl)
theorem dX4_givesTarget_8 : decode cX4_givesTarget 8 = .ok (.ireturn, 1) := dk_172 (dk_at dksX4_givesTarget_0 8 rfl rfl)
theorem dX4_givesTarget_9 : decode cX4_givesTarget 9 = .ok (.aload_n 0, 1) := dk_42 (dk_at dksX4_givesTarget_0 9 rfl rfl)
theorem dX4_givesTarget_10 : decode cX4_givesTarget 10 = .ok (.aload_n 0, 1) := dk_42 (dk_at dksX4_givesTarget_0 10 rfl rfl)
theorem dX4_givesTarget_11 : decode cX4_givesTarget 11 = .ok (.getfield 71, 3) := dk_180 0 71 (dk_at dksX4_givesTarget_0 11 rfl rfl)
theorem dX4_givesTarget_14 : decode cX4_givesTarget 14 = .ok (.invokevirtual 343, 3) := dk_182 1 87 (dk_at dksX4_givesTarget_0 14 rfl rfl)
theorem dX4_givesTarget_17 : decode cX4_givesTarget 17 = .ok (.ifCond .ge 24, 3) := dk_156 0 24 (dk_at dksX4_givesTarget_0 17 rfl rfl)
theorem dX4_givesTarget_20 : decode cX4_givesTarget 20 = .ok (.aload_n 0, 1) := dk_42 (dk_at dksX4_givesTarget_0 20 rfl rfl)
theorem dX4_givesTarget_21 : decode cX4_givesTarget 21 = .ok (.getfield 47, 3) := dk_180 0 47 (dk_at dksX4_givesTarget_0 21 rfl rfl)
theorem dX4_givesTarget_24 : decode cX4_givesTarget 24 = .ok (.iconst 0, 1) := dk_3 (dk_at dksX4_givesTarget_1 0 rfl rfl)
theorem dX4_givesTarget_25 : decode cX4_givesTarget 25 = .ok (.aload_n 0, 1) := dk_42 (dk_at dksX4_givesTarget_1 1 rfl rfl)
theorem dX4_givesTarget_26 : decode cX4_givesTarget 26 = .ok (.getfield 74, 3) := dk_180 0 74 (dk_at dksX4_givesTarget_1 2 rfl rfl)
theorem dX4_givesTarget_29 : decode cX4_givesTarget 29 = .ok (.iconst 0, 1) := dk_3 (dk_at dksX4_givesTarget_1 5 rfl rfl)
theorem dX4_givesTarget_30 : decode cX4_givesTarget 30 = .ok (.iconst 0, 1) := dk_3 (dk_at dksX4_givesTarget_1 6 rfl rfl)
theorem dX4_givesTarget_31 : decode cX4_givesTarget 31 = .ok (.invokestatic 223, 3) := dk_184 0 223 (dk_at dksX4_givesTarget_1 7 rfl rfl)
theorem dX4_givesTarget_34 : decode cX4_givesTarget 34 = .ok (.ifCond .eq 7, 3) := dk_153 0 7 (dk_at dksX4_givesTarget_1 10 rfl rfl)
theorem dX4_givesTarget_37 : decode cX4_givesTarget 37 = .ok (.iconst 1, 1) := dk_4 (dk_at dksX4_givesTarget_1 13 rfl rfl)
theorem dX4_givesTarget_38 : decode cX4_givesTarget 38 = .ok (.goto 4, 3) := dk_167 0 4 (dk_at dksX4_givesTarget_1 14 rfl rfl)
theorem dX4_givesTarget_41 : decode cX4_givesTarget 41 = .ok (.iconst 0, 1) := dk_3 (dk_at dksX4_givesTarget_1 17 rfl rfl)
theorem dX4_givesTarget_42 : decode cX4_givesTarget 42 = .ok (.ireturn, 1) := dk_172 (dk_at dksX4_givesTarget_1 18 rfl rfl)
abbrev cX4_patches : ByteArray := prog_20_method_70_code
def yX4_patches : MethodName := ⟨RX4, "patches", "(LTreeDifferModel$Tree;)I"⟩
def dkwX4_patches_5 : List UInt8 := [182, 1, 35, 2, 172]
abbrev dktX4_patches_5 : List UInt8 := dkwX4_patches_5 ++ []
def dkwX4_patches_4 : List UInt8 := [132, 2, 1, 167, 255, 210, 42, 180, 0, 47, 3, 181, 0, 116, 42, 42, 180, 1, 38, 3, 50, 2]
abbrev dktX4_patches_4 : List UInt8 := dkwX4_patches_4 ++ dktX4_patches_5
def dkwX4_patches_3 : List UInt8 := [182, 1, 79, 181, 1, 83, 42, 180, 1, 83, 16, 45, 159, 0, 5, 29, 172, 132, 3, 1, 167, 255, 223]
abbrev dktX4_patches_3 : List UInt8 := dkwX4_patches_3 ++ dktX4_patches_4
def dkwX4_patches_2 : List UInt8 := [3, 61, 28, 6, 162, 0, 47, 3, 62, 29, 42, 180, 0, 196, 162, 0, 31, 42, 42, 28, 29, 43]
abbrev dktX4_patches_2 : List UInt8 := dkwX4_patches_2 ++ dktX4_patches_3
def dkwX4_patches_1 : List UInt8 := [181, 1, 48, 3, 61, 28, 16, 20, 162, 0, 16, 42, 180, 0, 94, 28, 1, 83, 132, 2, 1, 167, 255, 240]
abbrev dktX4_patches_1 : List UInt8 := dkwX4_patches_1 ++ dktX4_patches_2
def dkwX4_patches_0 : List UInt8 := [42, 42, 180, 0, 71, 43, 182, 1, 1, 42, 43, 3, 184, 1, 65, 181, 1, 38, 42, 43, 180, 0, 116]
abbrev dktX4_patches_0 : List UInt8 := dkwX4_patches_0 ++ dktX4_patches_1
theorem dksX4_patches_0 : cX4_patches.data.toList.drop 0 = dktX4_patches_0 := by decide +kernel
theorem dksX4_patches_1 : cX4_patches.data.toList.drop 23 = dktX4_patches_1 := dk_seg dksX4_patches_0 23 rfl rfl
theorem dksX4_patches_2 : cX4_patches.data.toList.drop 47 = dktX4_patches_2 := dk_seg dksX4_patches_1 24 rfl rfl
theorem dksX4_patches_3 : cX4_patches.data.toList.drop 69 = dktX4_patches_3 := dk_seg dksX4_patches_2 22 rfl rfl
theorem dksX4_patches_4 : cX4_patches.data.toList.drop 92 = dktX4_patches_4 := dk_seg dksX4_patches_3 23 rfl rfl
theorem dksX4_patches_5 : cX4_patches.data.toList.drop 114 = dktX4_patches_5 := dk_seg dksX4_patches_4 22 rfl rfl
theorem dX4_patches_0 : decode cX4_patches 0 = .ok (.aload_n 0, 1) := dk_42 (dk_at dksX4_patches_0 0 rfl rfl)
theorem dX4_patches_1 : decode cX4_patches 1 = .ok (.aload_n 0, 1) := dk_42 (dk_at dksX4_patches_0 1 rfl rfl)
theorem dX4_patches_2 : decode cX4_patches 2 = .ok (.getfield 71, 3) := dk_180 0 71 (dk_at dksX4_patches_0 2 rfl rfl)
theorem dX4_patches_5 : decode cX4_patches 5 = .ok (.aload_n 1, 1) := dk_43 (dk_at dksX4_patches_0 5 rfl rfl)
theorem dX4_patches_6 : decode cX4_patches 6 = .ok (.invokevirtual 257, 3) := dk_182 1 1 (dk_at dksX4_patches_0 6 rfl rfl)
theorem dX4_patches_9 : decode cX4_patches 9 = .ok (.aload_n 0, 1) := dk_42 (dk_at dksX4_patches_0 9 rfl rfl)
theorem dX4_patches_10 : decode cX4_patches 10 = .ok (.aload_n 1, 1) := dk_43 (dk_at dksX4_patches_0 10 rfl rfl)
theorem dX4_patches_11 : decode cX4_patches 11 = .ok (.iconst 0, 1) := dk_3 (dk_at dksX4_patches_0 11 rfl rfl)
theorem dX4_patches_12 : decode cX4_patches 12 = .ok (.invokestatic 321, 3) := dk_184 1 65 (dk_at dksX4_patches_0 12 rfl rfl)
theorem dX4_patches_15 : decode cX4_patches 15 = .ok (.putfield 294, 3) := dk_181 1 38 (dk_at dksX4_patches_0 15 rfl rfl)
theorem dX4_patches_18 : decode cX4_patches 18 = .ok (.aload_n 0, 1) := dk_42 (dk_at dksX4_patches_0 18 rfl rfl)
theorem dX4_patches_19 : decode cX4_patches 19 = .ok (.aload_n 1, 1) := dk_43 (dk_at dksX4_patches_0 19 rfl rfl)
theorem dX4_patches_20 : decode cX4_patches 20 = .ok (.getfield 116, 3) := dk_180 0 116 (dk_at dksX4_patches_0 20 rfl rfl)
theorem dX4_patches_23 : decode cX4_patches 23 = .ok (.putfield 304, 3) := dk_181 1 48 (dk_at dksX4_patches_1 0 rfl rfl)
theorem dX4_patches_26 : decode cX4_patches 26 = .ok (.iconst 0, 1) := dk_3 (dk_at dksX4_patches_1 3 rfl rfl)
theorem dX4_patches_27 : decode cX4_patches 27 = .ok (.istore_n 2, 1) := dk_61 (dk_at dksX4_patches_1 4 rfl rfl)
theorem dX4_patches_28 : decode cX4_patches 28 = .ok (.iload_n 2, 1) := dk_28 (dk_at dksX4_patches_1 5 rfl rfl)
theorem dX4_patches_29 : decode cX4_patches 29 = .ok (.bipush 20, 2) := dk_16 20 (dk_at dksX4_patches_1 6 rfl rfl)
theorem dX4_patches_31 : decode cX4_patches 31 = .ok (.if_icmp .ge 16, 3) := dk_162 0 16 (dk_at dksX4_patches_1 8 rfl rfl)
theorem dX4_patches_34 : decode cX4_patches 34 = .ok (.aload_n 0, 1) := dk_42 (dk_at dksX4_patches_1 11 rfl rfl)
theorem dX4_patches_35 : decode cX4_patches 35 = .ok (.getfield 94, 3) := dk_180 0 94 (dk_at dksX4_patches_1 12 rfl rfl)
theorem dX4_patches_38 : decode cX4_patches 38 = .ok (.iload_n 2, 1) := dk_28 (dk_at dksX4_patches_1 15 rfl rfl)
theorem dX4_patches_39 : decode cX4_patches 39 = .ok (.aconst_null, 1) := dk_1 (dk_at dksX4_patches_1 16 rfl rfl)
theorem dX4_patches_40 : decode cX4_patches 40 = .ok (.aastore, 1) := dk_83 (dk_at dksX4_patches_1 17 rfl rfl)
theorem dX4_patches_41 : decode cX4_patches 41 = .ok (.iinc 2 1, 3) := dk_132 2 1 (dk_at dksX4_patches_1 18 rfl rfl)
theorem dX4_patches_44 : decode cX4_patches 44 = .ok (.goto (-16), 3) := dk_167 255 240 (dk_at dksX4_patches_1 21 rfl rfl)
theorem dX4_patches_47 : decode cX4_patches 47 = .ok (.iconst 0, 1) := dk_3 (dk_at dksX4_patches_2 0 rfl rfl)
theorem dX4_patches_48 : decode cX4_patches 48 = .ok (.istore_n 2, 1) := dk_61 (dk_at dksX4_patches_2 1 rfl rfl)
theorem dX4_patches_49 : decode cX4_patches 49 = .ok (.iload_n 2, 1) := dk_28 (dk_at dksX4_patches_2 2 rfl rfl)
theorem dX4_patches_50 : decode cX4_patches 50 = .ok (.iconst 3, 1) := dk_6 (dk_at dksX4_patches_2 3 rfl rfl)
theorem dX4_patches_51 : decode cX4_patches 51 = .ok (.if_icmp .ge 47, 3) := dk_162 0 47 (dk_at dksX4_patches_2 4 rfl rfl)
theorem dX4_patches_54 : decode cX4_patches 54 = .ok (.iconst 0, 1) := dk_3 (dk_at dksX4_patches_2 7 rfl rfl)
theorem dX4_patches_55 : decode cX4_patches 55 = .ok (.istore_n 3, 1) := dk_62 (dk_at dksX4_patches_2 8 rfl rfl)
theorem dX4_patches_56 : decode cX4_patches 56 = .ok (.iload_n 3, 1) := dk_29 (dk_at dksX4_patches_2 9 rfl rfl)
theorem dX4_patches_57 : decode cX4_patches 57 = .ok (.aload_n 0, 1) := dk_42 (dk_at dksX4_patches_2 10 rfl rfl)
theorem dX4_patches_58 : decode cX4_patches 58 = .ok (.getfield 196, 3) := dk_180 0 196 (dk_at dksX4_patches_2 11 rfl rfl)
theorem dX4_patches_61 : decode cX4_patches 61 = .ok (.if_icmp .ge 31, 3) := dk_162 0 31 (dk_at dksX4_patches_2 14 rfl rfl)
theorem dX4_patches_64 : decode cX4_patches 64 = .ok (.aload_n 0, 1) := dk_42 (dk_at dksX4_patches_2 17 rfl rfl)
theorem dX4_patches_65 : decode cX4_patches 65 = .ok (.aload_n 0, 1) := dk_42 (dk_at dksX4_patches_2 18 rfl rfl)
theorem dX4_patches_66 : decode cX4_patches 66 = .ok (.iload_n 2, 1) := dk_28 (dk_at dksX4_patches_2 19 rfl rfl)
theorem dX4_patches_67 : decode cX4_patches 67 = .ok (.iload_n 3, 1) := dk_29 (dk_at dksX4_patches_2 20 rfl rfl)
theorem dX4_patches_68 : decode cX4_patches 68 = .ok (.aload_n 1, 1) := dk_43 (dk_at dksX4_patches_2 21 rfl rfl)
theorem dX4_patches_69 : decode cX4_patches 69 = .ok (.invokevirtual 335, 3) := dk_182 1 79 (dk_at dksX4_patches_3 0 rfl rfl)
theorem dX4_patches_72 : decode cX4_patches 72 = .ok (.putfield 339, 3) := dk_181 1 83 (dk_at dksX4_patches_3 3 rfl rfl)
theorem dX4_patches_75 : decode cX4_patches 75 = .ok (.aload_n 0, 1) := dk_42 (dk_at dksX4_patches_3 6 rfl rfl)
theorem dX4_patches_76 : decode cX4_patches 76 = .ok (.getfield 339, 3) := dk_180 1 83 (dk_at dksX4_patches_3 7 rfl rfl)
theorem dX4_patches_79 : decode cX4_patches 79 = .ok (.bipush 45, 2) := dk_16 45 (dk_at dksX4_patches_3 10 rfl rfl)
theorem dX4_patches_81 : decode cX4_patches 81 = .ok (.if_icmp .eq 5, 3) := dk_159 0 5 (dk_at dksX4_patches_3 12 rfl rfl)
theorem dX4_patches_84 : decode cX4_patches 84 = .ok (.iload_n 3, 1) := dk_29 (dk_at dksX4_patches_3 15 rfl rfl)
theorem dX4_patches_85 : decode cX4_patches 85 = .ok (.ireturn, 1) := dk_172 (dk_at dksX4_patches_3 16 rfl rfl)
theorem dX4_patches_86 : decode cX4_patches 86 = .ok (.iinc 3 1, 3) := dk_132 3 1 (dk_at dksX4_patches_3 17 rfl rfl)
theorem dX4_patches_89 : decode cX4_patches 89 = .ok (.goto (-33), 3) := dk_167 255 223 (dk_at dksX4_patches_3 20 rfl rfl)
theorem dX4_patches_92 : decode cX4_patches 92 = .ok (.iinc 2 1, 3) := dk_132 2 1 (dk_at dksX4_patches_4 0 rfl rfl)
theorem dX4_patches_95 : decode cX4_patches 95 = .ok (.goto (-46), 3) := dk_167 255 210 (dk_at dksX4_patches_4 3 rfl rfl)
theorem dX4_patches_98 : decode cX4_patches 98 = .ok (.aload_n 0, 1) := dk_42 (dk_at dksX4_patches_4 6 rfl rfl)
theorem dX4_patches_99 : decode cX4_patches 99 = .ok (.getfield 47, 3) := dk_180 0 47 (dk_at dksX4_patches_4 7 rfl rfl)
theorem dX4_patches_102 : decode cX4_patches 102 = .ok (.iconst 0, 1) := dk_3 (dk_at dksX4_patches_4 10 rfl rfl)
theorem dX4_patches_103 : decode cX4_patches 103 = .ok (.putfield 116, 3) := dk_181 0 116 (dk_at dksX4_patches_4 11 rfl rfl)
theorem dX4_patches_106 : decode cX4_patches 106 = .ok (.aload_n 0, 1) := dk_42 (dk_at dksX4_patches_4 14 rfl rfl)
theorem dX4_patches_107 : decode cX4_patches 107 = .ok (.aload_n 0, 1) := dk_42 (dk_at dksX4_patches_4 15 rfl rfl)
theorem dX4_patches_108 : decode cX4_patches 108 = .ok (.getfield 294, 3) := dk_180 1 38 (dk_at dksX4_patches_4 16 rfl rfl)
theorem dX4_patches_111 : decode cX4_patches 111 = .ok (.iconst 0, 1) := dk_3 (dk_at dksX4_patches_4 19 rfl rfl)
theorem dX4_patches_112 : decode cX4_patches 112 = .ok (.aaload, 1) := dk_50 (dk_at dksX4_patches_4 20 rfl rfl)
theorem dX4_patches_113 : decode cX4_patches 113 = .ok (.iconst (-1), 1) := dk_2 (dk_at dksX4_patches_4 21 rfl rfl)
theorem dX4_patches_114 : decode cX4_patches 114 = .ok (.invokevirtual 291, 3) := dk_182 1 35 (dk_at dksX4_patches_5 0 rfl rfl)
theorem dX4_patches_117 : decode cX4_patches 117 = .ok (.iconst (-1), 1) := dk_2 (dk_at dksX4_patches_5 3 rfl rfl)
theorem dX4_patches_118 : decode cX4_patches 118 = .ok (.ireturn, 1) := dk_172 (dk_at dksX4_patches_5 4 rfl rfl)
abbrev cX4_links : ByteArray := prog_20_method_62_code
def yX4_links : MethodName := ⟨RX4, "links", "(LTreeDifferModel$Tree;I)[LTreeDifferModel$Item;"⟩
def dkwX4_links_4 : List UInt8 := [29, 50, 25, 4, 180, 1, 28, 182, 1, 29, 132, 3, 1, 167, 255, 161, 44, 176]
abbrev dktX4_links_4 : List UInt8 := dkwX4_links_4 ++ []
def dkwX4_links_3 : List UInt8 := [29, 154, 0, 6, 167, 0, 30, 44, 42, 180, 0, 7, 27, 29, 96, 46, 27, 100, 50, 58, 4, 25, 4, 44]
abbrev dktX4_links_3 : List UInt8 := dkwX4_links_3 ++ dktX4_links_4
def dkwX4_links_2 : List UInt8 := [180, 0, 14, 27, 29, 96, 46, 181, 1, 22, 44, 29, 50, 42, 180, 0, 17, 27, 29, 96, 46, 181, 1, 25]
abbrev dktX4_links_2 : List UInt8 := dkwX4_links_2 ++ dktX4_links_3
def dkwX4_links_1 : List UInt8 := [89, 183, 1, 18, 83, 44, 29, 50, 42, 180, 0, 11, 27, 29, 96, 46, 181, 1, 19, 44, 29, 50, 42]
abbrev dktX4_links_1 : List UInt8 := dkwX4_links_1 ++ dktX4_links_2
def dkwX4_links_0 : List UInt8 := [42, 27, 182, 0, 1, 27, 100, 189, 0, 92, 77, 3, 62, 29, 44, 190, 162, 0, 95, 44, 29, 187, 0, 92]
abbrev dktX4_links_0 : List UInt8 := dkwX4_links_0 ++ dktX4_links_1
theorem dksX4_links_0 : cX4_links.data.toList.drop 0 = dktX4_links_0 := by decide +kernel
theorem dksX4_links_1 : cX4_links.data.toList.drop 24 = dktX4_links_1 := dk_seg dksX4_links_0 24 rfl rfl
theorem dksX4_links_2 : cX4_links.data.toList.drop 47 = dktX4_links_2 := dk_seg dksX4_links_1 23 rfl rfl
theorem dksX4_links_3 : cX4_links.data.toList.drop 71 = dktX4_links_3 := dk_seg dksX4_links_2 24 rfl rfl
theorem dksX4_links_4 : cX4_links.data.toList.drop 95 = dktX4_links_4 := dk_seg dksX4_links_3 24 rfl rfl
theorem dX4_links_0 : decode cX4_links 0 = .ok (.aload_n 0, 1) := dk_42 (dk_at dksX4_links_0 0 rfl rfl)
theorem dX4_links_1 : decode cX4_links 1 = .ok (.iload_n 1, 1) := dk_27 (dk_at dksX4_links_0 1 rfl rfl)
theorem dX4_links_2 : decode cX4_links 2 = .ok (.invokevirtual 1, 3) := dk_182 0 1 (dk_at dksX4_links_0 2 rfl rfl)
theorem dX4_links_5 : decode cX4_links 5 = .ok (.iload_n 1, 1) := dk_27 (dk_at dksX4_links_0 5 rfl rfl)
theorem dX4_links_6 : decode cX4_links 6 = .ok (.isub, 1) := dk_100 (dk_at dksX4_links_0 6 rfl rfl)
theorem dX4_links_7 : decode cX4_links 7 = .ok (.anewarray 92, 3) := dk_189 0 92 (dk_at dksX4_links_0 7 rfl rfl)
theorem dX4_links_10 : decode cX4_links 10 = .ok (.astore_n 2, 1) := dk_77 (dk_at dksX4_links_0 10 rfl rfl)
theorem dX4_links_11 : decode cX4_links 11 = .ok (.iconst 0, 1) := dk_3 (dk_at dksX4_links_0 11 rfl rfl)
theorem dX4_links_12 : decode cX4_links 12 = .ok (.istore_n 3, 1) := dk_62 (dk_at dksX4_links_0 12 rfl rfl)
theorem dX4_links_13 : decode cX4_links 13 = .ok (.iload_n 3, 1) := dk_29 (dk_at dksX4_links_0 13 rfl rfl)
theorem dX4_links_14 : decode cX4_links 14 = .ok (.aload_n 2, 1) := dk_44 (dk_at dksX4_links_0 14 rfl rfl)
theorem dX4_links_15 : decode cX4_links 15 = .ok (.arraylength, 1) := dk_190 (dk_at dksX4_links_0 15 rfl rfl)
theorem dX4_links_16 : decode cX4_links 16 = .ok (.if_icmp .ge 95, 3) := dk_162 0 95 (dk_at dksX4_links_0 16 rfl rfl)
theorem dX4_links_19 : decode cX4_links 19 = .ok (.aload_n 2, 1) := dk_44 (dk_at dksX4_links_0 19 rfl rfl)
theorem dX4_links_20 : decode cX4_links 20 = .ok (.iload_n 3, 1) := dk_29 (dk_at dksX4_links_0 20 rfl rfl)
theorem dX4_links_21 : decode cX4_links 21 = .ok (.new 92, 3) := dk_187 0 92 (dk_at dksX4_links_0 21 rfl rfl)
theorem dX4_links_24 : decode cX4_links 24 = .ok (.dup, 1) := dk_89 (dk_at dksX4_links_1 0 rfl rfl)
theorem dX4_links_25 : decode cX4_links 25 = .ok (.invokespecial 274, 3) := dk_183 1 18 (dk_at dksX4_links_1 1 rfl rfl)
theorem dX4_links_28 : decode cX4_links 28 = .ok (.aastore, 1) := dk_83 (dk_at dksX4_links_1 4 rfl rfl)
theorem dX4_links_29 : decode cX4_links 29 = .ok (.aload_n 2, 1) := dk_44 (dk_at dksX4_links_1 5 rfl rfl)
theorem dX4_links_30 : decode cX4_links 30 = .ok (.iload_n 3, 1) := dk_29 (dk_at dksX4_links_1 6 rfl rfl)
theorem dX4_links_31 : decode cX4_links 31 = .ok (.aaload, 1) := dk_50 (dk_at dksX4_links_1 7 rfl rfl)
theorem dX4_links_32 : decode cX4_links 32 = .ok (.aload_n 0, 1) := dk_42 (dk_at dksX4_links_1 8 rfl rfl)
theorem dX4_links_33 : decode cX4_links 33 = .ok (.getfield 11, 3) := dk_180 0 11 (dk_at dksX4_links_1 9 rfl rfl)
theorem dX4_links_36 : decode cX4_links 36 = .ok (.iload_n 1, 1) := dk_27 (dk_at dksX4_links_1 12 rfl rfl)
theorem dX4_links_37 : decode cX4_links 37 = .ok (.iload_n 3, 1) := dk_29 (dk_at dksX4_links_1 13 rfl rfl)
theorem dX4_links_38 : decode cX4_links 38 = .ok (.iadd, 1) := dk_96 (dk_at dksX4_links_1 14 rfl rfl)
theorem dX4_links_39 : decode cX4_links 39 = .ok (.iaload, 1) := dk_46 (dk_at dksX4_links_1 15 rfl rfl)
theorem dX4_links_40 : decode cX4_links 40 = .ok (.putfield 275, 3) := dk_181 1 19 (dk_at dksX4_links_1 16 rfl rfl)
theorem dX4_links_43 : decode cX4_links 43 = .ok (.aload_n 2, 1) := dk_44 (dk_at dksX4_links_1 19 rfl rfl)
theorem dX4_links_44 : decode cX4_links 44 = .ok (.iload_n 3, 1) := dk_29 (dk_at dksX4_links_1 20 rfl rfl)
theorem dX4_links_45 : decode cX4_links 45 = .ok (.aaload, 1) := dk_50 (dk_at dksX4_links_1 21 rfl rfl)
theorem dX4_links_46 : decode cX4_links 46 = .ok (.aload_n 0, 1) := dk_42 (dk_at dksX4_links_1 22 rfl rfl)
theorem dX4_links_47 : decode cX4_links 47 = .ok (.getfield 14, 3) := dk_180 0 14 (dk_at dksX4_links_2 0 rfl rfl)
theorem dX4_links_50 : decode cX4_links 50 = .ok (.iload_n 1, 1) := dk_27 (dk_at dksX4_links_2 3 rfl rfl)
theorem dX4_links_51 : decode cX4_links 51 = .ok (.iload_n 3, 1) := dk_29 (dk_at dksX4_links_2 4 rfl rfl)
theorem dX4_links_52 : decode cX4_links 52 = .ok (.iadd, 1) := dk_96 (dk_at dksX4_links_2 5 rfl rfl)
theorem dX4_links_53 : decode cX4_links 53 = .ok (.iaload, 1) := dk_46 (dk_at dksX4_links_2 6 rfl rfl)
theorem dX4_links_54 : decode cX4_links 54 = .ok (.putfield 278, 3) := dk_181 1 22 (dk_at dksX4_links_2 7 rfl rfl)
theorem dX4_links_57 : decode cX4_links 57 = .ok (.aload_n 2, 1) := dk_44 (dk_at dksX4_links_2 10 rfl rfl)
theorem dX4_links_58 : decode cX4_links 58 = .ok (.iload_n 3, 1) := dk_29 (dk_at dksX4_links_2 11 rfl rfl)
theorem dX4_links_59 : decode cX4_links 59 = .ok (.aaload, 1) := dk_50 (dk_at dksX4_links_2 12 rfl rfl)
theorem dX4_links_60 : decode cX4_links 60 = .ok (.aload_n 0, 1) := dk_42 (dk_at dksX4_links_2 13 rfl rfl)
theorem dX4_links_61 : decode cX4_links 61 = .ok (.getfield 17, 3) := dk_180 0 17 (dk_at dksX4_links_2 14 rfl rfl)
theorem dX4_links_64 : decode cX4_links 64 = .ok (.iload_n 1, 1) := dk_27 (dk_at dksX4_links_2 17 rfl rfl)
theorem dX4_links_65 : decode cX4_links 65 = .ok (.iload_n 3, 1) := dk_29 (dk_at dksX4_links_2 18 rfl rfl)
theorem dX4_links_66 : decode cX4_links 66 = .ok (.iadd, 1) := dk_96 (dk_at dksX4_links_2 19 rfl rfl)
theorem dX4_links_67 : decode cX4_links 67 = .ok (.iaload, 1) := dk_46 (dk_at dksX4_links_2 20 rfl rfl)
theorem dX4_links_68 : decode cX4_links 68 = .ok (.putfield 281, 3) := dk_181 1 25 (dk_at dksX4_links_2 21 rfl rfl)
theorem dX4_links_71 : decode cX4_links 71 = .ok (.iload_n 3, 1) := dk_29 (dk_at dksX4_links_3 0 rfl rfl)
theorem dX4_links_72 : decode cX4_links 72 = .ok (.ifCond .ne 6, 3) := dk_154 0 6 (dk_at dksX4_links_3 1 rfl rfl)
theorem dX4_links_75 : decode cX4_links 75 = .ok (.goto 30, 3) := dk_167 0 30 (dk_at dksX4_links_3 4 rfl rfl)
theorem dX4_links_78 : decode cX4_links 78 = .ok (.aload_n 2, 1) := dk_44 (dk_at dksX4_links_3 7 rfl rfl)
theorem dX4_links_79 : decode cX4_links 79 = .ok (.aload_n 0, 1) := dk_42 (dk_at dksX4_links_3 8 rfl rfl)
theorem dX4_links_80 : decode cX4_links 80 = .ok (.getfield 7, 3) := dk_180 0 7 (dk_at dksX4_links_3 9 rfl rfl)
theorem dX4_links_83 : decode cX4_links 83 = .ok (.iload_n 1, 1) := dk_27 (dk_at dksX4_links_3 12 rfl rfl)
theorem dX4_links_84 : decode cX4_links 84 = .ok (.iload_n 3, 1) := dk_29 (dk_at dksX4_links_3 13 rfl rfl)
theorem dX4_links_85 : decode cX4_links 85 = .ok (.iadd, 1) := dk_96 (dk_at dksX4_links_3 14 rfl rfl)
theorem dX4_links_86 : decode cX4_links 86 = .ok (.iaload, 1) := dk_46 (dk_at dksX4_links_3 15 rfl rfl)
theorem dX4_links_87 : decode cX4_links 87 = .ok (.iload_n 1, 1) := dk_27 (dk_at dksX4_links_3 16 rfl rfl)
theorem dX4_links_88 : decode cX4_links 88 = .ok (.isub, 1) := dk_100 (dk_at dksX4_links_3 17 rfl rfl)
theorem dX4_links_89 : decode cX4_links 89 = .ok (.aaload, 1) := dk_50 (dk_at dksX4_links_3 18 rfl rfl)
theorem dX4_links_90 : decode cX4_links 90 = .ok (.astore 4, 2) := dk_58 4 (dk_at dksX4_links_3 19 rfl rfl)
theorem dX4_links_92 : decode cX4_links 92 = .ok (.aload 4, 2) := dk_25 4 (dk_at dksX4_links_3 21 rfl rfl)
theorem dX4_links_94 : decode cX4_links 94 = .ok (.aload_n 2, 1) := dk_44 (dk_at dksX4_links_3 23 rfl rfl)
theorem dX4_links_95 : decode cX4_links 95 = .ok (.iload_n 3, 1) := dk_29 (dk_at dksX4_links_4 0 rfl rfl)
theorem dX4_links_96 : decode cX4_links 96 = .ok (.aaload, 1) := dk_50 (dk_at dksX4_links_4 1 rfl rfl)
theorem dX4_links_97 : decode cX4_links 97 = .ok (.aload 4, 2) := dk_25 4 (dk_at dksX4_links_4 2 rfl rfl)
theorem dX4_links_99 : decode cX4_links 99 = .ok (.getfield 284, 3) := dk_180 1 28 (dk_at dksX4_links_4 4 rfl rfl)
theorem dX4_links_102 : decode cX4_links 102 = .ok (.invokevirtual 285, 3) := dk_182 1 29 (dk_at dksX4_links_4 7 rfl rfl)
theorem dX4_links_105 : decode cX4_links 105 = .ok (.iinc 3 1, 3) := dk_132 3 1 (dk_at dksX4_links_4 10 rfl rfl)
theorem dX4_links_108 : decode cX4_links 108 = .ok (.goto (-95), 3) := dk_167 255 161 (dk_at dksX4_links_4 13 rfl rfl)
theorem dX4_links_111 : decode cX4_links 111 = .ok (.aload_n 2, 1) := dk_44 (dk_at dksX4_links_4 16 rfl rfl)
theorem dX4_links_112 : decode cX4_links 112 = .ok (.areturn, 1) := dk_176 (dk_at dksX4_links_4 17 rfl rfl)
abbrev cX4_applies : ByteArray := prog_20_method_69_code
def yX4_applies : MethodName := ⟨RX4, "applies", "(IILTreeDifferModel$Tree;)C"⟩
def dkwX4_applies_3 : List UInt8 := [21, 4, 16, 109, 160, 0, 12, 42, 28, 45, 182, 1, 76, 167, 0, 5, 16, 45, 172]
abbrev dktX4_applies_3 : List UInt8 := dkwX4_applies_3 ++ []
def dkwX4_applies_2 : List UInt8 := [16, 118, 160, 0, 9, 42, 28, 182, 1, 73, 172, 27, 5, 160, 0, 26, 21, 4, 16, 105, 159, 0, 10]
abbrev dktX4_applies_2 : List UInt8 := dkwX4_applies_2 ++ dktX4_applies_3
def dkwX4_applies_1 : List UInt8 := [160, 0, 10, 42, 28, 45, 182, 1, 69, 172, 27, 4, 160, 0, 23, 21, 4, 16, 108, 159, 0, 10, 21, 4]
abbrev dktX4_applies_1 : List UInt8 := dkwX4_applies_1 ++ dktX4_applies_2
def dkwX4_applies_0 : List UInt8 := [42, 180, 0, 77, 28, 52, 54, 4, 27, 154, 0, 24, 21, 4, 16, 100, 159, 0, 10, 21, 4, 16, 109]
abbrev dktX4_applies_0 : List UInt8 := dkwX4_applies_0 ++ dktX4_applies_1
theorem dksX4_applies_0 : cX4_applies.data.toList.drop 0 = dktX4_applies_0 := by decide +kernel
theorem dksX4_applies_1 : cX4_applies.data.toList.drop 23 = dktX4_applies_1 := dk_seg dksX4_applies_0 23 rfl rfl
theorem dksX4_applies_2 : cX4_applies.data.toList.drop 47 = dktX4_applies_2 := dk_seg dksX4_applies_1 24 rfl rfl
theorem dksX4_applies_3 : cX4_applies.data.toList.drop 70 = dktX4_applies_3 := dk_seg dksX4_applies_2 23 rfl rfl
theorem dX4_applies_0 : decode cX4_applies 0 = .ok (.aload_n 0, 1) := dk_42 (dk_at dksX4_applies_0 0 rfl rfl)
theorem dX4_applies_1 : decode cX4_applies 1 = .ok (.getfield 77, 3) := dk_180 0 77 (dk_at dksX4_applies_0 1 rfl rfl)
theorem dX4_applies_4 : decode cX4_applies 4 = .ok (.iload_n 2, 1) := dk_28 (dk_at dksX4_applies_0 4 rfl rfl)
theorem dX4_applies_5 : decode cX4_applies 5 = .ok (.caload, 1) := dk_52 (dk_at dksX4_applies_0 5 rfl rfl)
theorem dX4_applies_6 : decode cX4_applies 6 = .ok (.istore 4, 2) := dk_54 4 (dk_at dksX4_applies_0 6 rfl rfl)
theorem dX4_applies_8 : decode cX4_applies 8 = .ok (.iload_n 1, 1) := dk_27 (dk_at dksX4_applies_0 8 rfl rfl)
theorem dX4_applies_9 : decode cX4_applies 9 = .ok (.ifCond .ne 24, 3) := dk_154 0 24 (dk_at dksX4_applies_0 9 rfl rfl)
theorem dX4_applies_12 : decode cX4_applies 12 = .ok (.iload 4, 2) := dk_21 4 (dk_at dksX4_applies_0 12 rfl rfl)
theorem dX4_applies_14 : decode cX4_applies 14 = .ok (.bipush 100, 2) := dk_16 100 (dk_at dksX4_applies_0 14 rfl rfl)
theorem dX4_applies_16 : decode cX4_applies 16 = .ok (.if_icmp .eq 10, 3) := dk_159 0 10 (dk_at dksX4_applies_0 16 rfl rfl)
theorem dX4_applies_19 : decode cX4_applies 19 = .ok (.iload 4, 2) := dk_21 4 (dk_at dksX4_applies_0 19 rfl rfl)
theorem dX4_applies_21 : decode cX4_applies 21 = .ok (.bipush 109, 2) := dk_16 109 (dk_at dksX4_applies_0 21 rfl rfl)
theorem dX4_applies_23 : decode cX4_applies 23 = .ok (.if_icmp .ne 10, 3) := dk_160 0 10 (dk_at dksX4_applies_1 0 rfl rfl)
theorem dX4_applies_26 : decode cX4_applies 26 = .ok (.aload_n 0, 1) := dk_42 (dk_at dksX4_applies_1 3 rfl rfl)
theorem dX4_applies_27 : decode cX4_applies 27 = .ok (.iload_n 2, 1) := dk_28 (dk_at dksX4_applies_1 4 rfl rfl)
theorem dX4_applies_28 : decode cX4_applies 28 = .ok (.aload_n 3, 1) := dk_45 (dk_at dksX4_applies_1 5 rfl rfl)
theorem dX4_applies_29 : decode cX4_applies 29 = .ok (.invokevirtual 325, 3) := dk_182 1 69 (dk_at dksX4_applies_1 6 rfl rfl)
theorem dX4_applies_32 : decode cX4_applies 32 = .ok (.ireturn, 1) := dk_172 (dk_at dksX4_applies_1 9 rfl rfl)
theorem dX4_applies_33 : decode cX4_applies 33 = .ok (.iload_n 1, 1) := dk_27 (dk_at dksX4_applies_1 10 rfl rfl)
theorem dX4_applies_34 : decode cX4_applies 34 = .ok (.iconst 1, 1) := dk_4 (dk_at dksX4_applies_1 11 rfl rfl)
theorem dX4_applies_35 : decode cX4_applies 35 = .ok (.if_icmp .ne 23, 3) := dk_160 0 23 (dk_at dksX4_applies_1 12 rfl rfl)
theorem dX4_applies_38 : decode cX4_applies 38 = .ok (.iload 4, 2) := dk_21 4 (dk_at dksX4_applies_1 15 rfl rfl)
theorem dX4_applies_40 : decode cX4_applies 40 = .ok (.bipush 108, 2) := dk_16 108 (dk_at dksX4_applies_1 17 rfl rfl)
theorem dX4_applies_42 : decode cX4_applies 42 = .ok (.if_icmp .eq 10, 3) := dk_159 0 10 (dk_at dksX4_applies_1 19 rfl rfl)
theorem dX4_applies_45 : decode cX4_applies 45 = .ok (.iload 4, 2) := dk_21 4 (dk_at dksX4_applies_1 22 rfl rfl)
theorem dX4_applies_47 : decode cX4_applies 47 = .ok (.bipush 118, 2) := dk_16 118 (dk_at dksX4_applies_2 0 rfl rfl)
theorem dX4_applies_49 : decode cX4_applies 49 = .ok (.if_icmp .ne 9, 3) := dk_160 0 9 (dk_at dksX4_applies_2 2 rfl rfl)
theorem dX4_applies_52 : decode cX4_applies 52 = .ok (.aload_n 0, 1) := dk_42 (dk_at dksX4_applies_2 5 rfl rfl)
theorem dX4_applies_53 : decode cX4_applies 53 = .ok (.iload_n 2, 1) := dk_28 (dk_at dksX4_applies_2 6 rfl rfl)
theorem dX4_applies_54 : decode cX4_applies 54 = .ok (.invokevirtual 329, 3) := dk_182 1 73 (dk_at dksX4_applies_2 7 rfl rfl)
theorem dX4_applies_57 : decode cX4_applies 57 = .ok (.ireturn, 1) := dk_172 (dk_at dksX4_applies_2 10 rfl rfl)
theorem dX4_applies_58 : decode cX4_applies 58 = .ok (.iload_n 1, 1) := dk_27 (dk_at dksX4_applies_2 11 rfl rfl)
theorem dX4_applies_59 : decode cX4_applies 59 = .ok (.iconst 2, 1) := dk_5 (dk_at dksX4_applies_2 12 rfl rfl)
theorem dX4_applies_60 : decode cX4_applies 60 = .ok (.if_icmp .ne 26, 3) := dk_160 0 26 (dk_at dksX4_applies_2 13 rfl rfl)
theorem dX4_applies_63 : decode cX4_applies 63 = .ok (.iload 4, 2) := dk_21 4 (dk_at dksX4_applies_2 16 rfl rfl)
theorem dX4_applies_65 : decode cX4_applies 65 = .ok (.bipush 105, 2) := dk_16 105 (dk_at dksX4_applies_2 18 rfl rfl)
theorem dX4_applies_67 : decode cX4_applies 67 = .ok (.if_icmp .eq 10, 3) := dk_159 0 10 (dk_at dksX4_applies_2 20 rfl rfl)
theorem dX4_applies_70 : decode cX4_applies 70 = .ok (.iload 4, 2) := dk_21 4 (dk_at dksX4_applies_3 0 rfl rfl)
theorem dX4_applies_72 : decode cX4_applies 72 = .ok (.bipush 109, 2) := dk_16 109 (dk_at dksX4_applies_3 2 rfl rfl)
theorem dX4_applies_74 : decode cX4_applies 74 = .ok (.if_icmp .ne 12, 3) := dk_160 0 12 (dk_at dksX4_applies_3 4 rfl rfl)
theorem dX4_applies_77 : decode cX4_applies 77 = .ok (.aload_n 0, 1) := dk_42 (dk_at dksX4_applies_3 7 rfl rfl)
theorem dX4_applies_78 : decode cX4_applies 78 = .ok (.iload_n 2, 1) := dk_28 (dk_at dksX4_applies_3 8 rfl rfl)
theorem dX4_applies_79 : decode cX4_applies 79 = .ok (.aload_n 3, 1) := dk_45 (dk_at dksX4_applies_3 9 rfl rfl)
theorem dX4_applies_80 : decode cX4_applies 80 = .ok (.invokevirtual 332, 3) := dk_182 1 76 (dk_at dksX4_applies_3 10 rfl rfl)
theorem dX4_applies_83 : decode cX4_applies 83 = .ok (.goto 5, 3) := dk_167 0 5 (dk_at dksX4_applies_3 13 rfl rfl)
theorem dX4_applies_86 : decode cX4_applies 86 = .ok (.bipush 45, 2) := dk_16 45 (dk_at dksX4_applies_3 16 rfl rfl)
theorem dX4_applies_88 : decode cX4_applies 88 = .ok (.ireturn, 1) := dk_172 (dk_at dksX4_applies_3 18 rfl rfl)
abbrev cX4_takesOut : ByteArray := prog_20_method_65_code
def yX4_takesOut : MethodName := ⟨RX4, "takesOut", "(ILTreeDifferModel$Tree;)C"⟩
def dkwX4_takesOut_5 : List UInt8 := [181, 1, 48, 16, 45, 172]
abbrev dktX4_takesOut_5 : List UInt8 := dkwX4_takesOut_5 ++ []
def dkwX4_takesOut_4 : List UInt8 := [180, 0, 80, 27, 46, 46, 182, 0, 1, 42, 180, 0, 65, 42, 180, 0, 80, 27, 46, 46, 100, 100]
abbrev dktX4_takesOut_4 : List UInt8 := dkwX4_takesOut_4 ++ dktX4_takesOut_5
def dkwX4_takesOut_3 : List UInt8 := [184, 0, 223, 154, 0, 6, 16, 99, 172, 45, 182, 1, 45, 42, 89, 180, 1, 48, 44, 42, 180, 0, 65, 42]
abbrev dktX4_takesOut_3 : List UInt8 := dkwX4_takesOut_3 ++ dktX4_takesOut_4
def dkwX4_takesOut_2 : List UInt8 := [180, 0, 71, 42, 180, 0, 80, 27, 46, 44, 42, 180, 0, 65, 42, 180, 0, 80, 27, 46, 46, 3]
abbrev dktX4_takesOut_2 : List UInt8 := dkwX4_takesOut_2 ++ dktX4_takesOut_3
def dkwX4_takesOut_1 : List UInt8 := [160, 0, 8, 16, 45, 167, 0, 5, 16, 103, 172, 42, 180, 0, 77, 27, 52, 16, 100, 160, 0, 35, 42]
abbrev dktX4_takesOut_1 : List UInt8 := dkwX4_takesOut_1 ++ dktX4_takesOut_2
def dkwX4_takesOut_0 : List UInt8 := [42, 42, 180, 0, 80, 27, 46, 182, 1, 41, 78, 45, 199, 0, 22, 42, 180, 0, 77, 27, 52, 16, 100]
abbrev dktX4_takesOut_0 : List UInt8 := dkwX4_takesOut_0 ++ dktX4_takesOut_1
theorem dksX4_takesOut_0 : cX4_takesOut.data.toList.drop 0 = dktX4_takesOut_0 := by decide +kernel
theorem dksX4_takesOut_1 : cX4_takesOut.data.toList.drop 23 = dktX4_takesOut_1 := dk_seg dksX4_takesOut_0 23 rfl rfl
theorem dksX4_takesOut_2 : cX4_takesOut.data.toList.drop 46 = dktX4_takesOut_2 := dk_seg dksX4_takesOut_1 23 rfl rfl
theorem dksX4_takesOut_3 : cX4_takesOut.data.toList.drop 68 = dktX4_takesOut_3 := dk_seg dksX4_takesOut_2 22 rfl rfl
theorem dksX4_takesOut_4 : cX4_takesOut.data.toList.drop 92 = dktX4_takesOut_4 := dk_seg dksX4_takesOut_3 24 rfl rfl
theorem dksX4_takesOut_5 : cX4_takesOut.data.toList.drop 114 = dktX4_takesOut_5 := dk_seg dksX4_takesOut_4 22 rfl rfl
theorem dX4_takesOut_0 : decode cX4_takesOut 0 = .ok (.aload_n 0, 1) := dk_42 (dk_at dksX4_takesOut_0 0 rfl rfl)
theorem dX4_takesOut_1 : decode cX4_takesOut 1 = .ok (.aload_n 0, 1) := dk_42 (dk_at dksX4_takesOut_0 1 rfl rfl)
theorem dX4_takesOut_2 : decode cX4_takesOut 2 = .ok (.getfield 80, 3) := dk_180 0 80 (dk_at dksX4_takesOut_0 2 rfl rfl)
theorem dX4_takesOut_5 : decode cX4_takesOut 5 = .ok (.iload_n 1, 1) := dk_27 (dk_at dksX4_takesOut_0 5 rfl rfl)
theorem dX4_takesOut_6 : decode cX4_takesOut 6 = .ok (.iaload, 1) := dk_46 (dk_at dksX4_takesOut_0 6 rfl rfl)
theorem dX4_takesOut_7 : decode cX4_takesOut 7 = .ok (.invokevirtual 297, 3) := dk_182 1 41 (dk_at dksX4_takesOut_0 7 rfl rfl)
theorem dX4_takesOut_10 : decode cX4_takesOut 10 = .ok (.astore_n 3, 1) := dk_78 (dk_at dksX4_takesOut_0 10 rfl rfl)
theorem dX4_takesOut_11 : decode cX4_takesOut 11 = .ok (.aload_n 3, 1) := dk_45 (dk_at dksX4_takesOut_0 11 rfl rfl)
theorem dX4_takesOut_12 : decode cX4_takesOut 12 = .ok (.ifnonnull 22, 3) := dk_199 0 22 (dk_at dksX4_takesOut_0 12 rfl rfl)
theorem dX4_takesOut_15 : decode cX4_takesOut 15 = .ok (.aload_n 0, 1) := dk_42 (dk_at dksX4_takesOut_0 15 rfl rfl)
theorem dX4_takesOut_16 : decode cX4_takesOut 16 = .ok (.getfield 77, 3) := dk_180 0 77 (dk_at dksX4_takesOut_0 16 rfl rfl)
theorem dX4_takesOut_19 : decode cX4_takesOut 19 = .ok (.iload_n 1, 1) := dk_27 (dk_at dksX4_takesOut_0 19 rfl rfl)
theorem dX4_takesOut_20 : decode cX4_takesOut 20 = .ok (.caload, 1) := dk_52 (dk_at dksX4_takesOut_0 20 rfl rfl)
theorem dX4_takesOut_21 : decode cX4_takesOut 21 = .ok (.bipush 100, 2) := dk_16 100 (dk_at dksX4_takesOut_0 21 rfl rfl)
theorem dX4_takesOut_23 : decode cX4_takesOut 23 = .ok (.if_icmp .ne 8, 3) := dk_160 0 8 (dk_at dksX4_takesOut_1 0 rfl rfl)
theorem dX4_takesOut_26 : decode cX4_takesOut 26 = .ok (.bipush 45, 2) := dk_16 45 (dk_at dksX4_takesOut_1 3 rfl rfl)
theorem dX4_takesOut_28 : decode cX4_takesOut 28 = .ok (.goto 5, 3) := dk_167 0 5 (dk_at dksX4_takesOut_1 5 rfl rfl)
theorem dX4_takesOut_31 : decode cX4_takesOut 31 = .ok (.bipush 103, 2) := dk_16 103 (dk_at dksX4_takesOut_1 8 rfl rfl)
theorem dX4_takesOut_33 : decode cX4_takesOut 33 = .ok (.ireturn, 1) := dk_172 (dk_at dksX4_takesOut_1 10 rfl rfl)
theorem dX4_takesOut_34 : decode cX4_takesOut 34 = .ok (.aload_n 0, 1) := dk_42 (dk_at dksX4_takesOut_1 11 rfl rfl)
theorem dX4_takesOut_35 : decode cX4_takesOut 35 = .ok (.getfield 77, 3) := dk_180 0 77 (dk_at dksX4_takesOut_1 12 rfl rfl)
theorem dX4_takesOut_38 : decode cX4_takesOut 38 = .ok (.iload_n 1, 1) := dk_27 (dk_at dksX4_takesOut_1 15 rfl rfl)
theorem dX4_takesOut_39 : decode cX4_takesOut 39 = .ok (.caload, 1) := dk_52 (dk_at dksX4_takesOut_1 16 rfl rfl)
theorem dX4_takesOut_40 : decode cX4_takesOut 40 = .ok (.bipush 100, 2) := dk_16 100 (dk_at dksX4_takesOut_1 17 rfl rfl)
theorem dX4_takesOut_42 : decode cX4_takesOut 42 = .ok (.if_icmp .ne 35, 3) := dk_160 0 35 (dk_at dksX4_takesOut_1 19 rfl rfl)
theorem dX4_takesOut_45 : decode cX4_takesOut 45 = .ok (.aload_n 0, 1) := dk_42 (dk_at dksX4_takesOut_1 22 rfl rfl)
theorem dX4_takesOut_46 : decode cX4_takesOut 46 = .ok (.getfield 71, 3) := dk_180 0 71 (dk_at dksX4_takesOut_2 0 rfl rfl)
theorem dX4_takesOut_49 : decode cX4_takesOut 49 = .ok (.aload_n 0, 1) := dk_42 (dk_at dksX4_takesOut_2 3 rfl rfl)
theorem dX4_takesOut_50 : decode cX4_takesOut 50 = .ok (.getfield 80, 3) := dk_180 0 80 (dk_at dksX4_takesOut_2 4 rfl rfl)
theorem dX4_takesOut_53 : decode cX4_takesOut 53 = .ok (.iload_n 1, 1) := dk_27 (dk_at dksX4_takesOut_2 7 rfl rfl)
theorem dX4_takesOut_54 : decode cX4_takesOut 54 = .ok (.iaload, 1) := dk_46 (dk_at dksX4_takesOut_2 8 rfl rfl)
theorem dX4_takesOut_55 : decode cX4_takesOut 55 = .ok (.aload_n 2, 1) := dk_44 (dk_at dksX4_takesOut_2 9 rfl rfl)
theorem dX4_takesOut_56 : decode cX4_takesOut 56 = .ok (.aload_n 0, 1) := dk_42 (dk_at dksX4_takesOut_2 10 rfl rfl)
theorem dX4_takesOut_57 : decode cX4_takesOut 57 = .ok (.getfield 65, 3) := dk_180 0 65 (dk_at dksX4_takesOut_2 11 rfl rfl)
theorem dX4_takesOut_60 : decode cX4_takesOut 60 = .ok (.aload_n 0, 1) := dk_42 (dk_at dksX4_takesOut_2 14 rfl rfl)
theorem dX4_takesOut_61 : decode cX4_takesOut 61 = .ok (.getfield 80, 3) := dk_180 0 80 (dk_at dksX4_takesOut_2 15 rfl rfl)
theorem dX4_takesOut_64 : decode cX4_takesOut 64 = .ok (.iload_n 1, 1) := dk_27 (dk_at dksX4_takesOut_2 18 rfl rfl)
theorem dX4_takesOut_65 : decode cX4_takesOut 65 = .ok (.iaload, 1) := dk_46 (dk_at dksX4_takesOut_2 19 rfl rfl)
theorem dX4_takesOut_66 : decode cX4_takesOut 66 = .ok (.iaload, 1) := dk_46 (dk_at dksX4_takesOut_2 20 rfl rfl)
theorem dX4_takesOut_67 : decode cX4_takesOut 67 = .ok (.iconst 0, 1) := dk_3 (dk_at dksX4_takesOut_2 21 rfl rfl)
theorem dX4_takesOut_68 : decode cX4_takesOut 68 = .ok (.invokestatic 223, 3) := dk_184 0 223 (dk_at dksX4_takesOut_3 0 rfl rfl)
theorem dX4_takesOut_71 : decode cX4_takesOut 71 = .ok (.ifCond .ne 6, 3) := dk_154 0 6 (dk_at dksX4_takesOut_3 3 rfl rfl)
theorem dX4_takesOut_74 : decode cX4_takesOut 74 = .ok (.bipush 99, 2) := dk_16 99 (dk_at dksX4_takesOut_3 6 rfl rfl)
theorem dX4_takesOut_76 : decode cX4_takesOut 76 = .ok (.ireturn, 1) := dk_172 (dk_at dksX4_takesOut_3 8 rfl rfl)
theorem dX4_takesOut_77 : decode cX4_takesOut 77 = .ok (.aload_n 3, 1) := dk_45 (dk_at dksX4_takesOut_3 9 rfl rfl)
theorem dX4_takesOut_78 : decode cX4_takesOut 78 = .ok (.invokevirtual 301, 3) := dk_182 1 45 (dk_at dksX4_takesOut_3 10 rfl rfl)
theorem dX4_takesOut_81 : decode cX4_takesOut 81 = .ok (.aload_n 0, 1) := dk_42 (dk_at dksX4_takesOut_3 13 rfl rfl)
theorem dX4_takesOut_82 : decode cX4_takesOut 82 = .ok (.dup, 1) := dk_89 (dk_at dksX4_takesOut_3 14 rfl rfl)
theorem dX4_takesOut_83 : decode cX4_takesOut 83 = .ok (.getfield 304, 3) := dk_180 1 48 (dk_at dksX4_takesOut_3 15 rfl rfl)
theorem dX4_takesOut_86 : decode cX4_takesOut 86 = .ok (.aload_n 2, 1) := dk_44 (dk_at dksX4_takesOut_3 18 rfl rfl)
theorem dX4_takesOut_87 : decode cX4_takesOut 87 = .ok (.aload_n 0, 1) := dk_42 (dk_at dksX4_takesOut_3 19 rfl rfl)
theorem dX4_takesOut_88 : decode cX4_takesOut 88 = .ok (.getfield 65, 3) := dk_180 0 65 (dk_at dksX4_takesOut_3 20 rfl rfl)
theorem dX4_takesOut_91 : decode cX4_takesOut 91 = .ok (.aload_n 0, 1) := dk_42 (dk_at dksX4_takesOut_3 23 rfl rfl)
theorem dX4_takesOut_92 : decode cX4_takesOut 92 = .ok (.getfield 80, 3) := dk_180 0 80 (dk_at dksX4_takesOut_4 0 rfl rfl)
theorem dX4_takesOut_95 : decode cX4_takesOut 95 = .ok (.iload_n 1, 1) := dk_27 (dk_at dksX4_takesOut_4 3 rfl rfl)
theorem dX4_takesOut_96 : decode cX4_takesOut 96 = .ok (.iaload, 1) := dk_46 (dk_at dksX4_takesOut_4 4 rfl rfl)
theorem dX4_takesOut_97 : decode cX4_takesOut 97 = .ok (.iaload, 1) := dk_46 (dk_at dksX4_takesOut_4 5 rfl rfl)
theorem dX4_takesOut_98 : decode cX4_takesOut 98 = .ok (.invokevirtual 1, 3) := dk_182 0 1 (dk_at dksX4_takesOut_4 6 rfl rfl)
theorem dX4_takesOut_101 : decode cX4_takesOut 101 = .ok (.aload_n 0, 1) := dk_42 (dk_at dksX4_takesOut_4 9 rfl rfl)
theorem dX4_takesOut_102 : decode cX4_takesOut 102 = .ok (.getfield 65, 3) := dk_180 0 65 (dk_at dksX4_takesOut_4 10 rfl rfl)
theorem dX4_takesOut_105 : decode cX4_takesOut 105 = .ok (.aload_n 0, 1) := dk_42 (dk_at dksX4_takesOut_4 13 rfl rfl)
theorem dX4_takesOut_106 : decode cX4_takesOut 106 = .ok (.getfield 80, 3) := dk_180 0 80 (dk_at dksX4_takesOut_4 14 rfl rfl)
theorem dX4_takesOut_109 : decode cX4_takesOut 109 = .ok (.iload_n 1, 1) := dk_27 (dk_at dksX4_takesOut_4 17 rfl rfl)
theorem dX4_takesOut_110 : decode cX4_takesOut 110 = .ok (.iaload, 1) := dk_46 (dk_at dksX4_takesOut_4 18 rfl rfl)
theorem dX4_takesOut_111 : decode cX4_takesOut 111 = .ok (.iaload, 1) := dk_46 (dk_at dksX4_takesOut_4 19 rfl rfl)
theorem dX4_takesOut_112 : decode cX4_takesOut 112 = .ok (.isub, 1) := dk_100 (dk_at dksX4_takesOut_4 20 rfl rfl)
theorem dX4_takesOut_113 : decode cX4_takesOut 113 = .ok (.isub, 1) := dk_100 (dk_at dksX4_takesOut_4 21 rfl rfl)
theorem dX4_takesOut_114 : decode cX4_takesOut 114 = .ok (.putfield 304, 3) := dk_181 1 48 (dk_at dksX4_takesOut_5 0 rfl rfl)
theorem dX4_takesOut_117 : decode cX4_takesOut 117 = .ok (.bipush 45, 2) := dk_16 45 (dk_at dksX4_takesOut_5 3 rfl rfl)
theorem dX4_takesOut_119 : decode cX4_takesOut 119 = .ok (.ireturn, 1) := dk_172 (dk_at dksX4_takesOut_5 5 rfl rfl)
abbrev cX4_image : ByteArray := prog_20_method_64_code
def yX4_image : MethodName := ⟨RX4, "image", "(I)LTreeDifferModel$Item;"⟩
def dkwX4_image_1 : List UInt8 := [176]
abbrev dktX4_image_1 : List UInt8 := dkwX4_image_1 ++ []
def dkwX4_image_0 : List UInt8 := [42, 180, 0, 65, 27, 46, 156, 0, 7, 1, 167, 0, 14, 42, 180, 1, 38, 42, 180, 0, 65, 27, 46, 50]
abbrev dktX4_image_0 : List UInt8 := dkwX4_image_0 ++ dktX4_image_1
theorem dksX4_image_0 : cX4_image.data.toList.drop 0 = dktX4_image_0 := by decide +kernel
theorem dksX4_image_1 : cX4_image.data.toList.drop 24 = dktX4_image_1 := dk_seg dksX4_image_0 24 rfl rfl
theorem dX4_image_0 : decode cX4_image 0 = .ok (.aload_n 0, 1) := dk_42 (dk_at dksX4_image_0 0 rfl rfl)
theorem dX4_image_1 : decode cX4_image 1 = .ok (.getfield 65, 3) := dk_180 0 65 (dk_at dksX4_image_0 1 rfl rfl)
theorem dX4_image_4 : decode cX4_image 4 = .ok (.iload_n 1, 1) := dk_27 (dk_at dksX4_image_0 4 rfl rfl)
theorem dX4_image_5 : decode cX4_image 5 = .ok (.iaload, 1) := dk_46 (dk_at dksX4_image_0 5 rfl rfl)
theorem dX4_image_6 : decode cX4_image 6 = .ok (.ifCond .ge 7, 3) := dk_156 0 7 (dk_at dksX4_image_0 6 rfl rfl)
theorem dX4_image_9 : decode cX4_image 9 = .ok (.aconst_null, 1) := dk_1 (dk_at dksX4_image_0 9 rfl rfl)
theorem dX4_image_10 : decode cX4_image 10 = .ok (.goto 14, 3) := dk_167 0 14 (dk_at dksX4_image_0 10 rfl rfl)
theorem dX4_image_13 : decode cX4_image 13 = .ok (.aload_n 0, 1) := dk_42 (dk_at dksX4_image_0 13 rfl rfl)
theorem dX4_image_14 : decode cX4_image 14 = .ok (.getfield 294, 3) := dk_180 1 38 (dk_at dksX4_image_0 14 rfl rfl)
theorem dX4_image_17 : decode cX4_image 17 = .ok (.aload_n 0, 1) := dk_42 (dk_at dksX4_image_0 17 rfl rfl)
theorem dX4_image_18 : decode cX4_image 18 = .ok (.getfield 65, 3) := dk_180 0 65 (dk_at dksX4_image_0 18 rfl rfl)
theorem dX4_image_21 : decode cX4_image 21 = .ok (.iload_n 1, 1) := dk_27 (dk_at dksX4_image_0 21 rfl rfl)
theorem dX4_image_22 : decode cX4_image 22 = .ok (.iaload, 1) := dk_46 (dk_at dksX4_image_0 22 rfl rfl)
theorem dX4_image_23 : decode cX4_image 23 = .ok (.aaload, 1) := dk_50 (dk_at dksX4_image_0 23 rfl rfl)
theorem dX4_image_24 : decode cX4_image 24 = .ok (.areturn, 1) := dk_176 (dk_at dksX4_image_1 0 rfl rfl)
abbrev cX4_changes : ByteArray := prog_20_method_66_code
def yX4_changes : MethodName := ⟨RX4, "changes", "(I)C"⟩
def dkwX4_changes_6 : List UInt8 := [153, 0, 12, 44, 21, 5, 181, 1, 19, 167, 0, 9, 44, 21, 5, 181, 1, 25, 16, 45, 172]
abbrev dktX4_changes_6 : List UInt8 := dkwX4_changes_6 ++ []
def dkwX4_changes_5 : List UInt8 := [167, 0, 17, 42, 180, 0, 71, 180, 0, 17, 42, 180, 0, 80, 27, 46, 46, 159, 0, 6, 16, 99, 172, 29]
abbrev dktX4_changes_5 : List UInt8 := dkwX4_changes_5 ++ dktX4_changes_6
def dkwX4_changes_4 : List UInt8 := [159, 0, 46, 21, 4, 29, 153, 0, 20, 42, 180, 0, 71, 180, 0, 11, 42, 180, 0, 80, 27, 46, 46]
abbrev dktX4_changes_4 : List UInt8 := dkwX4_changes_4 ++ dktX4_changes_5
def dkwX4_changes_3 : List UInt8 := [167, 0, 17, 42, 180, 0, 74, 180, 0, 17, 42, 180, 0, 83, 27, 46, 46, 54, 5, 21, 4, 21, 5]
abbrev dktX4_changes_3 : List UInt8 := dkwX4_changes_3 ++ dktX4_changes_4
def dkwX4_changes_2 : List UInt8 := [180, 1, 25, 54, 4, 29, 153, 0, 20, 42, 180, 0, 74, 180, 0, 11, 42, 180, 0, 83, 27, 46, 46]
abbrev dktX4_changes_2 : List UInt8 := dkwX4_changes_2 ++ dktX4_changes_3
def dkwX4_changes_1 : List UInt8 := [16, 108, 160, 0, 7, 4, 167, 0, 4, 3, 62, 29, 153, 0, 10, 44, 180, 1, 19, 167, 0, 7, 44]
abbrev dktX4_changes_1 : List UInt8 := dkwX4_changes_1 ++ dktX4_changes_2
def dkwX4_changes_0 : List UInt8 := [42, 42, 180, 0, 80, 27, 46, 182, 1, 41, 77, 44, 199, 0, 6, 16, 103, 172, 42, 180, 0, 77, 27, 52]
abbrev dktX4_changes_0 : List UInt8 := dkwX4_changes_0 ++ dktX4_changes_1
theorem dksX4_changes_0 : cX4_changes.data.toList.drop 0 = dktX4_changes_0 := by decide +kernel
theorem dksX4_changes_1 : cX4_changes.data.toList.drop 24 = dktX4_changes_1 := dk_seg dksX4_changes_0 24 rfl rfl
theorem dksX4_changes_2 : cX4_changes.data.toList.drop 47 = dktX4_changes_2 := dk_seg dksX4_changes_1 23 rfl rfl
theorem dksX4_changes_3 : cX4_changes.data.toList.drop 70 = dktX4_changes_3 := dk_seg dksX4_changes_2 23 rfl rfl
theorem dksX4_changes_4 : cX4_changes.data.toList.drop 93 = dktX4_changes_4 := dk_seg dksX4_changes_3 23 rfl rfl
theorem dksX4_changes_5 : cX4_changes.data.toList.drop 116 = dktX4_changes_5 := dk_seg dksX4_changes_4 23 rfl rfl
theorem dksX4_changes_6 : cX4_changes.data.toList.drop 140 = dktX4_changes_6 := dk_seg dksX4_changes_5 24 rfl rfl
theorem dX4_changes_0 : decode cX4_changes 0 = .ok (.aload_n 0, 1) := dk_42 (dk_at dksX4_changes_0 0 rfl rfl)
theorem dX4_changes_1 : decode cX4_changes 1 = .ok (.aload_n 0, 1) := dk_42 (dk_at dksX4_changes_0 1 rfl rfl)
theorem dX4_changes_2 : decode cX4_changes 2 = .ok (.getfield 80, 3) := dk_180 0 80 (dk_at dksX4_changes_0 2 rfl rfl)
theorem dX4_changes_5 : decode cX4_changes 5 = .ok (.iload_n 1, 1) := dk_27 (dk_at dksX4_changes_0 5 rfl rfl)
theorem dX4_changes_6 : decode cX4_changes 6 = .ok (.iaload, 1) := dk_46 (dk_at dksX4_changes_0 6 rfl rfl)
theorem dX4_changes_7 : decode cX4_changes 7 = .ok (.invokevirtual 297, 3) := dk_182 1 41 (dk_at dksX4_changes_0 7 rfl rfl)
theorem dX4_changes_10 : decode cX4_changes 10 = .ok (.astore_n 2, 1) := dk_77 (dk_at dksX4_changes_0 10 rfl rfl)
theorem dX4_changes_11 : decode cX4_changes 11 = .ok (.aload_n 2, 1) := dk_44 (dk_at dksX4_changes_0 11 rfl rfl)
theorem dX4_changes_12 : decode cX4_changes 12 = .ok (.ifnonnull 6, 3) := dk_199 0 6 (dk_at dksX4_changes_0 12 rfl rfl)
theorem dX4_changes_15 : decode cX4_changes 15 = .ok (.bipush 103, 2) := dk_16 103 (dk_at dksX4_changes_0 15 rfl rfl)
theorem dX4_changes_17 : decode cX4_changes 17 = .ok (.ireturn, 1) := dk_172 (dk_at dksX4_changes_0 17 rfl rfl)
theorem dX4_changes_18 : decode cX4_changes 18 = .ok (.aload_n 0, 1) := dk_42 (dk_at dksX4_changes_0 18 rfl rfl)
theorem dX4_changes_19 : decode cX4_changes 19 = .ok (.getfield 77, 3) := dk_180 0 77 (dk_at dksX4_changes_0 19 rfl rfl)
theorem dX4_changes_22 : decode cX4_changes 22 = .ok (.iload_n 1, 1) := dk_27 (dk_at dksX4_changes_0 22 rfl rfl)
theorem dX4_changes_23 : decode cX4_changes 23 = .ok (.caload, 1) := dk_52 (dk_at dksX4_changes_0 23 rfl rfl)
theorem dX4_changes_24 : decode cX4_changes 24 = .ok (.bipush 108, 2) := dk_16 108 (dk_at dksX4_changes_1 0 rfl rfl)
theorem dX4_changes_26 : decode cX4_changes 26 = .ok (.if_icmp .ne 7, 3) := dk_160 0 7 (dk_at dksX4_changes_1 2 rfl rfl)
theorem dX4_changes_29 : decode cX4_changes 29 = .ok (.iconst 1, 1) := dk_4 (dk_at dksX4_changes_1 5 rfl rfl)
theorem dX4_changes_30 : decode cX4_changes 30 = .ok (.goto 4, 3) := dk_167 0 4 (dk_at dksX4_changes_1 6 rfl rfl)
theorem dX4_changes_33 : decode cX4_changes 33 = .ok (.iconst 0, 1) := dk_3 (dk_at dksX4_changes_1 9 rfl rfl)
theorem dX4_changes_34 : decode cX4_changes 34 = .ok (.istore_n 3, 1) := dk_62 (dk_at dksX4_changes_1 10 rfl rfl)
theorem dX4_changes_35 : decode cX4_changes 35 = .ok (.iload_n 3, 1) := dk_29 (dk_at dksX4_changes_1 11 rfl rfl)
theorem dX4_changes_36 : decode cX4_changes 36 = .ok (.ifCond .eq 10, 3) := dk_153 0 10 (dk_at dksX4_changes_1 12 rfl rfl)
theorem dX4_changes_39 : decode cX4_changes 39 = .ok (.aload_n 2, 1) := dk_44 (dk_at dksX4_changes_1 15 rfl rfl)
theorem dX4_changes_40 : decode cX4_changes 40 = .ok (.getfield 275, 3) := dk_180 1 19 (dk_at dksX4_changes_1 16 rfl rfl)
theorem dX4_changes_43 : decode cX4_changes 43 = .ok (.goto 7, 3) := dk_167 0 7 (dk_at dksX4_changes_1 19 rfl rfl)
theorem dX4_changes_46 : decode cX4_changes 46 = .ok (.aload_n 2, 1) := dk_44 (dk_at dksX4_changes_1 22 rfl rfl)
theorem dX4_changes_47 : decode cX4_changes 47 = .ok (.getfield 281, 3) := dk_180 1 25 (dk_at dksX4_changes_2 0 rfl rfl)
theorem dX4_changes_50 : decode cX4_changes 50 = .ok (.istore 4, 2) := dk_54 4 (dk_at dksX4_changes_2 3 rfl rfl)
theorem dX4_changes_52 : decode cX4_changes 52 = .ok (.iload_n 3, 1) := dk_29 (dk_at dksX4_changes_2 5 rfl rfl)
theorem dX4_changes_53 : decode cX4_changes 53 = .ok (.ifCond .eq 20, 3) := dk_153 0 20 (dk_at dksX4_changes_2 6 rfl rfl)
theorem dX4_changes_56 : decode cX4_changes 56 = .ok (.aload_n 0, 1) := dk_42 (dk_at dksX4_changes_2 9 rfl rfl)
theorem dX4_changes_57 : decode cX4_changes 57 = .ok (.getfield 74, 3) := dk_180 0 74 (dk_at dksX4_changes_2 10 rfl rfl)
theorem dX4_changes_60 : decode cX4_changes 60 = .ok (.getfield 11, 3) := dk_180 0 11 (dk_at dksX4_changes_2 13 rfl rfl)
theorem dX4_changes_63 : decode cX4_changes 63 = .ok (.aload_n 0, 1) := dk_42 (dk_at dksX4_changes_2 16 rfl rfl)
theorem dX4_changes_64 : decode cX4_changes 64 = .ok (.getfield 83, 3) := dk_180 0 83 (dk_at dksX4_changes_2 17 rfl rfl)
theorem dX4_changes_67 : decode cX4_changes 67 = .ok (.iload_n 1, 1) := dk_27 (dk_at dksX4_changes_2 20 rfl rfl)
theorem dX4_changes_68 : decode cX4_changes 68 = .ok (.iaload, 1) := dk_46 (dk_at dksX4_changes_2 21 rfl rfl)
theorem dX4_changes_69 : decode cX4_changes 69 = .ok (.iaload, 1) := dk_46 (dk_at dksX4_changes_2 22 rfl rfl)
theorem dX4_changes_70 : decode cX4_changes 70 = .ok (.goto 17, 3) := dk_167 0 17 (dk_at dksX4_changes_3 0 rfl rfl)
theorem dX4_changes_73 : decode cX4_changes 73 = .ok (.aload_n 0, 1) := dk_42 (dk_at dksX4_changes_3 3 rfl rfl)
theorem dX4_changes_74 : decode cX4_changes 74 = .ok (.getfield 74, 3) := dk_180 0 74 (dk_at dksX4_changes_3 4 rfl rfl)
theorem dX4_changes_77 : decode cX4_changes 77 = .ok (.getfield 17, 3) := dk_180 0 17 (dk_at dksX4_changes_3 7 rfl rfl)
theorem dX4_changes_80 : decode cX4_changes 80 = .ok (.aload_n 0, 1) := dk_42 (dk_at dksX4_changes_3 10 rfl rfl)
theorem dX4_changes_81 : decode cX4_changes 81 = .ok (.getfield 83, 3) := dk_180 0 83 (dk_at dksX4_changes_3 11 rfl rfl)
theorem dX4_changes_84 : decode cX4_changes 84 = .ok (.iload_n 1, 1) := dk_27 (dk_at dksX4_changes_3 14 rfl rfl)
theorem dX4_changes_85 : decode cX4_changes 85 = .ok (.iaload, 1) := dk_46 (dk_at dksX4_changes_3 15 rfl rfl)
theorem dX4_changes_86 : decode cX4_changes 86 = .ok (.iaload, 1) := dk_46 (dk_at dksX4_changes_3 16 rfl rfl)
theorem dX4_changes_87 : decode cX4_changes 87 = .ok (.istore 5, 2) := dk_54 5 (dk_at dksX4_changes_3 17 rfl rfl)
theorem dX4_changes_89 : decode cX4_changes 89 = .ok (.iload 4, 2) := dk_21 4 (dk_at dksX4_changes_3 19 rfl rfl)
theorem dX4_changes_91 : decode cX4_changes 91 = .ok (.iload 5, 2) := dk_21 5 (dk_at dksX4_changes_3 21 rfl rfl)
theorem dX4_changes_93 : decode cX4_changes 93 = .ok (.if_icmp .eq 46, 3) := dk_159 0 46 (dk_at dksX4_changes_4 0 rfl rfl)
theorem dX4_changes_96 : decode cX4_changes 96 = .ok (.iload 4, 2) := dk_21 4 (dk_at dksX4_changes_4 3 rfl rfl)
theorem dX4_changes_98 : decode cX4_changes 98 = .ok (.iload_n 3, 1) := dk_29 (dk_at dksX4_changes_4 5 rfl rfl)
theorem dX4_changes_99 : decode cX4_changes 99 = .ok (.ifCond .eq 20, 3) := dk_153 0 20 (dk_at dksX4_changes_4 6 rfl rfl)
theorem dX4_changes_102 : decode cX4_changes 102 = .ok (.aload_n 0, 1) := dk_42 (dk_at dksX4_changes_4 9 rfl rfl)
theorem dX4_changes_103 : decode cX4_changes 103 = .ok (.getfield 71, 3) := dk_180 0 71 (dk_at dksX4_changes_4 10 rfl rfl)
theorem dX4_changes_106 : decode cX4_changes 106 = .ok (.getfield 11, 3) := dk_180 0 11 (dk_at dksX4_changes_4 13 rfl rfl)
theorem dX4_changes_109 : decode cX4_changes 109 = .ok (.aload_n 0, 1) := dk_42 (dk_at dksX4_changes_4 16 rfl rfl)
theorem dX4_changes_110 : decode cX4_changes 110 = .ok (.getfield 80, 3) := dk_180 0 80 (dk_at dksX4_changes_4 17 rfl rfl)
theorem dX4_changes_113 : decode cX4_changes 113 = .ok (.iload_n 1, 1) := dk_27 (dk_at dksX4_changes_4 20 rfl rfl)
theorem dX4_changes_114 : decode cX4_changes 114 = .ok (.iaload, 1) := dk_46 (dk_at dksX4_changes_4 21 rfl rfl)
theorem dX4_changes_115 : decode cX4_changes 115 = .ok (.iaload, 1) := dk_46 (dk_at dksX4_changes_4 22 rfl rfl)
theorem dX4_changes_116 : decode cX4_changes 116 = .ok (.goto 17, 3) := dk_167 0 17 (dk_at dksX4_changes_5 0 rfl rfl)
theorem dX4_changes_119 : decode cX4_changes 119 = .ok (.aload_n 0, 1) := dk_42 (dk_at dksX4_changes_5 3 rfl rfl)
theorem dX4_changes_120 : decode cX4_changes 120 = .ok (.getfield 71, 3) := dk_180 0 71 (dk_at dksX4_changes_5 4 rfl rfl)
theorem dX4_changes_123 : decode cX4_changes 123 = .ok (.getfield 17, 3) := dk_180 0 17 (dk_at dksX4_changes_5 7 rfl rfl)
theorem dX4_changes_126 : decode cX4_changes 126 = .ok (.aload_n 0, 1) := dk_42 (dk_at dksX4_changes_5 10 rfl rfl)
theorem dX4_changes_127 : decode cX4_changes 127 = .ok (.getfield 80, 3) := dk_180 0 80 (dk_at dksX4_changes_5 11 rfl rfl)
theorem dX4_changes_130 : decode cX4_changes 130 = .ok (.iload_n 1, 1) := dk_27 (dk_at dksX4_changes_5 14 rfl rfl)
theorem dX4_changes_131 : decode cX4_changes 131 = .ok (.iaload, 1) := dk_46 (dk_at dksX4_changes_5 15 rfl rfl)
theorem dX4_changes_132 : decode cX4_changes 132 = .ok (.iaload, 1) := dk_46 (dk_at dksX4_changes_5 16 rfl rfl)
theorem dX4_changes_133 : decode cX4_changes 133 = .ok (.if_icmp .eq 6, 3) := dk_159 0 6 (dk_at dksX4_changes_5 17 rfl rfl)
theorem dX4_changes_136 : decode cX4_changes 136 = .ok (.bipush 99, 2) := dk_16 99 (dk_at dksX4_changes_5 20 rfl rfl)
theorem dX4_changes_138 : decode cX4_changes 138 = .ok (.ireturn, 1) := dk_172 (dk_at dksX4_changes_5 22 rfl rfl)
theorem dX4_changes_139 : decode cX4_changes 139 = .ok (.iload_n 3, 1) := dk_29 (dk_at dksX4_changes_5 23 rfl rfl)
theorem dX4_changes_140 : decode cX4_changes 140 = .ok (.ifCond .eq 12, 3) := dk_153 0 12 (dk_at dksX4_changes_6 0 rfl rfl)
theorem dX4_changes_143 : decode cX4_changes 143 = .ok (.aload_n 2, 1) := dk_44 (dk_at dksX4_changes_6 3 rfl rfl)
theorem dX4_changes_144 : decode cX4_changes 144 = .ok (.iload 5, 2) := dk_21 5 (dk_at dksX4_changes_6 4 rfl rfl)
theorem dX4_changes_146 : decode cX4_changes 146 = .ok (.putfield 275, 3) := dk_181 1 19 (dk_at dksX4_changes_6 6 rfl rfl)
theorem dX4_changes_149 : decode cX4_changes 149 = .ok (.goto 9, 3) := dk_167 0 9 (dk_at dksX4_changes_6 9 rfl rfl)
theorem dX4_changes_152 : decode cX4_changes 152 = .ok (.aload_n 2, 1) := dk_44 (dk_at dksX4_changes_6 12 rfl rfl)
theorem dX4_changes_153 : decode cX4_changes 153 = .ok (.iload 5, 2) := dk_21 5 (dk_at dksX4_changes_6 13 rfl rfl)
theorem dX4_changes_155 : decode cX4_changes 155 = .ok (.putfield 281, 3) := dk_181 1 25 (dk_at dksX4_changes_6 15 rfl rfl)
theorem dX4_changes_158 : decode cX4_changes 158 = .ok (.bipush 45, 2) := dk_16 45 (dk_at dksX4_changes_6 18 rfl rfl)
theorem dX4_changes_160 : decode cX4_changes 160 = .ok (.ireturn, 1) := dk_172 (dk_at dksX4_changes_6 20 rfl rfl)
abbrev cX4_putsIn : ByteArray := prog_20_method_68_code
def yX4_putsIn : MethodName := ⟨RX4, "putsIn", "(ILTreeDifferModel$Tree;)C"⟩
def dkwX4_putsIn_12 : List UInt8 := [172]
abbrev dktX4_putsIn_12 : List UInt8 := dkwX4_putsIn_12 ++ []
def dkwX4_putsIn_11 : List UInt8 := [42, 180, 0, 94, 29, 50, 21, 7, 182, 1, 29, 42, 89, 180, 1, 48, 21, 6, 96, 181, 1, 48, 16, 45]
abbrev dktX4_putsIn_11 : List UInt8 := dkwX4_putsIn_11 ++ dktX4_putsIn_12
def dkwX4_putsIn_10 : List UInt8 := [180, 0, 80, 27, 46, 182, 1, 41, 167, 0, 13, 42, 180, 0, 74, 29, 184, 1, 65, 3, 50, 83, 25, 5]
abbrev dktX4_putsIn_10 : List UInt8 := dkwX4_putsIn_10 ++ dktX4_putsIn_11
def dkwX4_putsIn_9 : List UInt8 := [132, 10, 1, 167, 255, 195, 42, 180, 0, 94, 29, 42, 180, 0, 77, 27, 52, 16, 109, 160, 0, 16, 42, 42]
abbrev dktX4_putsIn_9 : List UInt8 := dkwX4_putsIn_9 ++ dktX4_putsIn_10
def dkwX4_putsIn_8 : List UInt8 := [198, 0, 24, 25, 12, 180, 1, 57, 25, 5, 166, 0, 14, 25, 5, 25, 12, 182, 1, 61, 4, 96, 54, 7]
abbrev dktX4_putsIn_8 : List UInt8 := dkwX4_putsIn_8 ++ dktX4_putsIn_9
def dkwX4_putsIn_7 : List UInt8 := [46, 54, 11, 21, 11, 29, 162, 0, 12, 42, 21, 11, 182, 1, 54, 167, 0, 4, 1, 58, 12, 25, 12]
abbrev dktX4_putsIn_7 : List UInt8 := dkwX4_putsIn_7 ++ dktX4_putsIn_8
def dkwX4_putsIn_6 : List UInt8 := [182, 0, 173, 58, 8, 25, 8, 190, 54, 9, 3, 54, 10, 21, 10, 21, 9, 162, 0, 60, 25, 8, 21, 10]
abbrev dktX4_putsIn_6 : List UInt8 := dkwX4_putsIn_6 ++ dktX4_putsIn_7
def dkwX4_putsIn_5 : List UInt8 := [180, 1, 48, 21, 6, 96, 16, 20, 164, 0, 6, 16, 102, 172, 3, 54, 7, 42, 180, 0, 74, 21, 4]
abbrev dktX4_putsIn_5 : List UInt8 := dkwX4_putsIn_5 ++ dktX4_putsIn_6
def dkwX4_putsIn_4 : List UInt8 := [180, 0, 80, 27, 46, 46, 100, 167, 0, 13, 42, 180, 0, 74, 29, 182, 0, 1, 29, 100, 54, 6, 42]
abbrev dktX4_putsIn_4 : List UInt8 := dkwX4_putsIn_4 ++ dktX4_putsIn_5
def dkwX4_putsIn_3 : List UInt8 := [160, 0, 33, 44, 42, 180, 0, 65, 42, 180, 0, 80, 27, 46, 46, 182, 0, 1, 42, 180, 0, 65, 42]
abbrev dktX4_putsIn_3 : List UInt8 := dkwX4_putsIn_3 ++ dktX4_putsIn_4
def dkwX4_putsIn_2 : List UInt8 := [180, 0, 14, 29, 46, 182, 1, 51, 153, 0, 6, 16, 107, 172, 42, 180, 0, 77, 27, 52, 16, 109]
abbrev dktX4_putsIn_2 : List UInt8 := dkwX4_putsIn_2 ++ dktX4_putsIn_3
def dkwX4_putsIn_1 : List UInt8 := [21, 4, 46, 182, 1, 41, 58, 5, 25, 5, 199, 0, 6, 16, 103, 172, 25, 5, 42, 180, 0, 74]
abbrev dktX4_putsIn_1 : List UInt8 := dkwX4_putsIn_1 ++ dktX4_putsIn_2
def dkwX4_putsIn_0 : List UInt8 := [42, 180, 0, 83, 27, 46, 62, 42, 180, 0, 74, 180, 0, 7, 29, 46, 54, 4, 42, 42, 180, 0, 89]
abbrev dktX4_putsIn_0 : List UInt8 := dkwX4_putsIn_0 ++ dktX4_putsIn_1
theorem dksX4_putsIn_0 : cX4_putsIn.data.toList.drop 0 = dktX4_putsIn_0 := by decide +kernel
theorem dksX4_putsIn_1 : cX4_putsIn.data.toList.drop 23 = dktX4_putsIn_1 := dk_seg dksX4_putsIn_0 23 rfl rfl
theorem dksX4_putsIn_2 : cX4_putsIn.data.toList.drop 45 = dktX4_putsIn_2 := dk_seg dksX4_putsIn_1 22 rfl rfl
theorem dksX4_putsIn_3 : cX4_putsIn.data.toList.drop 67 = dktX4_putsIn_3 := dk_seg dksX4_putsIn_2 22 rfl rfl
theorem dksX4_putsIn_4 : cX4_putsIn.data.toList.drop 90 = dktX4_putsIn_4 := dk_seg dksX4_putsIn_3 23 rfl rfl
theorem dksX4_putsIn_5 : cX4_putsIn.data.toList.drop 113 = dktX4_putsIn_5 := dk_seg dksX4_putsIn_4 23 rfl rfl
theorem dksX4_putsIn_6 : cX4_putsIn.data.toList.drop 136 = dktX4_putsIn_6 := dk_seg dksX4_putsIn_5 23 rfl rfl
theorem dksX4_putsIn_7 : cX4_putsIn.data.toList.drop 160 = dktX4_putsIn_7 := dk_seg dksX4_putsIn_6 24 rfl rfl
theorem dksX4_putsIn_8 : cX4_putsIn.data.toList.drop 183 = dktX4_putsIn_8 := dk_seg dksX4_putsIn_7 23 rfl rfl
theorem dksX4_putsIn_9 : cX4_putsIn.data.toList.drop 207 = dktX4_putsIn_9 := dk_seg dksX4_putsIn_8 24 rfl rfl
theorem dksX4_putsIn_10 : cX4_putsIn.data.toList.drop 231 = dktX4_putsIn_10 := dk_seg dksX4_putsIn_9 24 rfl rfl
theorem dksX4_putsIn_11 : cX4_putsIn.data.toList.drop 255 = dktX4_putsIn_11 := dk_seg dksX4_putsIn_10 24 rfl rfl
theorem dksX4_putsIn_12 : cX4_putsIn.data.toList.drop 279 = dktX4_putsIn_12 := dk_seg dksX4_putsIn_11 24 rfl rfl
theorem dX4_putsIn_0 : decode cX4_putsIn 0 = .ok (.aload_n 0, 1) := dk_42 (dk_at dksX4_putsIn_0 0 rfl rfl)
theorem dX4_putsIn_1 : decode cX4_putsIn 1 = .ok (.getfield 83, 3) := dk_180 0 83 (dk_at dksX4_putsIn_0 1 rfl rfl)
theorem dX4_putsIn_4 : decode cX4_putsIn 4 = .ok (.iload_n 1, 1) := dk_27 (dk_at dksX4_putsIn_0 4 rfl rfl)
theorem dX4_putsIn_5 : decode cX4_putsIn 5 = .ok (.iaload, 1) := dk_46 (dk_at dksX4_putsIn_0 5 rfl rfl)
theorem dX4_putsIn_6 : decode cX4_putsIn 6 = .ok (.istore_n 3, 1) := dk_62 (dk_at dksX4_putsIn_0 6 rfl rfl)
theorem dX4_putsIn_7 : decode cX4_putsIn 7 = .ok (.aload_n 0, 1) := dk_42 (dk_at dksX4_putsIn_0 7 rfl rfl)
theorem dX4_putsIn_8 : decode cX4_putsIn 8 = .ok (.getfield 74, 3) := dk_180 0 74 (dk_at dksX4_putsIn_0 8 rfl rfl)
theorem dX4_putsIn_11 : decode cX4_putsIn 11 = .ok (.getfield 7, 3) := dk_180 0 7 (dk_at dksX4_putsIn_0 11 rfl rfl)
theorem dX4_putsIn_14 : decode cX4_putsIn 14 = .ok (.iload_n 3, 1) := dk_29 (dk_at dksX4_putsIn_0 14 rfl rfl)
theorem dX4_putsIn_15 : decode cX4_putsIn 15 = .ok (.iaload, 1) := dk_46 (dk_at dksX4_putsIn_0 15 rfl rfl)
theorem dX4_putsIn_16 : decode cX4_putsIn 16 = .ok (.istore 4, 2) := dk_54 4 (dk_at dksX4_putsIn_0 16 rfl rfl)
theorem dX4_putsIn_18 : decode cX4_putsIn 18 = .ok (.aload_n 0, 1) := dk_42 (dk_at dksX4_putsIn_0 18 rfl rfl)
theorem dX4_putsIn_19 : decode cX4_putsIn 19 = .ok (.aload_n 0, 1) := dk_42 (dk_at dksX4_putsIn_0 19 rfl rfl)
theorem dX4_putsIn_20 : decode cX4_putsIn 20 = .ok (.getfield 89, 3) := dk_180 0 89 (dk_at dksX4_putsIn_0 20 rfl rfl)
theorem dX4_putsIn_23 : decode cX4_putsIn 23 = .ok (.iload 4, 2) := dk_21 4 (dk_at dksX4_putsIn_1 0 rfl rfl)
theorem dX4_putsIn_25 : decode cX4_putsIn 25 = .ok (.iaload, 1) := dk_46 (dk_at dksX4_putsIn_1 2 rfl rfl)
theorem dX4_putsIn_26 : decode cX4_putsIn 26 = .ok (.invokevirtual 297, 3) := dk_182 1 41 (dk_at dksX4_putsIn_1 3 rfl rfl)
theorem dX4_putsIn_29 : decode cX4_putsIn 29 = .ok (.astore 5, 2) := dk_58 5 (dk_at dksX4_putsIn_1 6 rfl rfl)
theorem dX4_putsIn_31 : decode cX4_putsIn 31 = .ok (.aload 5, 2) := dk_25 5 (dk_at dksX4_putsIn_1 8 rfl rfl)
theorem dX4_putsIn_33 : decode cX4_putsIn 33 = .ok (.ifnonnull 6, 3) := dk_199 0 6 (dk_at dksX4_putsIn_1 10 rfl rfl)
theorem dX4_putsIn_36 : decode cX4_putsIn 36 = .ok (.bipush 103, 2) := dk_16 103 (dk_at dksX4_putsIn_1 13 rfl rfl)
theorem dX4_putsIn_38 : decode cX4_putsIn 38 = .ok (.ireturn, 1) := dk_172 (dk_at dksX4_putsIn_1 15 rfl rfl)
theorem dX4_putsIn_39 : decode cX4_putsIn 39 = .ok (.aload 5, 2) := dk_25 5 (dk_at dksX4_putsIn_1 16 rfl rfl)
theorem dX4_putsIn_41 : decode cX4_putsIn 41 = .ok (.aload_n 0, 1) := dk_42 (dk_at dksX4_putsIn_1 18 rfl rfl)
theorem dX4_putsIn_42 : decode cX4_putsIn 42 = .ok (.getfield 74, 3) := dk_180 0 74 (dk_at dksX4_putsIn_1 19 rfl rfl)
theorem dX4_putsIn_45 : decode cX4_putsIn 45 = .ok (.getfield 14, 3) := dk_180 0 14 (dk_at dksX4_putsIn_2 0 rfl rfl)
theorem dX4_putsIn_48 : decode cX4_putsIn 48 = .ok (.iload_n 3, 1) := dk_29 (dk_at dksX4_putsIn_2 3 rfl rfl)
theorem dX4_putsIn_49 : decode cX4_putsIn 49 = .ok (.iaload, 1) := dk_46 (dk_at dksX4_putsIn_2 4 rfl rfl)
theorem dX4_putsIn_50 : decode cX4_putsIn 50 = .ok (.invokevirtual 307, 3) := dk_182 1 51 (dk_at dksX4_putsIn_2 5 rfl rfl)
theorem dX4_putsIn_53 : decode cX4_putsIn 53 = .ok (.ifCond .eq 6, 3) := dk_153 0 6 (dk_at dksX4_putsIn_2 8 rfl rfl)
theorem dX4_putsIn_56 : decode cX4_putsIn 56 = .ok (.bipush 107, 2) := dk_16 107 (dk_at dksX4_putsIn_2 11 rfl rfl)
theorem dX4_putsIn_58 : decode cX4_putsIn 58 = .ok (.ireturn, 1) := dk_172 (dk_at dksX4_putsIn_2 13 rfl rfl)
theorem dX4_putsIn_59 : decode cX4_putsIn 59 = .ok (.aload_n 0, 1) := dk_42 (dk_at dksX4_putsIn_2 14 rfl rfl)
theorem dX4_putsIn_60 : decode cX4_putsIn 60 = .ok (.getfield 77, 3) := dk_180 0 77 (dk_at dksX4_putsIn_2 15 rfl rfl)
theorem dX4_putsIn_63 : decode cX4_putsIn 63 = .ok (.iload_n 1, 1) := dk_27 (dk_at dksX4_putsIn_2 18 rfl rfl)
theorem dX4_putsIn_64 : decode cX4_putsIn 64 = .ok (.caload, 1) := dk_52 (dk_at dksX4_putsIn_2 19 rfl rfl)
theorem dX4_putsIn_65 : decode cX4_putsIn 65 = .ok (.bipush 109, 2) := dk_16 109 (dk_at dksX4_putsIn_2 20 rfl rfl)
theorem dX4_putsIn_67 : decode cX4_putsIn 67 = .ok (.if_icmp .ne 33, 3) := dk_160 0 33 (dk_at dksX4_putsIn_3 0 rfl rfl)
theorem dX4_putsIn_70 : decode cX4_putsIn 70 = .ok (.aload_n 2, 1) := dk_44 (dk_at dksX4_putsIn_3 3 rfl rfl)
theorem dX4_putsIn_71 : decode cX4_putsIn 71 = .ok (.aload_n 0, 1) := dk_42 (dk_at dksX4_putsIn_3 4 rfl rfl)
theorem dX4_putsIn_72 : decode cX4_putsIn 72 = .ok (.getfield 65, 3) := dk_180 0 65 (dk_at dksX4_putsIn_3 5 rfl rfl)
theorem dX4_putsIn_75 : decode cX4_putsIn 75 = .ok (.aload_n 0, 1) := dk_42 (dk_at dksX4_putsIn_3 8 rfl rfl)
theorem dX4_putsIn_76 : decode cX4_putsIn 76 = .ok (.getfield 80, 3) := dk_180 0 80 (dk_at dksX4_putsIn_3 9 rfl rfl)
theorem dX4_putsIn_79 : decode cX4_putsIn 79 = .ok (.iload_n 1, 1) := dk_27 (dk_at dksX4_putsIn_3 12 rfl rfl)
theorem dX4_putsIn_80 : decode cX4_putsIn 80 = .ok (.iaload, 1) := dk_46 (dk_at dksX4_putsIn_3 13 rfl rfl)
theorem dX4_putsIn_81 : decode cX4_putsIn 81 = .ok (.iaload, 1) := dk_46 (dk_at dksX4_putsIn_3 14 rfl rfl)
theorem dX4_putsIn_82 : decode cX4_putsIn 82 = .ok (.invokevirtual 1, 3) := dk_182 0 1 (dk_at dksX4_putsIn_3 15 rfl rfl)
theorem dX4_putsIn_85 : decode cX4_putsIn 85 = .ok (.aload_n 0, 1) := dk_42 (dk_at dksX4_putsIn_3 18 rfl rfl)
theorem dX4_putsIn_86 : decode cX4_putsIn 86 = .ok (.getfield 65, 3) := dk_180 0 65 (dk_at dksX4_putsIn_3 19 rfl rfl)
theorem dX4_putsIn_89 : decode cX4_putsIn 89 = .ok (.aload_n 0, 1) := dk_42 (dk_at dksX4_putsIn_3 22 rfl rfl)
theorem dX4_putsIn_90 : decode cX4_putsIn 90 = .ok (.getfield 80, 3) := dk_180 0 80 (dk_at dksX4_putsIn_4 0 rfl rfl)
theorem dX4_putsIn_93 : decode cX4_putsIn 93 = .ok (.iload_n 1, 1) := dk_27 (dk_at dksX4_putsIn_4 3 rfl rfl)
theorem dX4_putsIn_94 : decode cX4_putsIn 94 = .ok (.iaload, 1) := dk_46 (dk_at dksX4_putsIn_4 4 rfl rfl)
theorem dX4_putsIn_95 : decode cX4_putsIn 95 = .ok (.iaload, 1) := dk_46 (dk_at dksX4_putsIn_4 5 rfl rfl)
theorem dX4_putsIn_96 : decode cX4_putsIn 96 = .ok (.isub, 1) := dk_100 (dk_at dksX4_putsIn_4 6 rfl rfl)
theorem dX4_putsIn_97 : decode cX4_putsIn 97 = .ok (.goto 13, 3) := dk_167 0 13 (dk_at dksX4_putsIn_4 7 rfl rfl)
theorem dX4_putsIn_100 : decode cX4_putsIn 100 = .ok (.aload_n 0, 1) := dk_42 (dk_at dksX4_putsIn_4 10 rfl rfl)
theorem dX4_putsIn_101 : decode cX4_putsIn 101 = .ok (.getfield 74, 3) := dk_180 0 74 (dk_at dksX4_putsIn_4 11 rfl rfl)
theorem dX4_putsIn_104 : decode cX4_putsIn 104 = .ok (.iload_n 3, 1) := dk_29 (dk_at dksX4_putsIn_4 14 rfl rfl)
theorem dX4_putsIn_105 : decode cX4_putsIn 105 = .ok (.invokevirtual 1, 3) := dk_182 0 1 (dk_at dksX4_putsIn_4 15 rfl rfl)
theorem dX4_putsIn_108 : decode cX4_putsIn 108 = .ok (.iload_n 3, 1) := dk_29 (dk_at dksX4_putsIn_4 18 rfl rfl)
theorem dX4_putsIn_109 : decode cX4_putsIn 109 = .ok (.isub, 1) := dk_100 (dk_at dksX4_putsIn_4 19 rfl rfl)
theorem dX4_putsIn_110 : decode cX4_putsIn 110 = .ok (.istore 6, 2) := dk_54 6 (dk_at dksX4_putsIn_4 20 rfl rfl)
theorem dX4_putsIn_112 : decode cX4_putsIn 112 = .ok (.aload_n 0, 1) := dk_42 (dk_at dksX4_putsIn_4 22 rfl rfl)
theorem dX4_putsIn_113 : decode cX4_putsIn 113 = .ok (.getfield 304, 3) := dk_180 1 48 (dk_at dksX4_putsIn_5 0 rfl rfl)
theorem dX4_putsIn_116 : decode cX4_putsIn 116 = .ok (.iload 6, 2) := dk_21 6 (dk_at dksX4_putsIn_5 3 rfl rfl)
theorem dX4_putsIn_118 : decode cX4_putsIn 118 = .ok (.iadd, 1) := dk_96 (dk_at dksX4_putsIn_5 5 rfl rfl)
theorem dX4_putsIn_119 : decode cX4_putsIn 119 = .ok (.bipush 20, 2) := dk_16 20 (dk_at dksX4_putsIn_5 6 rfl rfl)
theorem dX4_putsIn_121 : decode cX4_putsIn 121 = .ok (.if_icmp .le 6, 3) := dk_164 0 6 (dk_at dksX4_putsIn_5 8 rfl rfl)
theorem dX4_putsIn_124 : decode cX4_putsIn 124 = .ok (.bipush 102, 2) := dk_16 102 (dk_at dksX4_putsIn_5 11 rfl rfl)
theorem dX4_putsIn_126 : decode cX4_putsIn 126 = .ok (.ireturn, 1) := dk_172 (dk_at dksX4_putsIn_5 13 rfl rfl)
theorem dX4_putsIn_127 : decode cX4_putsIn 127 = .ok (.iconst 0, 1) := dk_3 (dk_at dksX4_putsIn_5 14 rfl rfl)
theorem dX4_putsIn_128 : decode cX4_putsIn 128 = .ok (.istore 7, 2) := dk_54 7 (dk_at dksX4_putsIn_5 15 rfl rfl)
theorem dX4_putsIn_130 : decode cX4_putsIn 130 = .ok (.aload_n 0, 1) := dk_42 (dk_at dksX4_putsIn_5 17 rfl rfl)
theorem dX4_putsIn_131 : decode cX4_putsIn 131 = .ok (.getfield 74, 3) := dk_180 0 74 (dk_at dksX4_putsIn_5 18 rfl rfl)
theorem dX4_putsIn_134 : decode cX4_putsIn 134 = .ok (.iload 4, 2) := dk_21 4 (dk_at dksX4_putsIn_5 21 rfl rfl)
theorem dX4_putsIn_136 : decode cX4_putsIn 136 = .ok (.invokevirtual 173, 3) := dk_182 0 173 (dk_at dksX4_putsIn_6 0 rfl rfl)
theorem dX4_putsIn_139 : decode cX4_putsIn 139 = .ok (.astore 8, 2) := dk_58 8 (dk_at dksX4_putsIn_6 3 rfl rfl)
theorem dX4_putsIn_141 : decode cX4_putsIn 141 = .ok (.aload 8, 2) := dk_25 8 (dk_at dksX4_putsIn_6 5 rfl rfl)
theorem dX4_putsIn_143 : decode cX4_putsIn 143 = .ok (.arraylength, 1) := dk_190 (dk_at dksX4_putsIn_6 7 rfl rfl)
theorem dX4_putsIn_144 : decode cX4_putsIn 144 = .ok (.istore 9, 2) := dk_54 9 (dk_at dksX4_putsIn_6 8 rfl rfl)
theorem dX4_putsIn_146 : decode cX4_putsIn 146 = .ok (.iconst 0, 1) := dk_3 (dk_at dksX4_putsIn_6 10 rfl rfl)
theorem dX4_putsIn_147 : decode cX4_putsIn 147 = .ok (.istore 10, 2) := dk_54 10 (dk_at dksX4_putsIn_6 11 rfl rfl)
theorem dX4_putsIn_149 : decode cX4_putsIn 149 = .ok (.iload 10, 2) := dk_21 10 (dk_at dksX4_putsIn_6 13 rfl rfl)
theorem dX4_putsIn_151 : decode cX4_putsIn 151 = .ok (.iload 9, 2) := dk_21 9 (dk_at dksX4_putsIn_6 15 rfl rfl)
theorem dX4_putsIn_153 : decode cX4_putsIn 153 = .ok (.if_icmp .ge 60, 3) := dk_162 0 60 (dk_at dksX4_putsIn_6 17 rfl rfl)
theorem dX4_putsIn_156 : decode cX4_putsIn 156 = .ok (.aload 8, 2) := dk_25 8 (dk_at dksX4_putsIn_6 20 rfl rfl)
theorem dX4_putsIn_158 : decode cX4_putsIn 158 = .ok (.iload 10, 2) := dk_21 10 (dk_at dksX4_putsIn_6 22 rfl rfl)
theorem dX4_putsIn_160 : decode cX4_putsIn 160 = .ok (.iaload, 1) := dk_46 (dk_at dksX4_putsIn_7 0 rfl rfl)
theorem dX4_putsIn_161 : decode cX4_putsIn 161 = .ok (.istore 11, 2) := dk_54 11 (dk_at dksX4_putsIn_7 1 rfl rfl)
theorem dX4_putsIn_163 : decode cX4_putsIn 163 = .ok (.iload 11, 2) := dk_21 11 (dk_at dksX4_putsIn_7 3 rfl rfl)
theorem dX4_putsIn_165 : decode cX4_putsIn 165 = .ok (.iload_n 3, 1) := dk_29 (dk_at dksX4_putsIn_7 5 rfl rfl)
theorem dX4_putsIn_166 : decode cX4_putsIn 166 = .ok (.if_icmp .ge 12, 3) := dk_162 0 12 (dk_at dksX4_putsIn_7 6 rfl rfl)
theorem dX4_putsIn_169 : decode cX4_putsIn 169 = .ok (.aload_n 0, 1) := dk_42 (dk_at dksX4_putsIn_7 9 rfl rfl)
theorem dX4_putsIn_170 : decode cX4_putsIn 170 = .ok (.iload 11, 2) := dk_21 11 (dk_at dksX4_putsIn_7 10 rfl rfl)
theorem dX4_putsIn_172 : decode cX4_putsIn 172 = .ok (.invokevirtual 310, 3) := dk_182 1 54 (dk_at dksX4_putsIn_7 12 rfl rfl)
theorem dX4_putsIn_175 : decode cX4_putsIn 175 = .ok (.goto 4, 3) := dk_167 0 4 (dk_at dksX4_putsIn_7 15 rfl rfl)
theorem dX4_putsIn_178 : decode cX4_putsIn 178 = .ok (.aconst_null, 1) := dk_1 (dk_at dksX4_putsIn_7 18 rfl rfl)
theorem dX4_putsIn_179 : decode cX4_putsIn 179 = .ok (.astore 12, 2) := dk_58 12 (dk_at dksX4_putsIn_7 19 rfl rfl)
theorem dX4_putsIn_181 : decode cX4_putsIn 181 = .ok (.aload 12, 2) := dk_25 12 (dk_at dksX4_putsIn_7 21 rfl rfl)
theorem dX4_putsIn_183 : decode cX4_putsIn 183 = .ok (.ifnull 24, 3) := dk_198 0 24 (dk_at dksX4_putsIn_8 0 rfl rfl)
theorem dX4_putsIn_186 : decode cX4_putsIn 186 = .ok (.aload 12, 2) := dk_25 12 (dk_at dksX4_putsIn_8 3 rfl rfl)
theorem dX4_putsIn_188 : decode cX4_putsIn 188 = .ok (.getfield 313, 3) := dk_180 1 57 (dk_at dksX4_putsIn_8 5 rfl rfl)
theorem dX4_putsIn_191 : decode cX4_putsIn 191 = .ok (.aload 5, 2) := dk_25 5 (dk_at dksX4_putsIn_8 8 rfl rfl)
theorem dX4_putsIn_193 : decode cX4_putsIn 193 = .ok (.if_acmp .ne 14, 3) := dk_166 0 14 (dk_at dksX4_putsIn_8 10 rfl rfl)
theorem dX4_putsIn_196 : decode cX4_putsIn 196 = .ok (.aload 5, 2) := dk_25 5 (dk_at dksX4_putsIn_8 13 rfl rfl)
theorem dX4_putsIn_198 : decode cX4_putsIn 198 = .ok (.aload 12, 2) := dk_25 12 (dk_at dksX4_putsIn_8 15 rfl rfl)
theorem dX4_putsIn_200 : decode cX4_putsIn 200 = .ok (.invokevirtual 317, 3) := dk_182 1 61 (dk_at dksX4_putsIn_8 17 rfl rfl)
theorem dX4_putsIn_203 : decode cX4_putsIn 203 = .ok (.iconst 1, 1) := dk_4 (dk_at dksX4_putsIn_8 20 rfl rfl)
theorem dX4_putsIn_204 : decode cX4_putsIn 204 = .ok (.iadd, 1) := dk_96 (dk_at dksX4_putsIn_8 21 rfl rfl)
theorem dX4_putsIn_205 : decode cX4_putsIn 205 = .ok (.istore 7, 2) := dk_54 7 (dk_at dksX4_putsIn_8 22 rfl rfl)
theorem dX4_putsIn_207 : decode cX4_putsIn 207 = .ok (.iinc 10 1, 3) := dk_132 10 1 (dk_at dksX4_putsIn_9 0 rfl rfl)
theorem dX4_putsIn_210 : decode cX4_putsIn 210 = .ok (.goto (-61), 3) := dk_167 255 195 (dk_at dksX4_putsIn_9 3 rfl rfl)
theorem dX4_putsIn_213 : decode cX4_putsIn 213 = .ok (.aload_n 0, 1) := dk_42 (dk_at dksX4_putsIn_9 6 rfl rfl)
theorem dX4_putsIn_214 : decode cX4_putsIn 214 = .ok (.getfield 94, 3) := dk_180 0 94 (dk_at dksX4_putsIn_9 7 rfl rfl)
theorem dX4_putsIn_217 : decode cX4_putsIn 217 = .ok (.iload_n 3, 1) := dk_29 (dk_at dksX4_putsIn_9 10 rfl rfl)
theorem dX4_putsIn_218 : decode cX4_putsIn 218 = .ok (.aload_n 0, 1) := dk_42 (dk_at dksX4_putsIn_9 11 rfl rfl)
theorem dX4_putsIn_219 : decode cX4_putsIn 219 = .ok (.getfield 77, 3) := dk_180 0 77 (dk_at dksX4_putsIn_9 12 rfl rfl)
theorem dX4_putsIn_222 : decode cX4_putsIn 222 = .ok (.iload_n 1, 1) := dk_27 (dk_at dksX4_putsIn_9 15 rfl rfl)
theorem dX4_putsIn_223 : decode cX4_putsIn 223 = .ok (.caload, 1) := dk_52 (dk_at dksX4_putsIn_9 16 rfl rfl)
theorem dX4_putsIn_224 : decode cX4_putsIn 224 = .ok (.bipush 109, 2) := dk_16 109 (dk_at dksX4_putsIn_9 17 rfl rfl)
theorem dX4_putsIn_226 : decode cX4_putsIn 226 = .ok (.if_icmp .ne 16, 3) := dk_160 0 16 (dk_at dksX4_putsIn_9 19 rfl rfl)
theorem dX4_putsIn_229 : decode cX4_putsIn 229 = .ok (.aload_n 0, 1) := dk_42 (dk_at dksX4_putsIn_9 22 rfl rfl)
theorem dX4_putsIn_230 : decode cX4_putsIn 230 = .ok (.aload_n 0, 1) := dk_42 (dk_at dksX4_putsIn_9 23 rfl rfl)
theorem dX4_putsIn_231 : decode cX4_putsIn 231 = .ok (.getfield 80, 3) := dk_180 0 80 (dk_at dksX4_putsIn_10 0 rfl rfl)
theorem dX4_putsIn_234 : decode cX4_putsIn 234 = .ok (.iload_n 1, 1) := dk_27 (dk_at dksX4_putsIn_10 3 rfl rfl)
theorem dX4_putsIn_235 : decode cX4_putsIn 235 = .ok (.iaload, 1) := dk_46 (dk_at dksX4_putsIn_10 4 rfl rfl)
theorem dX4_putsIn_236 : decode cX4_putsIn 236 = .ok (.invokevirtual 297, 3) := dk_182 1 41 (dk_at dksX4_putsIn_10 5 rfl rfl)
theorem dX4_putsIn_239 : decode cX4_putsIn 239 = .ok (.goto 13, 3) := dk_167 0 13 (dk_at dksX4_putsIn_10 8 rfl rfl)
theorem dX4_putsIn_242 : decode cX4_putsIn 242 = .ok (.aload_n 0, 1) := dk_42 (dk_at dksX4_putsIn_10 11 rfl rfl)
theorem dX4_putsIn_243 : decode cX4_putsIn 243 = .ok (.getfield 74, 3) := dk_180 0 74 (dk_at dksX4_putsIn_10 12 rfl rfl)
theorem dX4_putsIn_246 : decode cX4_putsIn 246 = .ok (.iload_n 3, 1) := dk_29 (dk_at dksX4_putsIn_10 15 rfl rfl)
theorem dX4_putsIn_247 : decode cX4_putsIn 247 = .ok (.invokestatic 321, 3) := dk_184 1 65 (dk_at dksX4_putsIn_10 16 rfl rfl)
theorem dX4_putsIn_250 : decode cX4_putsIn 250 = .ok (.iconst 0, 1) := dk_3 (dk_at dksX4_putsIn_10 19 rfl rfl)
theorem dX4_putsIn_251 : decode cX4_putsIn 251 = .ok (.aaload, 1) := dk_50 (dk_at dksX4_putsIn_10 20 rfl rfl)
theorem dX4_putsIn_252 : decode cX4_putsIn 252 = .ok (.aastore, 1) := dk_83 (dk_at dksX4_putsIn_10 21 rfl rfl)
theorem dX4_putsIn_253 : decode cX4_putsIn 253 = .ok (.aload 5, 2) := dk_25 5 (dk_at dksX4_putsIn_10 22 rfl rfl)
theorem dX4_putsIn_255 : decode cX4_putsIn 255 = .ok (.aload_n 0, 1) := dk_42 (dk_at dksX4_putsIn_11 0 rfl rfl)
theorem dX4_putsIn_256 : decode cX4_putsIn 256 = .ok (.getfield 94, 3) := dk_180 0 94 (dk_at dksX4_putsIn_11 1 rfl rfl)
theorem dX4_putsIn_259 : decode cX4_putsIn 259 = .ok (.iload_n 3, 1) := dk_29 (dk_at dksX4_putsIn_11 4 rfl rfl)
theorem dX4_putsIn_260 : decode cX4_putsIn 260 = .ok (.aaload, 1) := dk_50 (dk_at dksX4_putsIn_11 5 rfl rfl)
theorem dX4_putsIn_261 : decode cX4_putsIn 261 = .ok (.iload 7, 2) := dk_21 7 (dk_at dksX4_putsIn_11 6 rfl rfl)
theorem dX4_putsIn_263 : decode cX4_putsIn 263 = .ok (.invokevirtual 285, 3) := dk_182 1 29 (dk_at dksX4_putsIn_11 8 rfl rfl)
theorem dX4_putsIn_266 : decode cX4_putsIn 266 = .ok (.aload_n 0, 1) := dk_42 (dk_at dksX4_putsIn_11 11 rfl rfl)
theorem dX4_putsIn_267 : decode cX4_putsIn 267 = .ok (.dup, 1) := dk_89 (dk_at dksX4_putsIn_11 12 rfl rfl)
theorem dX4_putsIn_268 : decode cX4_putsIn 268 = .ok (.getfield 304, 3) := dk_180 1 48 (dk_at dksX4_putsIn_11 13 rfl rfl)
theorem dX4_putsIn_271 : decode cX4_putsIn 271 = .ok (.iload 6, 2) := dk_21 6 (dk_at dksX4_putsIn_11 16 rfl rfl)
theorem dX4_putsIn_273 : decode cX4_putsIn 273 = .ok (.iadd, 1) := dk_96 (dk_at dksX4_putsIn_11 18 rfl rfl)
theorem dX4_putsIn_274 : decode cX4_putsIn 274 = .ok (.putfield 304, 3) := dk_181 1 48 (dk_at dksX4_putsIn_11 19 rfl rfl)
theorem dX4_putsIn_277 : decode cX4_putsIn 277 = .ok (.bipush 45, 2) := dk_16 45 (dk_at dksX4_putsIn_11 22 rfl rfl)
theorem dX4_putsIn_279 : decode cX4_putsIn 279 = .ok (.ireturn, 1) := dk_172 (dk_at dksX4_putsIn_12 0 rfl rfl)
abbrev cX4_counterpart : ByteArray := prog_20_method_67_code
def yX4_counterpart : MethodName := ⟨RX4, "counterpart", "(I)LTreeDifferModel$Item;"⟩
def dkwX4_counterpart_1 : List UInt8 := [180, 0, 94, 27, 50, 176]
abbrev dktX4_counterpart_1 : List UInt8 := dkwX4_counterpart_1 ++ []
def dkwX4_counterpart_0 : List UInt8 := [42, 180, 0, 89, 27, 46, 155, 0, 16, 42, 42, 180, 0, 89, 27, 46, 182, 1, 41, 167, 0, 9, 42]
abbrev dktX4_counterpart_0 : List UInt8 := dkwX4_counterpart_0 ++ dktX4_counterpart_1
theorem dksX4_counterpart_0 : cX4_counterpart.data.toList.drop 0 = dktX4_counterpart_0 := by decide +kernel
theorem dksX4_counterpart_1 : cX4_counterpart.data.toList.drop 23 = dktX4_counterpart_1 := dk_seg dksX4_counterpart_0 23 rfl rfl
theorem dX4_counterpart_0 : decode cX4_counterpart 0 = .ok (.aload_n 0, 1) := dk_42 (dk_at dksX4_counterpart_0 0 rfl rfl)
theorem dX4_counterpart_1 : decode cX4_counterpart 1 = .ok (.getfield 89, 3) := dk_180 0 89 (dk_at dksX4_counterpart_0 1 rfl rfl)
theorem dX4_counterpart_4 : decode cX4_counterpart 4 = .ok (.iload_n 1, 1) := dk_27 (dk_at dksX4_counterpart_0 4 rfl rfl)
theorem dX4_counterpart_5 : decode cX4_counterpart 5 = .ok (.iaload, 1) := dk_46 (dk_at dksX4_counterpart_0 5 rfl rfl)
theorem dX4_counterpart_6 : decode cX4_counterpart 6 = .ok (.ifCond .lt 16, 3) := dk_155 0 16 (dk_at dksX4_counterpart_0 6 rfl rfl)
theorem dX4_counterpart_9 : decode cX4_counterpart 9 = .ok (.aload_n 0, 1) := dk_42 (dk_at dksX4_counterpart_0 9 rfl rfl)
theorem dX4_counterpart_10 : decode cX4_counterpart 10 = .ok (.aload_n 0, 1) := dk_42 (dk_at dksX4_counterpart_0 10 rfl rfl)
theorem dX4_counterpart_11 : decode cX4_counterpart 11 = .ok (.getfield 89, 3) := dk_180 0 89 (dk_at dksX4_counterpart_0 11 rfl rfl)
theorem dX4_counterpart_14 : decode cX4_counterpart 14 = .ok (.iload_n 1, 1) := dk_27 (dk_at dksX4_counterpart_0 14 rfl rfl)
theorem dX4_counterpart_15 : decode cX4_counterpart 15 = .ok (.iaload, 1) := dk_46 (dk_at dksX4_counterpart_0 15 rfl rfl)
theorem dX4_counterpart_16 : decode cX4_counterpart 16 = .ok (.invokevirtual 297, 3) := dk_182 1 41 (dk_at dksX4_counterpart_0 16 rfl rfl)
theorem dX4_counterpart_19 : decode cX4_counterpart 19 = .ok (.goto 9, 3) := dk_167 0 9 (dk_at dksX4_counterpart_0 19 rfl rfl)
theorem dX4_counterpart_22 : decode cX4_counterpart 22 = .ok (.aload_n 0, 1) := dk_42 (dk_at dksX4_counterpart_0 22 rfl rfl)
theorem dX4_counterpart_23 : decode cX4_counterpart 23 = .ok (.getfield 94, 3) := dk_180 0 94 (dk_at dksX4_counterpart_1 0 rfl rfl)
theorem dX4_counterpart_26 : decode cX4_counterpart 26 = .ok (.iload_n 1, 1) := dk_27 (dk_at dksX4_counterpart_1 3 rfl rfl)
theorem dX4_counterpart_27 : decode cX4_counterpart 27 = .ok (.aaload, 1) := dk_50 (dk_at dksX4_counterpart_1 4 rfl rfl)
theorem dX4_counterpart_28 : decode cX4_counterpart 28 = .ok (.areturn, 1) := dk_176 (dk_at dksX4_counterpart_1 5 rfl rfl)
abbrev cX4_flattens : ByteArray := prog_20_method_63_code
def yX4_flattens : MethodName := ⟨RX4, "flattens", "(LTreeDifferModel$Item;I)V"⟩
def dkwX4_flattens_2 : List UInt8 := [29, 182, 1, 35, 132, 4, 1, 167, 255, 232, 177]
abbrev dktX4_flattens_2 : List UInt8 := dkwX4_flattens_2 ++ []
def dkwX4_flattens_1 : List UInt8 := [28, 182, 0, 101, 3, 54, 4, 21, 4, 43, 180, 1, 28, 162, 0, 21, 42, 43, 180, 1, 33, 21, 4, 50]
abbrev dktX4_flattens_1 : List UInt8 := dkwX4_flattens_1 ++ dktX4_flattens_2
def dkwX4_flattens_0 : List UInt8 := [42, 180, 0, 47, 180, 0, 116, 62, 42, 180, 0, 47, 43, 180, 1, 19, 43, 180, 1, 22, 43, 180, 1, 25]
abbrev dktX4_flattens_0 : List UInt8 := dkwX4_flattens_0 ++ dktX4_flattens_1
theorem dksX4_flattens_0 : cX4_flattens.data.toList.drop 0 = dktX4_flattens_0 := by decide +kernel
theorem dksX4_flattens_1 : cX4_flattens.data.toList.drop 24 = dktX4_flattens_1 := dk_seg dksX4_flattens_0 24 rfl rfl
theorem dksX4_flattens_2 : cX4_flattens.data.toList.drop 48 = dktX4_flattens_2 := dk_seg dksX4_flattens_1 24 rfl rfl
theorem dX4_flattens_0 : decode cX4_flattens 0 = .ok (.aload_n 0, 1) := dk_42 (dk_at dksX4_flattens_0 0 rfl rfl)
theorem dX4_flattens_1 : decode cX4_flattens 1 = .ok (.getfield 47, 3) := dk_180 0 47 (dk_at dksX4_flattens_0 1 rfl rfl)
theorem dX4_flattens_4 : decode cX4_flattens 4 = .ok (.getfield 116, 3) := dk_180 0 116 (dk_at dksX4_flattens_0 4 rfl rfl)
theorem dX4_flattens_7 : decode cX4_flattens 7 = .ok (.istore_n 3, 1) := dk_62 (dk_at dksX4_flattens_0 7 rfl rfl)
theorem dX4_flattens_8 : decode cX4_flattens 8 = .ok (.aload_n 0, 1) := dk_42 (dk_at dksX4_flattens_0 8 rfl rfl)
theorem dX4_flattens_9 : decode cX4_flattens 9 = .ok (.getfield 47, 3) := dk_180 0 47 (dk_at dksX4_flattens_0 9 rfl rfl)
theorem dX4_flattens_12 : decode cX4_flattens 12 = .ok (.aload_n 1, 1) := dk_43 (dk_at dksX4_flattens_0 12 rfl rfl)
theorem dX4_flattens_13 : decode cX4_flattens 13 = .ok (.getfield 275, 3) := dk_180 1 19 (dk_at dksX4_flattens_0 13 rfl rfl)
theorem dX4_flattens_16 : decode cX4_flattens 16 = .ok (.aload_n 1, 1) := dk_43 (dk_at dksX4_flattens_0 16 rfl rfl)
theorem dX4_flattens_17 : decode cX4_flattens 17 = .ok (.getfield 278, 3) := dk_180 1 22 (dk_at dksX4_flattens_0 17 rfl rfl)
theorem dX4_flattens_20 : decode cX4_flattens 20 = .ok (.aload_n 1, 1) := dk_43 (dk_at dksX4_flattens_0 20 rfl rfl)
theorem dX4_flattens_21 : decode cX4_flattens 21 = .ok (.getfield 281, 3) := dk_180 1 25 (dk_at dksX4_flattens_0 21 rfl rfl)
theorem dX4_flattens_24 : decode cX4_flattens 24 = .ok (.iload_n 2, 1) := dk_28 (dk_at dksX4_flattens_1 0 rfl rfl)
theorem dX4_flattens_25 : decode cX4_flattens 25 = .ok (.invokevirtual 101, 3) := dk_182 0 101 (dk_at dksX4_flattens_1 1 rfl rfl)
theorem dX4_flattens_28 : decode cX4_flattens 28 = .ok (.iconst 0, 1) := dk_3 (dk_at dksX4_flattens_1 4 rfl rfl)
theorem dX4_flattens_29 : decode cX4_flattens 29 = .ok (.istore 4, 2) := dk_54 4 (dk_at dksX4_flattens_1 5 rfl rfl)
theorem dX4_flattens_31 : decode cX4_flattens 31 = .ok (.iload 4, 2) := dk_21 4 (dk_at dksX4_flattens_1 7 rfl rfl)
theorem dX4_flattens_33 : decode cX4_flattens 33 = .ok (.aload_n 1, 1) := dk_43 (dk_at dksX4_flattens_1 9 rfl rfl)
theorem dX4_flattens_34 : decode cX4_flattens 34 = .ok (.getfield 284, 3) := dk_180 1 28 (dk_at dksX4_flattens_1 10 rfl rfl)
theorem dX4_flattens_37 : decode cX4_flattens 37 = .ok (.if_icmp .ge 21, 3) := dk_162 0 21 (dk_at dksX4_flattens_1 13 rfl rfl)
theorem dX4_flattens_40 : decode cX4_flattens 40 = .ok (.aload_n 0, 1) := dk_42 (dk_at dksX4_flattens_1 16 rfl rfl)
theorem dX4_flattens_41 : decode cX4_flattens 41 = .ok (.aload_n 1, 1) := dk_43 (dk_at dksX4_flattens_1 17 rfl rfl)
theorem dX4_flattens_42 : decode cX4_flattens 42 = .ok (.getfield 289, 3) := dk_180 1 33 (dk_at dksX4_flattens_1 18 rfl rfl)
theorem dX4_flattens_45 : decode cX4_flattens 45 = .ok (.iload 4, 2) := dk_21 4 (dk_at dksX4_flattens_1 21 rfl rfl)
theorem dX4_flattens_47 : decode cX4_flattens 47 = .ok (.aaload, 1) := dk_50 (dk_at dksX4_flattens_1 23 rfl rfl)
theorem dX4_flattens_48 : decode cX4_flattens 48 = .ok (.iload_n 3, 1) := dk_29 (dk_at dksX4_flattens_2 0 rfl rfl)
theorem dX4_flattens_49 : decode cX4_flattens 49 = .ok (.invokevirtual 291, 3) := dk_182 1 35 (dk_at dksX4_flattens_2 1 rfl rfl)
theorem dX4_flattens_52 : decode cX4_flattens 52 = .ok (.iinc 4 1, 3) := dk_132 4 1 (dk_at dksX4_flattens_2 4 rfl rfl)
theorem dX4_flattens_55 : decode cX4_flattens 55 = .ok (.goto (-24), 3) := dk_167 255 232 (dk_at dksX4_flattens_2 7 rfl rfl)
theorem dX4_flattens_58 : decode cX4_flattens 58 = .ok (.return_, 1) := dk_177 (dk_at dksX4_flattens_2 10 rfl rfl)
abbrev cX4_patch : ByteArray := prog_20_method_72_code
def yX4_patch : MethodName := ⟨RX4, "patch", "(I)I"⟩
def dkwX4_patch_3 : List UInt8 := [50, 42, 180, 0, 47, 182, 0, 157, 42, 180, 0, 47, 180, 0, 116, 172]
abbrev dktX4_patch_3 : List UInt8 := dkwX4_patch_3 ++ []
def dkwX4_patch_2 : List UInt8 := [42, 28, 181, 0, 98, 42, 42, 180, 1, 83, 181, 1, 91, 42, 6, 182, 0, 126, 172, 42, 180, 0, 27, 27]
abbrev dktX4_patch_2 : List UInt8 := dkwX4_patch_2 ++ dktX4_patch_3
def dkwX4_patch_1 : List UInt8 := [154, 0, 9, 42, 5, 182, 0, 126, 172, 42, 42, 180, 0, 27, 27, 50, 182, 1, 87, 61, 28, 155, 0, 22]
abbrev dktX4_patch_1 : List UInt8 := dkwX4_patch_1 ++ dktX4_patch_2
def dkwX4_patch_0 : List UInt8 := [42, 3, 181, 0, 105, 27, 184, 0, 112, 154, 0, 9, 42, 4, 182, 0, 126, 172, 42, 180, 0, 192]
abbrev dktX4_patch_0 : List UInt8 := dkwX4_patch_0 ++ dktX4_patch_1
theorem dksX4_patch_0 : cX4_patch.data.toList.drop 0 = dktX4_patch_0 := by decide +kernel
theorem dksX4_patch_1 : cX4_patch.data.toList.drop 22 = dktX4_patch_1 := dk_seg dksX4_patch_0 22 rfl rfl
theorem dksX4_patch_2 : cX4_patch.data.toList.drop 46 = dktX4_patch_2 := dk_seg dksX4_patch_1 24 rfl rfl
theorem dksX4_patch_3 : cX4_patch.data.toList.drop 70 = dktX4_patch_3 := dk_seg dksX4_patch_2 24 rfl rfl
theorem dX4_patch_0 : decode cX4_patch 0 = .ok (.aload_n 0, 1) := dk_42 (dk_at dksX4_patch_0 0 rfl rfl)
theorem dX4_patch_1 : decode cX4_patch 1 = .ok (.iconst 0, 1) := dk_3 (dk_at dksX4_patch_0 1 rfl rfl)
theorem dX4_patch_2 : decode cX4_patch 2 = .ok (.putfield 105, 3) := dk_181 0 105 (dk_at dksX4_patch_0 2 rfl rfl)
theorem dX4_patch_5 : decode cX4_patch 5 = .ok (.iload_n 1, 1) := dk_27 (dk_at dksX4_patch_0 5 rfl rfl)
theorem dX4_patch_6 : decode cX4_patch 6 = .ok (.invokestatic 112, 3) := dk_184 0 112 (dk_at dksX4_patch_0 6 rfl rfl)
theorem dX4_patch_9 : decode cX4_patch 9 = .ok (.ifCond .ne 9, 3) := dk_154 0 9 (dk_at dksX4_patch_0 9 rfl rfl)
theorem dX4_patch_12 : decode cX4_patch 12 = .ok (.aload_n 0, 1) := dk_42 (dk_at dksX4_patch_0 12 rfl rfl)
theorem dX4_patch_13 : decode cX4_patch 13 = .ok (.iconst 1, 1) := dk_4 (dk_at dksX4_patch_0 13 rfl rfl)
theorem dX4_patch_14 : decode cX4_patch 14 = .ok (.invokevirtual 126, 3) := dk_182 0 126 (dk_at dksX4_patch_0 14 rfl rfl)
theorem dX4_patch_17 : decode cX4_patch 17 = .ok (.ireturn, 1) := dk_172 (dk_at dksX4_patch_0 17 rfl rfl)
theorem dX4_patch_18 : decode cX4_patch 18 = .ok (.aload_n 0, 1) := dk_42 (dk_at dksX4_patch_0 18 rfl rfl)
theorem dX4_patch_19 : decode cX4_patch 19 = .ok (.getfield 192, 3) := dk_180 0 192 (dk_at dksX4_patch_0 19 rfl rfl)
theorem dX4_patch_22 : decode cX4_patch 22 = .ok (.ifCond .ne 9, 3) := dk_154 0 9 (dk_at dksX4_patch_1 0 rfl rfl)
theorem dX4_patch_25 : decode cX4_patch 25 = .ok (.aload_n 0, 1) := dk_42 (dk_at dksX4_patch_1 3 rfl rfl)
theorem dX4_patch_26 : decode cX4_patch 26 = .ok (.iconst 2, 1) := dk_5 (dk_at dksX4_patch_1 4 rfl rfl)
theorem dX4_patch_27 : decode cX4_patch 27 = .ok (.invokevirtual 126, 3) := dk_182 0 126 (dk_at dksX4_patch_1 5 rfl rfl)
theorem dX4_patch_30 : decode cX4_patch 30 = .ok (.ireturn, 1) := dk_172 (dk_at dksX4_patch_1 8 rfl rfl)
theorem dX4_patch_31 : decode cX4_patch 31 = .ok (.aload_n 0, 1) := dk_42 (dk_at dksX4_patch_1 9 rfl rfl)
theorem dX4_patch_32 : decode cX4_patch 32 = .ok (.aload_n 0, 1) := dk_42 (dk_at dksX4_patch_1 10 rfl rfl)
theorem dX4_patch_33 : decode cX4_patch 33 = .ok (.getfield 27, 3) := dk_180 0 27 (dk_at dksX4_patch_1 11 rfl rfl)
theorem dX4_patch_36 : decode cX4_patch 36 = .ok (.iload_n 1, 1) := dk_27 (dk_at dksX4_patch_1 14 rfl rfl)
theorem dX4_patch_37 : decode cX4_patch 37 = .ok (.aaload, 1) := dk_50 (dk_at dksX4_patch_1 15 rfl rfl)
theorem dX4_patch_38 : decode cX4_patch 38 = .ok (.invokevirtual 343, 3) := dk_182 1 87 (dk_at dksX4_patch_1 16 rfl rfl)
theorem dX4_patch_41 : decode cX4_patch 41 = .ok (.istore_n 2, 1) := dk_61 (dk_at dksX4_patch_1 19 rfl rfl)
theorem dX4_patch_42 : decode cX4_patch 42 = .ok (.iload_n 2, 1) := dk_28 (dk_at dksX4_patch_1 20 rfl rfl)
theorem dX4_patch_43 : decode cX4_patch 43 = .ok (.ifCond .lt 22, 3) := dk_155 0 22 (dk_at dksX4_patch_1 21 rfl rfl)
theorem dX4_patch_46 : decode cX4_patch 46 = .ok (.aload_n 0, 1) := dk_42 (dk_at dksX4_patch_2 0 rfl rfl)
theorem dX4_patch_47 : decode cX4_patch 47 = .ok (.iload_n 2, 1) := dk_28 (dk_at dksX4_patch_2 1 rfl rfl)
theorem dX4_patch_48 : decode cX4_patch 48 = .ok (.putfield 98, 3) := dk_181 0 98 (dk_at dksX4_patch_2 2 rfl rfl)
theorem dX4_patch_51 : decode cX4_patch 51 = .ok (.aload_n 0, 1) := dk_42 (dk_at dksX4_patch_2 5 rfl rfl)
theorem dX4_patch_52 : decode cX4_patch 52 = .ok (.aload_n 0, 1) := dk_42 (dk_at dksX4_patch_2 6 rfl rfl)
theorem dX4_patch_53 : decode cX4_patch 53 = .ok (.getfield 339, 3) := dk_180 1 83 (dk_at dksX4_patch_2 7 rfl rfl)
theorem dX4_patch_56 : decode cX4_patch 56 = .ok (.putfield 347, 3) := dk_181 1 91 (dk_at dksX4_patch_2 10 rfl rfl)
theorem dX4_patch_59 : decode cX4_patch 59 = .ok (.aload_n 0, 1) := dk_42 (dk_at dksX4_patch_2 13 rfl rfl)
theorem dX4_patch_60 : decode cX4_patch 60 = .ok (.iconst 3, 1) := dk_6 (dk_at dksX4_patch_2 14 rfl rfl)
theorem dX4_patch_61 : decode cX4_patch 61 = .ok (.invokevirtual 126, 3) := dk_182 0 126 (dk_at dksX4_patch_2 15 rfl rfl)
theorem dX4_patch_64 : decode cX4_patch 64 = .ok (.ireturn, 1) := dk_172 (dk_at dksX4_patch_2 18 rfl rfl)
theorem dX4_patch_65 : decode cX4_patch 65 = .ok (.aload_n 0, 1) := dk_42 (dk_at dksX4_patch_2 19 rfl rfl)
theorem dX4_patch_66 : decode cX4_patch 66 = .ok (.getfield 27, 3) := dk_180 0 27 (dk_at dksX4_patch_2 20 rfl rfl)
theorem dX4_patch_69 : decode cX4_patch 69 = .ok (.iload_n 1, 1) := dk_27 (dk_at dksX4_patch_2 23 rfl rfl)
theorem dX4_patch_70 : decode cX4_patch 70 = .ok (.aaload, 1) := dk_50 (dk_at dksX4_patch_3 0 rfl rfl)
theorem dX4_patch_71 : decode cX4_patch 71 = .ok (.aload_n 0, 1) := dk_42 (dk_at dksX4_patch_3 1 rfl rfl)
theorem dX4_patch_72 : decode cX4_patch 72 = .ok (.getfield 47, 3) := dk_180 0 47 (dk_at dksX4_patch_3 2 rfl rfl)
theorem dX4_patch_75 : decode cX4_patch 75 = .ok (.invokevirtual 157, 3) := dk_182 0 157 (dk_at dksX4_patch_3 5 rfl rfl)
theorem dX4_patch_78 : decode cX4_patch 78 = .ok (.aload_n 0, 1) := dk_42 (dk_at dksX4_patch_3 8 rfl rfl)
theorem dX4_patch_79 : decode cX4_patch 79 = .ok (.getfield 47, 3) := dk_180 0 47 (dk_at dksX4_patch_3 9 rfl rfl)
theorem dX4_patch_82 : decode cX4_patch 82 = .ok (.getfield 116, 3) := dk_180 0 116 (dk_at dksX4_patch_3 12 rfl rfl)
theorem dX4_patch_85 : decode cX4_patch 85 = .ok (.ireturn, 1) := dk_172 (dk_at dksX4_patch_3 15 rfl rfl)
abbrev cX4_conflictOperation : ByteArray := prog_20_method_73_code
def yX4_conflictOperation : MethodName := ⟨RX4, "conflictOperation", "()I"⟩
def dkwX4_conflictOperation_1 : List UInt8 := [172]
abbrev dktX4_conflictOperation_1 : List UInt8 := dkwX4_conflictOperation_1 ++ []
def dkwX4_conflictOperation_0 : List UInt8 := [42, 3, 181, 0, 105, 42, 180, 0, 98, 156, 0, 11, 42, 4, 182, 0, 126, 167, 0, 7, 42, 180, 0, 98]
abbrev dktX4_conflictOperation_0 : List UInt8 := dkwX4_conflictOperation_0 ++ dktX4_conflictOperation_1
theorem dksX4_conflictOperation_0 : cX4_conflictOperation.data.toList.drop 0 = dktX4_conflictOperation_0 := by decide +kernel
theorem dksX4_conflictOperation_1 : cX4_conflictOperation.data.toList.drop 24 = dktX4_conflictOperation_1 := dk_seg dksX4_conflictOperation_0 24 rfl rfl
theorem dX4_conflictOperation_0 : decode cX4_conflictOperation 0 = .ok (.aload_n 0, 1) := dk_42 (dk_at dksX4_conflictOperation_0 0 rfl rfl)
theorem dX4_conflictOperation_1 : decode cX4_conflictOperation 1 = .ok (.iconst 0, 1) := dk_3 (dk_at dksX4_conflictOperation_0 1 rfl rfl)
theorem dX4_conflictOperation_2 : decode cX4_conflictOperation 2 = .ok (.putfield 105, 3) := dk_181 0 105 (dk_at dksX4_conflictOperation_0 2 rfl rfl)
theorem dX4_conflictOperation_5 : decode cX4_conflictOperation 5 = .ok (.aload_n 0, 1) := dk_42 (dk_at dksX4_conflictOperation_0 5 rfl rfl)
theorem dX4_conflictOperation_6 : decode cX4_conflictOperation 6 = .ok (.getfield 98, 3) := dk_180 0 98 (dk_at dksX4_conflictOperation_0 6 rfl rfl)
theorem dX4_conflictOperation_9 : decode cX4_conflictOperation 9 = .ok (.ifCond .ge 11, 3) := dk_156 0 11 (dk_at dksX4_conflictOperation_0 9 rfl rfl)
theorem dX4_conflictOperation_12 : decode cX4_conflictOperation 12 = .ok (.aload_n 0, 1) := dk_42 (dk_at dksX4_conflictOperation_0 12 rfl rfl)
theorem dX4_conflictOperation_13 : decode cX4_conflictOperation 13 = .ok (.iconst 1, 1) := dk_4 (dk_at dksX4_conflictOperation_0 13 rfl rfl)
theorem dX4_conflictOperation_14 : decode cX4_conflictOperation 14 = .ok (.invokevirtual 126, 3) := dk_182 0 126 (dk_at dksX4_conflictOperation_0 14 rfl rfl)
theorem dX4_conflictOperation_17 : decode cX4_conflictOperation 17 = .ok (.goto 7, 3) := dk_167 0 7 (dk_at dksX4_conflictOperation_0 17 rfl rfl)
theorem dX4_conflictOperation_20 : decode cX4_conflictOperation 20 = .ok (.aload_n 0, 1) := dk_42 (dk_at dksX4_conflictOperation_0 20 rfl rfl)
theorem dX4_conflictOperation_21 : decode cX4_conflictOperation 21 = .ok (.getfield 98, 3) := dk_180 0 98 (dk_at dksX4_conflictOperation_0 21 rfl rfl)
theorem dX4_conflictOperation_24 : decode cX4_conflictOperation 24 = .ok (.ireturn, 1) := dk_172 (dk_at dksX4_conflictOperation_1 0 rfl rfl)
abbrev cX4_conflictReason : ByteArray := prog_20_method_74_code
def yX4_conflictReason : MethodName := ⟨RX4, "conflictReason", "()C"⟩
def dkwX4_conflictReason_1 : List UInt8 := [180, 1, 91, 172]
abbrev dktX4_conflictReason_1 : List UInt8 := dkwX4_conflictReason_1 ++ []
def dkwX4_conflictReason_0 : List UInt8 := [42, 3, 181, 0, 105, 42, 180, 0, 98, 156, 0, 12, 42, 4, 182, 0, 126, 146, 167, 0, 7, 42]
abbrev dktX4_conflictReason_0 : List UInt8 := dkwX4_conflictReason_0 ++ dktX4_conflictReason_1
theorem dksX4_conflictReason_0 : cX4_conflictReason.data.toList.drop 0 = dktX4_conflictReason_0 := by decide +kernel
theorem dksX4_conflictReason_1 : cX4_conflictReason.data.toList.drop 22 = dktX4_conflictReason_1 := dk_seg dksX4_conflictReason_0 22 rfl rfl
theorem dX4_conflictReason_0 : decode cX4_conflictReason 0 = .ok (.aload_n 0, 1) := dk_42 (dk_at dksX4_conflictReason_0 0 rfl rfl)
theorem dX4_conflictReason_1 : decode cX4_conflictReason 1 = .ok (.iconst 0, 1) := dk_3 (dk_at dksX4_conflictReason_0 1 rfl rfl)
theorem dX4_conflictReason_2 : decode cX4_conflictReason 2 = .ok (.putfield 105, 3) := dk_181 0 105 (dk_at dksX4_conflictReason_0 2 rfl rfl)
theorem dX4_conflictReason_5 : decode cX4_conflictReason 5 = .ok (.aload_n 0, 1) := dk_42 (dk_at dksX4_conflictReason_0 5 rfl rfl)
theorem dX4_conflictReason_6 : decode cX4_conflictReason 6 = .ok (.getfield 98, 3) := dk_180 0 98 (dk_at dksX4_conflictReason_0 6 rfl rfl)
theorem dX4_conflictReason_9 : decode cX4_conflictReason 9 = .ok (.ifCond .ge 12, 3) := dk_156 0 12 (dk_at dksX4_conflictReason_0 9 rfl rfl)
theorem dX4_conflictReason_12 : decode cX4_conflictReason 12 = .ok (.aload_n 0, 1) := dk_42 (dk_at dksX4_conflictReason_0 12 rfl rfl)
theorem dX4_conflictReason_13 : decode cX4_conflictReason 13 = .ok (.iconst 1, 1) := dk_4 (dk_at dksX4_conflictReason_0 13 rfl rfl)
theorem dX4_conflictReason_14 : decode cX4_conflictReason 14 = .ok (.invokevirtual 126, 3) := dk_182 0 126 (dk_at dksX4_conflictReason_0 14 rfl rfl)
theorem dX4_conflictReason_17 : decode cX4_conflictReason 17 = .ok (.i2c, 1) := dk_146 (dk_at dksX4_conflictReason_0 17 rfl rfl)
theorem dX4_conflictReason_18 : decode cX4_conflictReason 18 = .ok (.goto 7, 3) := dk_167 0 7 (dk_at dksX4_conflictReason_0 18 rfl rfl)
theorem dX4_conflictReason_21 : decode cX4_conflictReason 21 = .ok (.aload_n 0, 1) := dk_42 (dk_at dksX4_conflictReason_0 21 rfl rfl)
theorem dX4_conflictReason_22 : decode cX4_conflictReason 22 = .ok (.getfield 347, 3) := dk_180 1 91 (dk_at dksX4_conflictReason_1 0 rfl rfl)
theorem dX4_conflictReason_25 : decode cX4_conflictReason 25 = .ok (.ireturn, 1) := dk_172 (dk_at dksX4_conflictReason_1 3 rfl rfl)
abbrev cX4_isConsistent : ByteArray := prog_20_method_75_code
def yX4_isConsistent : MethodName := ⟨RX4, "isConsistent", "()Z"⟩
def dkwX4_isConsistent_0 : List UInt8 := [42, 3, 181, 0, 105, 4, 172]
abbrev dktX4_isConsistent_0 : List UInt8 := dkwX4_isConsistent_0 ++ []
theorem dksX4_isConsistent_0 : cX4_isConsistent.data.toList.drop 0 = dktX4_isConsistent_0 := by decide +kernel
theorem dX4_isConsistent_0 : decode cX4_isConsistent 0 = .ok (.aload_n 0, 1) := dk_42 (dk_at dksX4_isConsistent_0 0 rfl rfl)
theorem dX4_isConsistent_1 : decode cX4_isConsistent 1 = .ok (.iconst 0, 1) := dk_3 (dk_at dksX4_isConsistent_0 1 rfl rfl)
theorem dX4_isConsistent_2 : decode cX4_isConsistent 2 = .ok (.putfield 105, 3) := dk_181 0 105 (dk_at dksX4_isConsistent_0 2 rfl rfl)
theorem dX4_isConsistent_5 : decode cX4_isConsistent 5 = .ok (.iconst 1, 1) := dk_4 (dk_at dksX4_isConsistent_0 5 rfl rfl)
theorem dX4_isConsistent_6 : decode cX4_isConsistent 6 = .ok (.ireturn, 1) := dk_172 (dk_at dksX4_isConsistent_0 6 rfl rfl)
theorem q74 : (Jvm.Cond.initialized "TreeDifferModel") ∈ lw_all := lw_g (lw_at lw_m1 11 rfl) rfl
theorem q536 : (Jvm.Cond.selects "TreeDifferModel" ({ cls := "java/lang/Object", name := "getClass", desc := "()Ljava/lang/Class;" } : Jvm.MethodName) ({ cls := "java/lang/Object", name := "getClass", desc := "()Ljava/lang/Class;" } : Jvm.MethodName)) ∈ lw_all := lw_g (lw_at lw_m2 233 rfl) rfl
theorem q1306 : (Jvm.Cond.selects "TreeDifferModel" ({ cls := "java/lang/Object", name := "toString", desc := "()Ljava/lang/String;" } : Jvm.MethodName) ({ cls := "java/lang/Object", name := "toString", desc := "()Ljava/lang/String;" } : Jvm.MethodName)) ∈ lw_all := lw_g (lw_at lw_m6 43 rfl) rfl
theorem q2006 : (Jvm.Cond.instantiable "TreeDifferModel" (31 : Nat)) ∈ lw_all := lw_g (lw_at lw_m9 23 rfl) rfl
theorem q2008 : (Jvm.Cond.instanceMethod ({ cls := "TreeDifferModel", name := "<init>", desc := "()V" } : Jvm.MethodName)) ∈ lw_all := lw_g (lw_at lw_m9 25 rfl) rfl
theorem q2009 : (Jvm.Cond.code ({ cls := "TreeDifferModel", name := "<init>", desc := "()V" } : Jvm.MethodName) prog_20_method_2_code (5 : Nat) (Option.none : Option Jvm.ClassFile.FieldType)) ∈ lw_all := lw_g (lw_at lw_m9 26 rfl) rfl
theorem q2010 : (Jvm.Cond.methodLink "TreeDifferModel" (20 : Nat) ({ cls := "java/lang/Object", name := "<init>", desc := "()V" } : Jvm.MethodName)) ∈ lw_all := lw_g (lw_at lw_m9 27 rfl) rfl
theorem q2011 : (Jvm.Cond.classLink "TreeDifferModel" (2 : Nat) "TreeDifferModel$Tree") ∈ lw_all := lw_g (lw_at lw_m9 28 rfl) rfl
theorem q2014 : (Jvm.Cond.methodLinkNest "TreeDifferModel" (26 : Nat) ({ cls := "TreeDifferModel$Tree", name := "<init>", desc := "()V" } : Jvm.MethodName) "TreeDifferModel") ∈ lw_tbl := lw_at lw_m9 31 rfl
theorem q2019 : (Jvm.Cond.fieldLinkNest "TreeDifferModel" (11 : Nat) "TreeDifferModel$Tree" "labels" "[I" "TreeDifferModel") ∈ lw_tbl := lw_at lw_m9 36 rfl
theorem q2021 : (Jvm.Cond.fieldLinkNest "TreeDifferModel" (14 : Nat) "TreeDifferModel$Tree" "keys" "[I" "TreeDifferModel") ∈ lw_tbl := lw_at lw_m9 38 rfl
theorem q2023 : (Jvm.Cond.fieldLinkNest "TreeDifferModel" (17 : Nat) "TreeDifferModel$Tree" "values" "[I" "TreeDifferModel") ∈ lw_tbl := lw_at lw_m9 40 rfl
theorem q2025 : (Jvm.Cond.fieldLinkNest "TreeDifferModel" (7 : Nat) "TreeDifferModel$Tree" "parents" "[I" "TreeDifferModel") ∈ lw_tbl := lw_at lw_m9 42 rfl
theorem q2027 : (Jvm.Cond.fieldLinkNest "TreeDifferModel" (116 : Nat) "TreeDifferModel$Tree" "size" "I" "TreeDifferModel") ∈ lw_tbl := lw_at lw_m9 44 rfl
theorem q2039 : (Jvm.Cond.stringRef "TreeDifferModel" (41 : Nat) "") ∈ lw_tbl := lw_at lw_m9 56 rfl
theorem q2040 : (Jvm.Cond.classLink "TreeDifferModel" (51 : Nat) "[[I") ∈ lw_all := lw_g (lw_at lw_m9 57 rfl) rfl
theorem q2042 : (Jvm.Cond.classLink "TreeDifferModel" (92 : Nat) "TreeDifferModel$Item") ∈ lw_all := lw_g (lw_at lw_m9 59 rfl) rfl
theorem q2044 : (Jvm.Cond.methodLinkNest "TreeDifferModel" (101 : Nat) ({ cls := "TreeDifferModel$Tree", name := "adds", desc := "(IIII)V" } : Jvm.MethodName) "TreeDifferModel") ∈ lw_tbl := lw_at lw_m9 61 rfl
theorem q2052 : (Jvm.Cond.fieldLink "TreeDifferModel" (27 : Nat) "TreeDifferModel" "trees" "[LTreeDifferModel$Tree;") ∈ lw_all := lw_g (lw_at lw_m9 69 rfl) rfl
theorem q2053 : (Jvm.Cond.fieldLink "TreeDifferModel" (105 : Nat) "TreeDifferModel" "thrown" "I") ∈ lw_all := lw_g (lw_at lw_m9 70 rfl) rfl
theorem q2054 : (Jvm.Cond.fieldLink "TreeDifferModel" (33 : Nat) "TreeDifferModel" "buffer" "[C") ∈ lw_all := lw_g (lw_at lw_m9 71 rfl) rfl
theorem q2055 : (Jvm.Cond.fieldLink "TreeDifferModel" (123 : Nat) "TreeDifferModel" "typed" "I") ∈ lw_all := lw_g (lw_at lw_m9 72 rfl) rfl
theorem q2056 : (Jvm.Cond.fieldLink "TreeDifferModel" (129 : Nat) "TreeDifferModel" "at" "I") ∈ lw_all := lw_g (lw_at lw_m9 73 rfl) rfl
theorem q2057 : (Jvm.Cond.fieldLink "TreeDifferModel" (132 : Nat) "TreeDifferModel" "fault" "I") ∈ lw_all := lw_g (lw_at lw_m9 74 rfl) rfl
theorem q2058 : (Jvm.Cond.fieldLink "TreeDifferModel" (37 : Nat) "TreeDifferModel" "errorAt" "I") ∈ lw_all := lw_g (lw_at lw_m9 75 rfl) rfl
theorem q2059 : (Jvm.Cond.fieldLink "TreeDifferModel" (43 : Nat) "TreeDifferModel" "line" "Ljava/lang/String;") ∈ lw_all := lw_g (lw_at lw_m9 76 rfl) rfl
theorem q2060 : (Jvm.Cond.fieldLink "TreeDifferModel" (47 : Nat) "TreeDifferModel" "made" "LTreeDifferModel$Tree;") ∈ lw_all := lw_g (lw_at lw_m9 77 rfl) rfl
theorem q2061 : (Jvm.Cond.fieldLink "TreeDifferModel" (53 : Nat) "TreeDifferModel" "costs" "[[I") ∈ lw_all := lw_g (lw_at lw_m9 78 rfl) rfl
theorem q2062 : (Jvm.Cond.fieldLink "TreeDifferModel" (56 : Nat) "TreeDifferModel" "foundKinds" "[C") ∈ lw_all := lw_g (lw_at lw_m9 79 rfl) rfl
theorem q2063 : (Jvm.Cond.fieldLink "TreeDifferModel" (59 : Nat) "TreeDifferModel" "foundNodes" "[I") ∈ lw_all := lw_g (lw_at lw_m9 80 rfl) rfl
theorem q2064 : (Jvm.Cond.fieldLink "TreeDifferModel" (62 : Nat) "TreeDifferModel" "foundTargets" "[I") ∈ lw_all := lw_g (lw_at lw_m9 81 rfl) rfl
theorem q2065 : (Jvm.Cond.fieldLink "TreeDifferModel" (65 : Nat) "TreeDifferModel" "mates" "[I") ∈ lw_all := lw_g (lw_at lw_m9 82 rfl) rfl
theorem q2066 : (Jvm.Cond.fieldLink "TreeDifferModel" (68 : Nat) "TreeDifferModel" "matesBack" "[I") ∈ lw_all := lw_g (lw_at lw_m9 83 rfl) rfl
theorem q2067 : (Jvm.Cond.fieldLink "TreeDifferModel" (242 : Nat) "TreeDifferModel" "found" "I") ∈ lw_all := lw_g (lw_at lw_m9 84 rfl) rfl
theorem q2068 : (Jvm.Cond.fieldLink "TreeDifferModel" (71 : Nat) "TreeDifferModel" "old" "LTreeDifferModel$Tree;") ∈ lw_all := lw_g (lw_at lw_m9 85 rfl) rfl
theorem q2069 : (Jvm.Cond.fieldLink "TreeDifferModel" (74 : Nat) "TreeDifferModel" "goal" "LTreeDifferModel$Tree;") ∈ lw_all := lw_g (lw_at lw_m9 86 rfl) rfl
theorem q2070 : (Jvm.Cond.fieldLink "TreeDifferModel" (77 : Nat) "TreeDifferModel" "kinds" "[C") ∈ lw_all := lw_g (lw_at lw_m9 87 rfl) rfl
theorem q2071 : (Jvm.Cond.fieldLink "TreeDifferModel" (80 : Nat) "TreeDifferModel" "nodes" "[I") ∈ lw_all := lw_g (lw_at lw_m9 88 rfl) rfl
theorem q2072 : (Jvm.Cond.fieldLink "TreeDifferModel" (83 : Nat) "TreeDifferModel" "targets" "[I") ∈ lw_all := lw_g (lw_at lw_m9 89 rfl) rfl
theorem q2073 : (Jvm.Cond.fieldLink "TreeDifferModel" (86 : Nat) "TreeDifferModel" "partners" "[I") ∈ lw_all := lw_g (lw_at lw_m9 90 rfl) rfl
theorem q2074 : (Jvm.Cond.fieldLink "TreeDifferModel" (89 : Nat) "TreeDifferModel" "partnersBack" "[I") ∈ lw_all := lw_g (lw_at lw_m9 91 rfl) rfl
theorem q2075 : (Jvm.Cond.fieldLink "TreeDifferModel" (192 : Nat) "TreeDifferModel" "isScript" "Z") ∈ lw_all := lw_g (lw_at lw_m9 92 rfl) rfl
theorem q2076 : (Jvm.Cond.fieldLink "TreeDifferModel" (196 : Nat) "TreeDifferModel" "many" "I") ∈ lw_all := lw_g (lw_at lw_m9 93 rfl) rfl
theorem q2077 : (Jvm.Cond.fieldLink "TreeDifferModel" (94 : Nat) "TreeDifferModel" "put" "[LTreeDifferModel$Item;") ∈ lw_all := lw_g (lw_at lw_m9 94 rfl) rfl
theorem q2078 : (Jvm.Cond.fieldLink "TreeDifferModel" (294 : Nat) "TreeDifferModel" "items" "[LTreeDifferModel$Item;") ∈ lw_all := lw_g (lw_at lw_m9 95 rfl) rfl
theorem q2079 : (Jvm.Cond.fieldLink "TreeDifferModel" (98 : Nat) "TreeDifferModel" "conflictAt" "I") ∈ lw_all := lw_g (lw_at lw_m9 96 rfl) rfl
theorem q2080 : (Jvm.Cond.fieldLink "TreeDifferModel" (304 : Nat) "TreeDifferModel" "there" "I") ∈ lw_all := lw_g (lw_at lw_m9 97 rfl) rfl
theorem q2081 : (Jvm.Cond.fieldLink "TreeDifferModel" (347 : Nat) "TreeDifferModel" "conflict" "C") ∈ lw_all := lw_g (lw_at lw_m9 98 rfl) rfl
theorem q2082 : (Jvm.Cond.fieldLink "TreeDifferModel" (339 : Nat) "TreeDifferModel" "reason" "C") ∈ lw_all := lw_g (lw_at lw_m9 99 rfl) rfl
theorem q2083 : (Jvm.Cond.laysFinal "TreeDifferModel" "TreeDifferModel" "trees" "[LTreeDifferModel$Tree;") ∈ lw_all := lw_g (lw_at lw_m9 100 rfl) rfl
theorem q2084 : (Jvm.Cond.soleField "TreeDifferModel" "trees") ∈ lw_all := lw_g (lw_at lw_m9 101 rfl) rfl
theorem q2085 : (Jvm.Cond.lays "TreeDifferModel" "TreeDifferModel" "thrown" "I") ∈ lw_all := lw_g (lw_at lw_m9 102 rfl) rfl
theorem q2086 : (Jvm.Cond.soleField "TreeDifferModel" "thrown") ∈ lw_all := lw_g (lw_at lw_m9 103 rfl) rfl
theorem q2087 : (Jvm.Cond.laysFinal "TreeDifferModel" "TreeDifferModel" "buffer" "[C") ∈ lw_all := lw_g (lw_at lw_m9 104 rfl) rfl
theorem q2088 : (Jvm.Cond.soleField "TreeDifferModel" "buffer") ∈ lw_all := lw_g (lw_at lw_m9 105 rfl) rfl
theorem q2089 : (Jvm.Cond.lays "TreeDifferModel" "TreeDifferModel" "typed" "I") ∈ lw_all := lw_g (lw_at lw_m9 106 rfl) rfl
theorem q2090 : (Jvm.Cond.soleField "TreeDifferModel" "typed") ∈ lw_all := lw_g (lw_at lw_m9 107 rfl) rfl
theorem q2091 : (Jvm.Cond.lays "TreeDifferModel" "TreeDifferModel" "at" "I") ∈ lw_all := lw_g (lw_at lw_m9 108 rfl) rfl
theorem q2092 : (Jvm.Cond.soleField "TreeDifferModel" "at") ∈ lw_all := lw_g (lw_at lw_m9 109 rfl) rfl
theorem q2093 : (Jvm.Cond.lays "TreeDifferModel" "TreeDifferModel" "fault" "I") ∈ lw_all := lw_g (lw_at lw_m9 110 rfl) rfl
theorem q2094 : (Jvm.Cond.soleField "TreeDifferModel" "fault") ∈ lw_all := lw_g (lw_at lw_m9 111 rfl) rfl
theorem q2095 : (Jvm.Cond.lays "TreeDifferModel" "TreeDifferModel" "errorAt" "I") ∈ lw_all := lw_g (lw_at lw_m9 112 rfl) rfl
theorem q2096 : (Jvm.Cond.soleField "TreeDifferModel" "errorAt") ∈ lw_all := lw_g (lw_at lw_m9 113 rfl) rfl
theorem q2097 : (Jvm.Cond.lays "TreeDifferModel" "TreeDifferModel" "line" "Ljava/lang/String;") ∈ lw_all := lw_g (lw_at lw_m9 114 rfl) rfl
theorem q2098 : (Jvm.Cond.soleField "TreeDifferModel" "line") ∈ lw_all := lw_g (lw_at lw_m9 115 rfl) rfl
theorem q2099 : (Jvm.Cond.laysFinal "TreeDifferModel" "TreeDifferModel" "made" "LTreeDifferModel$Tree;") ∈ lw_all := lw_g (lw_at lw_m9 116 rfl) rfl
theorem q2100 : (Jvm.Cond.soleField "TreeDifferModel" "made") ∈ lw_all := lw_g (lw_at lw_m9 117 rfl) rfl
theorem q2101 : (Jvm.Cond.laysFinal "TreeDifferModel" "TreeDifferModel" "costs" "[[I") ∈ lw_all := lw_g (lw_at lw_m9 118 rfl) rfl
theorem q2102 : (Jvm.Cond.soleField "TreeDifferModel" "costs") ∈ lw_all := lw_g (lw_at lw_m9 119 rfl) rfl
theorem q2103 : (Jvm.Cond.laysFinal "TreeDifferModel" "TreeDifferModel" "foundKinds" "[C") ∈ lw_all := lw_g (lw_at lw_m9 120 rfl) rfl
theorem q2104 : (Jvm.Cond.soleField "TreeDifferModel" "foundKinds") ∈ lw_all := lw_g (lw_at lw_m9 121 rfl) rfl
theorem q2105 : (Jvm.Cond.laysFinal "TreeDifferModel" "TreeDifferModel" "foundNodes" "[I") ∈ lw_all := lw_g (lw_at lw_m9 122 rfl) rfl
theorem q2106 : (Jvm.Cond.soleField "TreeDifferModel" "foundNodes") ∈ lw_all := lw_g (lw_at lw_m9 123 rfl) rfl
theorem q2107 : (Jvm.Cond.laysFinal "TreeDifferModel" "TreeDifferModel" "foundTargets" "[I") ∈ lw_all := lw_g (lw_at lw_m9 124 rfl) rfl
theorem q2108 : (Jvm.Cond.soleField "TreeDifferModel" "foundTargets") ∈ lw_all := lw_g (lw_at lw_m9 125 rfl) rfl
theorem q2109 : (Jvm.Cond.laysFinal "TreeDifferModel" "TreeDifferModel" "mates" "[I") ∈ lw_all := lw_g (lw_at lw_m9 126 rfl) rfl
theorem q2110 : (Jvm.Cond.soleField "TreeDifferModel" "mates") ∈ lw_all := lw_g (lw_at lw_m9 127 rfl) rfl
theorem q2111 : (Jvm.Cond.laysFinal "TreeDifferModel" "TreeDifferModel" "matesBack" "[I") ∈ lw_all := lw_g (lw_at lw_m9 128 rfl) rfl
theorem q2112 : (Jvm.Cond.soleField "TreeDifferModel" "matesBack") ∈ lw_all := lw_g (lw_at lw_m9 129 rfl) rfl
theorem q2113 : (Jvm.Cond.lays "TreeDifferModel" "TreeDifferModel" "found" "I") ∈ lw_all := lw_g (lw_at lw_m9 130 rfl) rfl
theorem q2114 : (Jvm.Cond.soleField "TreeDifferModel" "found") ∈ lw_all := lw_g (lw_at lw_m9 131 rfl) rfl
theorem q2115 : (Jvm.Cond.laysFinal "TreeDifferModel" "TreeDifferModel" "old" "LTreeDifferModel$Tree;") ∈ lw_all := lw_g (lw_at lw_m9 132 rfl) rfl
theorem q2116 : (Jvm.Cond.soleField "TreeDifferModel" "old") ∈ lw_all := lw_g (lw_at lw_m9 133 rfl) rfl
theorem q2117 : (Jvm.Cond.laysFinal "TreeDifferModel" "TreeDifferModel" "goal" "LTreeDifferModel$Tree;") ∈ lw_all := lw_g (lw_at lw_m9 134 rfl) rfl
theorem q2118 : (Jvm.Cond.soleField "TreeDifferModel" "goal") ∈ lw_all := lw_g (lw_at lw_m9 135 rfl) rfl
theorem q2119 : (Jvm.Cond.laysFinal "TreeDifferModel" "TreeDifferModel" "kinds" "[C") ∈ lw_all := lw_g (lw_at lw_m9 136 rfl) rfl
theorem q2120 : (Jvm.Cond.soleField "TreeDifferModel" "kinds") ∈ lw_all := lw_g (lw_at lw_m9 137 rfl) rfl
theorem q2121 : (Jvm.Cond.laysFinal "TreeDifferModel" "TreeDifferModel" "nodes" "[I") ∈ lw_all := lw_g (lw_at lw_m9 138 rfl) rfl
theorem q2122 : (Jvm.Cond.soleField "TreeDifferModel" "nodes") ∈ lw_all := lw_g (lw_at lw_m9 139 rfl) rfl
theorem q2123 : (Jvm.Cond.laysFinal "TreeDifferModel" "TreeDifferModel" "targets" "[I") ∈ lw_all := lw_g (lw_at lw_m9 140 rfl) rfl
theorem q2124 : (Jvm.Cond.soleField "TreeDifferModel" "targets") ∈ lw_all := lw_g (lw_at lw_m9 141 rfl) rfl
theorem q2125 : (Jvm.Cond.laysFinal "TreeDifferModel" "TreeDifferModel" "partners" "[I") ∈ lw_all := lw_g (lw_at lw_m9 142 rfl) rfl
theorem q2126 : (Jvm.Cond.soleField "TreeDifferModel" "partners") ∈ lw_all := lw_g (lw_at lw_m9 143 rfl) rfl
theorem q2127 : (Jvm.Cond.laysFinal "TreeDifferModel" "TreeDifferModel" "partnersBack" "[I") ∈ lw_all := lw_g (lw_at lw_m9 144 rfl) rfl
theorem q2128 : (Jvm.Cond.soleField "TreeDifferModel" "partnersBack") ∈ lw_all := lw_g (lw_at lw_m9 145 rfl) rfl
theorem q2129 : (Jvm.Cond.lays "TreeDifferModel" "TreeDifferModel" "isScript" "Z") ∈ lw_all := lw_g (lw_at lw_m9 146 rfl) rfl
theorem q2130 : (Jvm.Cond.soleField "TreeDifferModel" "isScript") ∈ lw_all := lw_g (lw_at lw_m9 147 rfl) rfl
theorem q2131 : (Jvm.Cond.lays "TreeDifferModel" "TreeDifferModel" "many" "I") ∈ lw_all := lw_g (lw_at lw_m9 148 rfl) rfl
theorem q2132 : (Jvm.Cond.soleField "TreeDifferModel" "many") ∈ lw_all := lw_g (lw_at lw_m9 149 rfl) rfl
theorem q2133 : (Jvm.Cond.laysFinal "TreeDifferModel" "TreeDifferModel" "put" "[LTreeDifferModel$Item;") ∈ lw_all := lw_g (lw_at lw_m9 150 rfl) rfl
theorem q2134 : (Jvm.Cond.soleField "TreeDifferModel" "put") ∈ lw_all := lw_g (lw_at lw_m9 151 rfl) rfl
theorem q2135 : (Jvm.Cond.lays "TreeDifferModel" "TreeDifferModel" "items" "[LTreeDifferModel$Item;") ∈ lw_all := lw_g (lw_at lw_m9 152 rfl) rfl
theorem q2136 : (Jvm.Cond.soleField "TreeDifferModel" "items") ∈ lw_all := lw_g (lw_at lw_m9 153 rfl) rfl
theorem q2137 : (Jvm.Cond.lays "TreeDifferModel" "TreeDifferModel" "conflictAt" "I") ∈ lw_all := lw_g (lw_at lw_m9 154 rfl) rfl
theorem q2138 : (Jvm.Cond.soleField "TreeDifferModel" "conflictAt") ∈ lw_all := lw_g (lw_at lw_m9 155 rfl) rfl
theorem q2139 : (Jvm.Cond.lays "TreeDifferModel" "TreeDifferModel" "there" "I") ∈ lw_all := lw_g (lw_at lw_m9 156 rfl) rfl
theorem q2140 : (Jvm.Cond.soleField "TreeDifferModel" "there") ∈ lw_all := lw_g (lw_at lw_m9 157 rfl) rfl
theorem q2141 : (Jvm.Cond.lays "TreeDifferModel" "TreeDifferModel" "conflict" "C") ∈ lw_all := lw_g (lw_at lw_m9 158 rfl) rfl
theorem q2142 : (Jvm.Cond.soleField "TreeDifferModel" "conflict") ∈ lw_all := lw_g (lw_at lw_m9 159 rfl) rfl
theorem q2143 : (Jvm.Cond.lays "TreeDifferModel" "TreeDifferModel" "reason" "C") ∈ lw_all := lw_g (lw_at lw_m9 160 rfl) rfl
theorem q2144 : (Jvm.Cond.soleField "TreeDifferModel" "reason") ∈ lw_all := lw_g (lw_at lw_m9 161 rfl) rfl
theorem q2145 : (Jvm.Cond.superclass "TreeDifferModel" "java/lang/Object") ∈ lw_all := lw_g (lw_at lw_m9 162 rfl) rfl
theorem q2148 : (Jvm.Cond.instanceMethod ({ cls := "TreeDifferModel", name := "thrown", desc := "()I" } : Jvm.MethodName)) ∈ lw_all := lw_g (lw_at lw_m9 165 rfl) rfl
theorem q2149 : (Jvm.Cond.selects "TreeDifferModel" ({ cls := "TreeDifferModel", name := "thrown", desc := "()I" } : Jvm.MethodName) ({ cls := "TreeDifferModel", name := "thrown", desc := "()I" } : Jvm.MethodName)) ∈ lw_all := lw_g (lw_at lw_m9 166 rfl) rfl
theorem q2150 : (Jvm.Cond.code ({ cls := "TreeDifferModel", name := "thrown", desc := "()I" } : Jvm.MethodName) prog_20_method_3_code (1 : Nat) (Option.some Jvm.ClassFile.FieldType.int)) ∈ lw_all := lw_g (lw_at lw_m9 167 rfl) rfl
theorem q2152 : (Jvm.Cond.instanceMethod ({ cls := "TreeDifferModel", name := "type", desc := "(C)I" } : Jvm.MethodName)) ∈ lw_all := lw_g (lw_at lw_m9 169 rfl) rfl
theorem q2153 : (Jvm.Cond.selects "TreeDifferModel" ({ cls := "TreeDifferModel", name := "type", desc := "(C)I" } : Jvm.MethodName) ({ cls := "TreeDifferModel", name := "type", desc := "(C)I" } : Jvm.MethodName)) ∈ lw_all := lw_g (lw_at lw_m9 170 rfl) rfl
theorem q2154 : (Jvm.Cond.code ({ cls := "TreeDifferModel", name := "type", desc := "(C)I" } : Jvm.MethodName) prog_20_method_10_code (2 : Nat) (Option.some Jvm.ClassFile.FieldType.int)) ∈ lw_all := lw_g (lw_at lw_m9 171 rfl) rfl
theorem q2155 : (Jvm.Cond.methodLink "TreeDifferModel" (126 : Nat) ({ cls := "TreeDifferModel", name := "fails", desc := "(I)I" } : Jvm.MethodName)) ∈ lw_all := lw_g (lw_at lw_m9 172 rfl) rfl
theorem q2156 : (Jvm.Cond.privateMethod ({ cls := "TreeDifferModel", name := "fails", desc := "(I)I" } : Jvm.MethodName)) ∈ lw_tbl := lw_at lw_m9 173 rfl
theorem q2157 : (Jvm.Cond.instanceMethod ({ cls := "TreeDifferModel", name := "fails", desc := "(I)I" } : Jvm.MethodName)) ∈ lw_all := lw_g (lw_at lw_m9 174 rfl) rfl
theorem q2158 : (Jvm.Cond.code ({ cls := "TreeDifferModel", name := "fails", desc := "(I)I" } : Jvm.MethodName) prog_20_method_4_code (2 : Nat) (Option.some Jvm.ClassFile.FieldType.int)) ∈ lw_all := lw_g (lw_at lw_m9 175 rfl) rfl
theorem q2160 : (Jvm.Cond.instanceMethod ({ cls := "TreeDifferModel", name := "read", desc := "(I)I" } : Jvm.MethodName)) ∈ lw_all := lw_g (lw_at lw_m9 177 rfl) rfl
theorem q2161 : (Jvm.Cond.selects "TreeDifferModel" ({ cls := "TreeDifferModel", name := "read", desc := "(I)I" } : Jvm.MethodName) ({ cls := "TreeDifferModel", name := "read", desc := "(I)I" } : Jvm.MethodName)) ∈ lw_all := lw_g (lw_at lw_m9 178 rfl) rfl
theorem q2162 : (Jvm.Cond.code ({ cls := "TreeDifferModel", name := "read", desc := "(I)I" } : Jvm.MethodName) prog_20_method_16_code (2 : Nat) (Option.some Jvm.ClassFile.FieldType.int)) ∈ lw_all := lw_g (lw_at lw_m9 179 rfl) rfl
theorem q2163 : (Jvm.Cond.methodLink "TreeDifferModel" (112 : Nat) ({ cls := "TreeDifferModel", name := "isTree", desc := "(I)Z" } : Jvm.MethodName)) ∈ lw_all := lw_g (lw_at lw_m9 180 rfl) rfl
theorem q2164 : (Jvm.Cond.static ({ cls := "TreeDifferModel", name := "isTree", desc := "(I)Z" } : Jvm.MethodName)) ∈ lw_all := lw_g (lw_at lw_m9 181 rfl) rfl
theorem q2165 : (Jvm.Cond.code ({ cls := "TreeDifferModel", name := "isTree", desc := "(I)Z" } : Jvm.MethodName) prog_20_method_7_code (1 : Nat) (Option.some Jvm.ClassFile.FieldType.boolean)) ∈ lw_all := lw_g (lw_at lw_m9 182 rfl) rfl
theorem q2166 : (Jvm.Cond.methodLink "TreeDifferModel" (108 : Nat) ({ cls := "TreeDifferModel", name := "isBetween", desc := "(III)Z" } : Jvm.MethodName)) ∈ lw_all := lw_g (lw_at lw_m9 183 rfl) rfl
theorem q2167 : (Jvm.Cond.static ({ cls := "TreeDifferModel", name := "isBetween", desc := "(III)Z" } : Jvm.MethodName)) ∈ lw_all := lw_g (lw_at lw_m9 184 rfl) rfl
theorem q2168 : (Jvm.Cond.code ({ cls := "TreeDifferModel", name := "isBetween", desc := "(III)Z" } : Jvm.MethodName) prog_20_method_6_code (3 : Nat) (Option.some Jvm.ClassFile.FieldType.boolean)) ∈ lw_all := lw_g (lw_at lw_m9 185 rfl) rfl
theorem q2169 : (Jvm.Cond.methodLink "TreeDifferModel" (153 : Nat) ({ cls := "TreeDifferModel", name := "readsNode", desc := "(I)V" } : Jvm.MethodName)) ∈ lw_all := lw_g (lw_at lw_m9 186 rfl) rfl
theorem q2170 : (Jvm.Cond.privateMethod ({ cls := "TreeDifferModel", name := "readsNode", desc := "(I)V" } : Jvm.MethodName)) ∈ lw_tbl := lw_at lw_m9 187 rfl
theorem q2171 : (Jvm.Cond.instanceMethod ({ cls := "TreeDifferModel", name := "readsNode", desc := "(I)V" } : Jvm.MethodName)) ∈ lw_all := lw_g (lw_at lw_m9 188 rfl) rfl
theorem q2172 : (Jvm.Cond.code ({ cls := "TreeDifferModel", name := "readsNode", desc := "(I)V" } : Jvm.MethodName) prog_20_method_15_code (6 : Nat) (Option.none : Option Jvm.ClassFile.FieldType)) ∈ lw_all := lw_g (lw_at lw_m9 189 rfl) rfl
theorem q2173 : (Jvm.Cond.methodLink "TreeDifferModel" (135 : Nat) ({ cls := "TreeDifferModel", name := "sign", desc := "()C" } : Jvm.MethodName)) ∈ lw_all := lw_g (lw_at lw_m9 190 rfl) rfl
theorem q2174 : (Jvm.Cond.privateMethod ({ cls := "TreeDifferModel", name := "sign", desc := "()C" } : Jvm.MethodName)) ∈ lw_tbl := lw_at lw_m9 191 rfl
theorem q2175 : (Jvm.Cond.instanceMethod ({ cls := "TreeDifferModel", name := "sign", desc := "()C" } : Jvm.MethodName)) ∈ lw_all := lw_g (lw_at lw_m9 192 rfl) rfl
theorem q2176 : (Jvm.Cond.code ({ cls := "TreeDifferModel", name := "sign", desc := "()C" } : Jvm.MethodName) prog_20_method_11_code (1 : Nat) (Option.some Jvm.ClassFile.FieldType.char)) ∈ lw_all := lw_g (lw_at lw_m9 193 rfl) rfl
theorem q2177 : (Jvm.Cond.methodLink "TreeDifferModel" (142 : Nat) ({ cls := "TreeDifferModel", name := "takes", desc := "(CC)Z" } : Jvm.MethodName)) ∈ lw_all := lw_g (lw_at lw_m9 194 rfl) rfl
theorem q2178 : (Jvm.Cond.privateMethod ({ cls := "TreeDifferModel", name := "takes", desc := "(CC)Z" } : Jvm.MethodName)) ∈ lw_tbl := lw_at lw_m9 195 rfl
theorem q2179 : (Jvm.Cond.instanceMethod ({ cls := "TreeDifferModel", name := "takes", desc := "(CC)Z" } : Jvm.MethodName)) ∈ lw_all := lw_g (lw_at lw_m9 196 rfl) rfl
theorem q2180 : (Jvm.Cond.code ({ cls := "TreeDifferModel", name := "takes", desc := "(CC)Z" } : Jvm.MethodName) prog_20_method_13_code (3 : Nat) (Option.some Jvm.ClassFile.FieldType.boolean)) ∈ lw_all := lw_g (lw_at lw_m9 197 rfl) rfl
theorem q2181 : (Jvm.Cond.methodLink "TreeDifferModel" (139 : Nat) ({ cls := "TreeDifferModel", name := "isFaulty", desc := "()V" } : Jvm.MethodName)) ∈ lw_all := lw_g (lw_at lw_m9 198 rfl) rfl
theorem q2182 : (Jvm.Cond.privateMethod ({ cls := "TreeDifferModel", name := "isFaulty", desc := "()V" } : Jvm.MethodName)) ∈ lw_tbl := lw_at lw_m9 199 rfl
theorem q2183 : (Jvm.Cond.instanceMethod ({ cls := "TreeDifferModel", name := "isFaulty", desc := "()V" } : Jvm.MethodName)) ∈ lw_all := lw_g (lw_at lw_m9 200 rfl) rfl
theorem q2184 : (Jvm.Cond.code ({ cls := "TreeDifferModel", name := "isFaulty", desc := "()V" } : Jvm.MethodName) prog_20_method_12_code (1 : Nat) (Option.none : Option Jvm.ClassFile.FieldType)) ∈ lw_all := lw_g (lw_at lw_m9 201 rfl) rfl
theorem q2185 : (Jvm.Cond.methodLinkNest "TreeDifferModel" (146 : Nat) ({ cls := "TreeDifferModel$Tree", name := "isUsed", desc := "(III)Z" } : Jvm.MethodName) "TreeDifferModel") ∈ lw_tbl := lw_at lw_m9 202 rfl
theorem q2189 : (Jvm.Cond.methodLink "TreeDifferModel" (149 : Nat) ({ cls := "TreeDifferModel", name := "wants", desc := "(Z)V" } : Jvm.MethodName)) ∈ lw_all := lw_g (lw_at lw_m9 206 rfl) rfl
theorem q2190 : (Jvm.Cond.privateMethod ({ cls := "TreeDifferModel", name := "wants", desc := "(Z)V" } : Jvm.MethodName)) ∈ lw_tbl := lw_at lw_m9 207 rfl
theorem q2191 : (Jvm.Cond.instanceMethod ({ cls := "TreeDifferModel", name := "wants", desc := "(Z)V" } : Jvm.MethodName)) ∈ lw_all := lw_g (lw_at lw_m9 208 rfl) rfl
theorem q2192 : (Jvm.Cond.code ({ cls := "TreeDifferModel", name := "wants", desc := "(Z)V" } : Jvm.MethodName) prog_20_method_14_code (2 : Nat) (Option.none : Option Jvm.ClassFile.FieldType)) ∈ lw_all := lw_g (lw_at lw_m9 209 rfl) rfl
theorem q2193 : (Jvm.Cond.methodLinkNest "TreeDifferModel" (157 : Nat) ({ cls := "TreeDifferModel$Tree", name := "copies", desc := "(LTreeDifferModel$Tree;)V" } : Jvm.MethodName) "TreeDifferModel") ∈ lw_tbl := lw_at lw_m9 210 rfl
theorem q2198 : (Jvm.Cond.instanceMethod ({ cls := "TreeDifferModel", name := "errorPosition", desc := "()I" } : Jvm.MethodName)) ∈ lw_all := lw_g (lw_at lw_m9 215 rfl) rfl
theorem q2199 : (Jvm.Cond.selects "TreeDifferModel" ({ cls := "TreeDifferModel", name := "errorPosition", desc := "()I" } : Jvm.MethodName) ({ cls := "TreeDifferModel", name := "errorPosition", desc := "()I" } : Jvm.MethodName)) ∈ lw_all := lw_g (lw_at lw_m9 216 rfl) rfl
theorem q2200 : (Jvm.Cond.code ({ cls := "TreeDifferModel", name := "errorPosition", desc := "()I" } : Jvm.MethodName) prog_20_method_17_code (1 : Nat) (Option.some Jvm.ClassFile.FieldType.int)) ∈ lw_all := lw_g (lw_at lw_m9 217 rfl) rfl
theorem q2202 : (Jvm.Cond.instanceMethod ({ cls := "TreeDifferModel", name := "writeTree", desc := "(I)I" } : Jvm.MethodName)) ∈ lw_all := lw_g (lw_at lw_m9 219 rfl) rfl
theorem q2203 : (Jvm.Cond.selects "TreeDifferModel" ({ cls := "TreeDifferModel", name := "writeTree", desc := "(I)I" } : Jvm.MethodName) ({ cls := "TreeDifferModel", name := "writeTree", desc := "(I)I" } : Jvm.MethodName)) ∈ lw_all := lw_g (lw_at lw_m9 220 rfl) rfl
theorem q2204 : (Jvm.Cond.code ({ cls := "TreeDifferModel", name := "writeTree", desc := "(I)I" } : Jvm.MethodName) prog_20_method_19_code (3 : Nat) (Option.some Jvm.ClassFile.FieldType.int)) ∈ lw_all := lw_g (lw_at lw_m9 221 rfl) rfl
theorem q2205 : (Jvm.Cond.classLink "TreeDifferModel" (162 : Nat) "java/lang/StringBuilder") ∈ lw_all := lw_g (lw_at lw_m9 222 rfl) rfl
theorem q2206 : (Jvm.Cond.methodLink "TreeDifferModel" (181 : Nat) ({ cls := "java/lang/StringBuilder", name := "<init>", desc := "()V" } : Jvm.MethodName)) ∈ lw_all := lw_g (lw_at lw_m9 223 rfl) rfl
theorem q2207 : (Jvm.Cond.methodLink "TreeDifferModel" (177 : Nat) ({ cls := "TreeDifferModel", name := "writes", desc := "(LTreeDifferModel$Tree;ILjava/lang/StringBuilder;)V" } : Jvm.MethodName)) ∈ lw_all := lw_g (lw_at lw_m9 224 rfl) rfl
theorem q2208 : (Jvm.Cond.privateMethod ({ cls := "TreeDifferModel", name := "writes", desc := "(LTreeDifferModel$Tree;ILjava/lang/StringBuilder;)V" } : Jvm.MethodName)) ∈ lw_tbl := lw_at lw_m9 225 rfl
theorem q2209 : (Jvm.Cond.instanceMethod ({ cls := "TreeDifferModel", name := "writes", desc := "(LTreeDifferModel$Tree;ILjava/lang/StringBuilder;)V" } : Jvm.MethodName)) ∈ lw_all := lw_g (lw_at lw_m9 226 rfl) rfl
theorem q2210 : (Jvm.Cond.code ({ cls := "TreeDifferModel", name := "writes", desc := "(LTreeDifferModel$Tree;ILjava/lang/StringBuilder;)V" } : Jvm.MethodName) prog_20_method_18_code (8 : Nat) (Option.none : Option Jvm.ClassFile.FieldType)) ∈ lw_all := lw_g (lw_at lw_m9 227 rfl) rfl
theorem q2211 : (Jvm.Cond.methodLink "TreeDifferModel" (161 : Nat) ({ cls := "java/lang/StringBuilder", name := "append", desc := "(C)Ljava/lang/StringBuilder;" } : Jvm.MethodName)) ∈ lw_all := lw_g (lw_at lw_m9 228 rfl) rfl
theorem q2212 : (Jvm.Cond.methodLink "TreeDifferModel" (167 : Nat) ({ cls := "java/lang/StringBuilder", name := "append", desc := "(I)Ljava/lang/StringBuilder;" } : Jvm.MethodName)) ∈ lw_all := lw_g (lw_at lw_m9 229 rfl) rfl
theorem q2213 : (Jvm.Cond.methodLinkNest "TreeDifferModel" (170 : Nat) ({ cls := "TreeDifferModel$Tree", name := "many", desc := "(I)I" } : Jvm.MethodName) "TreeDifferModel") ∈ lw_tbl := lw_at lw_m9 230 rfl
theorem q2217 : (Jvm.Cond.methodLinkNest "TreeDifferModel" (173 : Nat) ({ cls := "TreeDifferModel$Tree", name := "kids", desc := "(I)[I" } : Jvm.MethodName) "TreeDifferModel") ∈ lw_tbl := lw_at lw_m9 234 rfl
theorem q2222 : (Jvm.Cond.methodLink "TreeDifferModel" (182 : Nat) ({ cls := "java/lang/StringBuilder", name := "toString", desc := "()Ljava/lang/String;" } : Jvm.MethodName)) ∈ lw_all := lw_g (lw_at lw_m9 239 rfl) rfl
theorem q2223 : (Jvm.Cond.methodLink "TreeDifferModel" (186 : Nat) ({ cls := "java/lang/String", name := "length", desc := "()I" } : Jvm.MethodName)) ∈ lw_all := lw_g (lw_at lw_m10 0 rfl) rfl
theorem q2225 : (Jvm.Cond.instanceMethod ({ cls := "TreeDifferModel", name := "writeScript", desc := "()I" } : Jvm.MethodName)) ∈ lw_all := lw_g (lw_at lw_m10 2 rfl) rfl
theorem q2226 : (Jvm.Cond.selects "TreeDifferModel" ({ cls := "TreeDifferModel", name := "writeScript", desc := "()I" } : Jvm.MethodName) ({ cls := "TreeDifferModel", name := "writeScript", desc := "()I" } : Jvm.MethodName)) ∈ lw_all := lw_g (lw_at lw_m10 3 rfl) rfl
theorem q2227 : (Jvm.Cond.code ({ cls := "TreeDifferModel", name := "writeScript", desc := "()I" } : Jvm.MethodName) prog_20_method_20_code (3 : Nat) (Option.some Jvm.ClassFile.FieldType.int)) ∈ lw_all := lw_g (lw_at lw_m10 4 rfl) rfl
theorem q2229 : (Jvm.Cond.instanceMethod ({ cls := "TreeDifferModel", name := "charAt", desc := "(I)C" } : Jvm.MethodName)) ∈ lw_all := lw_g (lw_at lw_m10 6 rfl) rfl
theorem q2230 : (Jvm.Cond.selects "TreeDifferModel" ({ cls := "TreeDifferModel", name := "charAt", desc := "(I)C" } : Jvm.MethodName) ({ cls := "TreeDifferModel", name := "charAt", desc := "(I)C" } : Jvm.MethodName)) ∈ lw_all := lw_g (lw_at lw_m10 7 rfl) rfl
theorem q2231 : (Jvm.Cond.code ({ cls := "TreeDifferModel", name := "charAt", desc := "(I)C" } : Jvm.MethodName) prog_20_method_21_code (2 : Nat) (Option.some Jvm.ClassFile.FieldType.char)) ∈ lw_all := lw_g (lw_at lw_m10 8 rfl) rfl
theorem q2232 : (Jvm.Cond.methodLink "TreeDifferModel" (198 : Nat) ({ cls := "java/lang/String", name := "charAt", desc := "(I)C" } : Jvm.MethodName)) ∈ lw_all := lw_g (lw_at lw_m10 9 rfl) rfl
theorem q2248 : (Jvm.Cond.instanceMethod ({ cls := "TreeDifferModel", name := "addNode", desc := "(IIIC)I" } : Jvm.MethodName)) ∈ lw_all := lw_g (lw_at lw_m10 25 rfl) rfl
theorem q2249 : (Jvm.Cond.selects "TreeDifferModel" ({ cls := "TreeDifferModel", name := "addNode", desc := "(IIIC)I" } : Jvm.MethodName) ({ cls := "TreeDifferModel", name := "addNode", desc := "(IIIC)I" } : Jvm.MethodName)) ∈ lw_all := lw_g (lw_at lw_m10 26 rfl) rfl
theorem q2250 : (Jvm.Cond.code ({ cls := "TreeDifferModel", name := "addNode", desc := "(IIIC)I" } : Jvm.MethodName) prog_20_method_23_code (8 : Nat) (Option.some Jvm.ClassFile.FieldType.int)) ∈ lw_all := lw_g (lw_at lw_m10 27 rfl) rfl
theorem q2251 : (Jvm.Cond.methodLink "TreeDifferModel" (202 : Nat) ({ cls := "TreeDifferModel", name := "isNowhere", desc := "(II)Z" } : Jvm.MethodName)) ∈ lw_all := lw_g (lw_at lw_m10 28 rfl) rfl
theorem q2252 : (Jvm.Cond.privateMethod ({ cls := "TreeDifferModel", name := "isNowhere", desc := "(II)Z" } : Jvm.MethodName)) ∈ lw_tbl := lw_at lw_m10 29 rfl
theorem q2253 : (Jvm.Cond.instanceMethod ({ cls := "TreeDifferModel", name := "isNowhere", desc := "(II)Z" } : Jvm.MethodName)) ∈ lw_all := lw_g (lw_at lw_m10 30 rfl) rfl
theorem q2254 : (Jvm.Cond.code ({ cls := "TreeDifferModel", name := "isNowhere", desc := "(II)Z" } : Jvm.MethodName) prog_20_method_9_code (3 : Nat) (Option.some Jvm.ClassFile.FieldType.boolean)) ∈ lw_all := lw_g (lw_at lw_m10 31 rfl) rfl
theorem q2255 : (Jvm.Cond.methodLink "TreeDifferModel" (119 : Nat) ({ cls := "TreeDifferModel", name := "isNode", desc := "(II)Z" } : Jvm.MethodName)) ∈ lw_all := lw_g (lw_at lw_m10 32 rfl) rfl
theorem q2256 : (Jvm.Cond.privateMethod ({ cls := "TreeDifferModel", name := "isNode", desc := "(II)Z" } : Jvm.MethodName)) ∈ lw_tbl := lw_at lw_m10 33 rfl
theorem q2257 : (Jvm.Cond.instanceMethod ({ cls := "TreeDifferModel", name := "isNode", desc := "(II)Z" } : Jvm.MethodName)) ∈ lw_all := lw_g (lw_at lw_m10 34 rfl) rfl
theorem q2258 : (Jvm.Cond.code ({ cls := "TreeDifferModel", name := "isNode", desc := "(II)Z" } : Jvm.MethodName) prog_20_method_8_code (3 : Nat) (Option.some Jvm.ClassFile.FieldType.boolean)) ∈ lw_all := lw_g (lw_at lw_m10 35 rfl) rfl
theorem q2259 : (Jvm.Cond.methodLink "TreeDifferModel" (205 : Nat) ({ cls := "TreeDifferModel", name := "isLabel", desc := "(C)Z" } : Jvm.MethodName)) ∈ lw_all := lw_g (lw_at lw_m10 36 rfl) rfl
theorem q2260 : (Jvm.Cond.static ({ cls := "TreeDifferModel", name := "isLabel", desc := "(C)Z" } : Jvm.MethodName)) ∈ lw_all := lw_g (lw_at lw_m10 37 rfl) rfl
theorem q2261 : (Jvm.Cond.code ({ cls := "TreeDifferModel", name := "isLabel", desc := "(C)Z" } : Jvm.MethodName) prog_20_method_22_code (1 : Nat) (Option.some Jvm.ClassFile.FieldType.boolean)) ∈ lw_all := lw_g (lw_at lw_m10 38 rfl) rfl
theorem q2262 : (Jvm.Cond.methodLinkNest "TreeDifferModel" (1 : Nat) ({ cls := "TreeDifferModel$Tree", name := "end", desc := "(I)I" } : Jvm.MethodName) "TreeDifferModel") ∈ lw_tbl := lw_at lw_m10 39 rfl
theorem q2266 : (Jvm.Cond.methodLinkNest "TreeDifferModel" (209 : Nat) ({ cls := "TreeDifferModel$Tree", name := "moves", desc := "(II)V" } : Jvm.MethodName) "TreeDifferModel") ∈ lw_tbl := lw_at lw_m10 43 rfl
theorem q2270 : (Jvm.Cond.methodLinkNest "TreeDifferModel" (213 : Nat) ({ cls := "TreeDifferModel$Tree", name := "sets", desc := "(IIIII)V" } : Jvm.MethodName) "TreeDifferModel") ∈ lw_tbl := lw_at lw_m10 47 rfl
theorem q2272 : (Jvm.Cond.instanceMethod ({ cls := "TreeDifferModel", name := "removeNode", desc := "(II)I" } : Jvm.MethodName)) ∈ lw_all := lw_g (lw_at lw_m10 49 rfl) rfl
theorem q2273 : (Jvm.Cond.selects "TreeDifferModel" ({ cls := "TreeDifferModel", name := "removeNode", desc := "(II)I" } : Jvm.MethodName) ({ cls := "TreeDifferModel", name := "removeNode", desc := "(II)I" } : Jvm.MethodName)) ∈ lw_all := lw_g (lw_at lw_m10 50 rfl) rfl
theorem q2274 : (Jvm.Cond.code ({ cls := "TreeDifferModel", name := "removeNode", desc := "(II)I" } : Jvm.MethodName) prog_20_method_24_code (4 : Nat) (Option.some Jvm.ClassFile.FieldType.int)) ∈ lw_all := lw_g (lw_at lw_m10 51 rfl) rfl
theorem q2276 : (Jvm.Cond.instanceMethod ({ cls := "TreeDifferModel", name := "setLabel", desc := "(IIC)I" } : Jvm.MethodName)) ∈ lw_all := lw_g (lw_at lw_m10 53 rfl) rfl
theorem q2277 : (Jvm.Cond.selects "TreeDifferModel" ({ cls := "TreeDifferModel", name := "setLabel", desc := "(IIC)I" } : Jvm.MethodName) ({ cls := "TreeDifferModel", name := "setLabel", desc := "(IIC)I" } : Jvm.MethodName)) ∈ lw_all := lw_g (lw_at lw_m10 54 rfl) rfl
theorem q2278 : (Jvm.Cond.code ({ cls := "TreeDifferModel", name := "setLabel", desc := "(IIC)I" } : Jvm.MethodName) prog_20_method_25_code (7 : Nat) (Option.some Jvm.ClassFile.FieldType.int)) ∈ lw_all := lw_g (lw_at lw_m10 55 rfl) rfl
theorem q2280 : (Jvm.Cond.instanceMethod ({ cls := "TreeDifferModel", name := "setKey", desc := "(III)I" } : Jvm.MethodName)) ∈ lw_all := lw_g (lw_at lw_m10 57 rfl) rfl
theorem q2281 : (Jvm.Cond.selects "TreeDifferModel" ({ cls := "TreeDifferModel", name := "setKey", desc := "(III)I" } : Jvm.MethodName) ({ cls := "TreeDifferModel", name := "setKey", desc := "(III)I" } : Jvm.MethodName)) ∈ lw_all := lw_g (lw_at lw_m10 58 rfl) rfl
theorem q2282 : (Jvm.Cond.code ({ cls := "TreeDifferModel", name := "setKey", desc := "(III)I" } : Jvm.MethodName) prog_20_method_26_code (6 : Nat) (Option.some Jvm.ClassFile.FieldType.int)) ∈ lw_all := lw_g (lw_at lw_m10 59 rfl) rfl
theorem q2284 : (Jvm.Cond.instanceMethod ({ cls := "TreeDifferModel", name := "setValue", desc := "(III)I" } : Jvm.MethodName)) ∈ lw_all := lw_g (lw_at lw_m10 61 rfl) rfl
theorem q2285 : (Jvm.Cond.selects "TreeDifferModel" ({ cls := "TreeDifferModel", name := "setValue", desc := "(III)I" } : Jvm.MethodName) ({ cls := "TreeDifferModel", name := "setValue", desc := "(III)I" } : Jvm.MethodName)) ∈ lw_all := lw_g (lw_at lw_m10 62 rfl) rfl
theorem q2286 : (Jvm.Cond.code ({ cls := "TreeDifferModel", name := "setValue", desc := "(III)I" } : Jvm.MethodName) prog_20_method_27_code (5 : Nat) (Option.some Jvm.ClassFile.FieldType.int)) ∈ lw_all := lw_g (lw_at lw_m10 63 rfl) rfl
theorem q2288 : (Jvm.Cond.instanceMethod ({ cls := "TreeDifferModel", name := "copyTree", desc := "(II)I" } : Jvm.MethodName)) ∈ lw_all := lw_g (lw_at lw_m10 65 rfl) rfl
theorem q2289 : (Jvm.Cond.selects "TreeDifferModel" ({ cls := "TreeDifferModel", name := "copyTree", desc := "(II)I" } : Jvm.MethodName) ({ cls := "TreeDifferModel", name := "copyTree", desc := "(II)I" } : Jvm.MethodName)) ∈ lw_all := lw_g (lw_at lw_m10 66 rfl) rfl
theorem q2290 : (Jvm.Cond.code ({ cls := "TreeDifferModel", name := "copyTree", desc := "(II)I" } : Jvm.MethodName) prog_20_method_29_code (3 : Nat) (Option.some Jvm.ClassFile.FieldType.int)) ∈ lw_all := lw_g (lw_at lw_m10 67 rfl) rfl
theorem q2291 : (Jvm.Cond.methodLink "TreeDifferModel" (217 : Nat) ({ cls := "TreeDifferModel", name := "areNone", desc := "(II)Z" } : Jvm.MethodName)) ∈ lw_all := lw_g (lw_at lw_m10 68 rfl) rfl
theorem q2292 : (Jvm.Cond.privateMethod ({ cls := "TreeDifferModel", name := "areNone", desc := "(II)Z" } : Jvm.MethodName)) ∈ lw_tbl := lw_at lw_m10 69 rfl
theorem q2293 : (Jvm.Cond.instanceMethod ({ cls := "TreeDifferModel", name := "areNone", desc := "(II)Z" } : Jvm.MethodName)) ∈ lw_all := lw_g (lw_at lw_m10 70 rfl) rfl
theorem q2294 : (Jvm.Cond.code ({ cls := "TreeDifferModel", name := "areNone", desc := "(II)Z" } : Jvm.MethodName) prog_20_method_28_code (3 : Nat) (Option.some Jvm.ClassFile.FieldType.boolean)) ∈ lw_all := lw_g (lw_at lw_m10 71 rfl) rfl
theorem q2296 : (Jvm.Cond.instanceMethod ({ cls := "TreeDifferModel", name := "size", desc := "(I)I" } : Jvm.MethodName)) ∈ lw_all := lw_g (lw_at lw_m10 73 rfl) rfl
theorem q2297 : (Jvm.Cond.selects "TreeDifferModel" ({ cls := "TreeDifferModel", name := "size", desc := "(I)I" } : Jvm.MethodName) ({ cls := "TreeDifferModel", name := "size", desc := "(I)I" } : Jvm.MethodName)) ∈ lw_all := lw_g (lw_at lw_m10 74 rfl) rfl
theorem q2298 : (Jvm.Cond.code ({ cls := "TreeDifferModel", name := "size", desc := "(I)I" } : Jvm.MethodName) prog_20_method_30_code (2 : Nat) (Option.some Jvm.ClassFile.FieldType.int)) ∈ lw_all := lw_g (lw_at lw_m10 75 rfl) rfl
theorem q2300 : (Jvm.Cond.instanceMethod ({ cls := "TreeDifferModel", name := "label", desc := "(II)C" } : Jvm.MethodName)) ∈ lw_all := lw_g (lw_at lw_m10 77 rfl) rfl
theorem q2301 : (Jvm.Cond.selects "TreeDifferModel" ({ cls := "TreeDifferModel", name := "label", desc := "(II)C" } : Jvm.MethodName) ({ cls := "TreeDifferModel", name := "label", desc := "(II)C" } : Jvm.MethodName)) ∈ lw_all := lw_g (lw_at lw_m10 78 rfl) rfl
theorem q2302 : (Jvm.Cond.code ({ cls := "TreeDifferModel", name := "label", desc := "(II)C" } : Jvm.MethodName) prog_20_method_31_code (3 : Nat) (Option.some Jvm.ClassFile.FieldType.char)) ∈ lw_all := lw_g (lw_at lw_m10 79 rfl) rfl
theorem q2304 : (Jvm.Cond.instanceMethod ({ cls := "TreeDifferModel", name := "key", desc := "(II)I" } : Jvm.MethodName)) ∈ lw_all := lw_g (lw_at lw_m10 81 rfl) rfl
theorem q2305 : (Jvm.Cond.selects "TreeDifferModel" ({ cls := "TreeDifferModel", name := "key", desc := "(II)I" } : Jvm.MethodName) ({ cls := "TreeDifferModel", name := "key", desc := "(II)I" } : Jvm.MethodName)) ∈ lw_all := lw_g (lw_at lw_m10 82 rfl) rfl
theorem q2306 : (Jvm.Cond.code ({ cls := "TreeDifferModel", name := "key", desc := "(II)I" } : Jvm.MethodName) prog_20_method_32_code (3 : Nat) (Option.some Jvm.ClassFile.FieldType.int)) ∈ lw_all := lw_g (lw_at lw_m10 83 rfl) rfl
theorem q2308 : (Jvm.Cond.instanceMethod ({ cls := "TreeDifferModel", name := "value", desc := "(II)I" } : Jvm.MethodName)) ∈ lw_all := lw_g (lw_at lw_m10 85 rfl) rfl
theorem q2309 : (Jvm.Cond.selects "TreeDifferModel" ({ cls := "TreeDifferModel", name := "value", desc := "(II)I" } : Jvm.MethodName) ({ cls := "TreeDifferModel", name := "value", desc := "(II)I" } : Jvm.MethodName)) ∈ lw_all := lw_g (lw_at lw_m10 86 rfl) rfl
theorem q2310 : (Jvm.Cond.code ({ cls := "TreeDifferModel", name := "value", desc := "(II)I" } : Jvm.MethodName) prog_20_method_33_code (3 : Nat) (Option.some Jvm.ClassFile.FieldType.int)) ∈ lw_all := lw_g (lw_at lw_m10 87 rfl) rfl
theorem q2312 : (Jvm.Cond.instanceMethod ({ cls := "TreeDifferModel", name := "children", desc := "(II)I" } : Jvm.MethodName)) ∈ lw_all := lw_g (lw_at lw_m10 89 rfl) rfl
theorem q2313 : (Jvm.Cond.selects "TreeDifferModel" ({ cls := "TreeDifferModel", name := "children", desc := "(II)I" } : Jvm.MethodName) ({ cls := "TreeDifferModel", name := "children", desc := "(II)I" } : Jvm.MethodName)) ∈ lw_all := lw_g (lw_at lw_m10 90 rfl) rfl
theorem q2314 : (Jvm.Cond.code ({ cls := "TreeDifferModel", name := "children", desc := "(II)I" } : Jvm.MethodName) prog_20_method_34_code (3 : Nat) (Option.some Jvm.ClassFile.FieldType.int)) ∈ lw_all := lw_g (lw_at lw_m10 91 rfl) rfl
theorem q2316 : (Jvm.Cond.instanceMethod ({ cls := "TreeDifferModel", name := "parent", desc := "(II)I" } : Jvm.MethodName)) ∈ lw_all := lw_g (lw_at lw_m10 93 rfl) rfl
theorem q2317 : (Jvm.Cond.selects "TreeDifferModel" ({ cls := "TreeDifferModel", name := "parent", desc := "(II)I" } : Jvm.MethodName) ({ cls := "TreeDifferModel", name := "parent", desc := "(II)I" } : Jvm.MethodName)) ∈ lw_all := lw_g (lw_at lw_m10 94 rfl) rfl
theorem q2318 : (Jvm.Cond.code ({ cls := "TreeDifferModel", name := "parent", desc := "(II)I" } : Jvm.MethodName) prog_20_method_35_code (3 : Nat) (Option.some Jvm.ClassFile.FieldType.int)) ∈ lw_all := lw_g (lw_at lw_m10 95 rfl) rfl
theorem q2320 : (Jvm.Cond.instanceMethod ({ cls := "TreeDifferModel", name := "subtreeSize", desc := "(II)I" } : Jvm.MethodName)) ∈ lw_all := lw_g (lw_at lw_m10 97 rfl) rfl
theorem q2321 : (Jvm.Cond.selects "TreeDifferModel" ({ cls := "TreeDifferModel", name := "subtreeSize", desc := "(II)I" } : Jvm.MethodName) ({ cls := "TreeDifferModel", name := "subtreeSize", desc := "(II)I" } : Jvm.MethodName)) ∈ lw_all := lw_g (lw_at lw_m10 98 rfl) rfl
theorem q2322 : (Jvm.Cond.code ({ cls := "TreeDifferModel", name := "subtreeSize", desc := "(II)I" } : Jvm.MethodName) prog_20_method_36_code (3 : Nat) (Option.some Jvm.ClassFile.FieldType.int)) ∈ lw_all := lw_g (lw_at lw_m10 99 rfl) rfl
theorem q2324 : (Jvm.Cond.instanceMethod ({ cls := "TreeDifferModel", name := "subtreeHash", desc := "(II)I" } : Jvm.MethodName)) ∈ lw_all := lw_g (lw_at lw_m10 101 rfl) rfl
theorem q2325 : (Jvm.Cond.selects "TreeDifferModel" ({ cls := "TreeDifferModel", name := "subtreeHash", desc := "(II)I" } : Jvm.MethodName) ({ cls := "TreeDifferModel", name := "subtreeHash", desc := "(II)I" } : Jvm.MethodName)) ∈ lw_all := lw_g (lw_at lw_m10 102 rfl) rfl
theorem q2326 : (Jvm.Cond.code ({ cls := "TreeDifferModel", name := "subtreeHash", desc := "(II)I" } : Jvm.MethodName) prog_20_method_37_code (3 : Nat) (Option.some Jvm.ClassFile.FieldType.int)) ∈ lw_all := lw_g (lw_at lw_m10 103 rfl) rfl
theorem q2327 : (Jvm.Cond.methodLinkNest "TreeDifferModel" (220 : Nat) ({ cls := "TreeDifferModel$Tree", name := "hash", desc := "(I)I" } : Jvm.MethodName) "TreeDifferModel") ∈ lw_tbl := lw_at lw_m10 104 rfl
theorem q2334 : (Jvm.Cond.instanceMethod ({ cls := "TreeDifferModel", name := "areEqual", desc := "(IIII)Z" } : Jvm.MethodName)) ∈ lw_all := lw_g (lw_at lw_m10 111 rfl) rfl
theorem q2335 : (Jvm.Cond.selects "TreeDifferModel" ({ cls := "TreeDifferModel", name := "areEqual", desc := "(IIII)Z" } : Jvm.MethodName) ({ cls := "TreeDifferModel", name := "areEqual", desc := "(IIII)Z" } : Jvm.MethodName)) ∈ lw_all := lw_g (lw_at lw_m10 112 rfl) rfl
theorem q2336 : (Jvm.Cond.code ({ cls := "TreeDifferModel", name := "areEqual", desc := "(IIII)Z" } : Jvm.MethodName) prog_20_method_38_code (5 : Nat) (Option.some Jvm.ClassFile.FieldType.boolean)) ∈ lw_all := lw_g (lw_at lw_m10 113 rfl) rfl
theorem q2337 : (Jvm.Cond.methodLink "TreeDifferModel" (223 : Nat) ({ cls := "TreeDifferModel", name := "areLike", desc := "(LTreeDifferModel$Tree;ILTreeDifferModel$Tree;IZ)Z" } : Jvm.MethodName)) ∈ lw_all := lw_g (lw_at lw_m10 114 rfl) rfl
theorem q2338 : (Jvm.Cond.static ({ cls := "TreeDifferModel", name := "areLike", desc := "(LTreeDifferModel$Tree;ILTreeDifferModel$Tree;IZ)Z" } : Jvm.MethodName)) ∈ lw_all := lw_g (lw_at lw_m10 115 rfl) rfl
theorem q2339 : (Jvm.Cond.code ({ cls := "TreeDifferModel", name := "areLike", desc := "(LTreeDifferModel$Tree;ILTreeDifferModel$Tree;IZ)Z" } : Jvm.MethodName) prog_20_method_1_code (7 : Nat) (Option.some Jvm.ClassFile.FieldType.boolean)) ∈ lw_all := lw_g (lw_at lw_m10 116 rfl) rfl
theorem q2341 : (Jvm.Cond.instanceMethod ({ cls := "TreeDifferModel", name := "twin", desc := "(III)I" } : Jvm.MethodName)) ∈ lw_all := lw_g (lw_at lw_m10 118 rfl) rfl
theorem q2342 : (Jvm.Cond.selects "TreeDifferModel" ({ cls := "TreeDifferModel", name := "twin", desc := "(III)I" } : Jvm.MethodName) ({ cls := "TreeDifferModel", name := "twin", desc := "(III)I" } : Jvm.MethodName)) ∈ lw_all := lw_g (lw_at lw_m10 119 rfl) rfl
theorem q2343 : (Jvm.Cond.code ({ cls := "TreeDifferModel", name := "twin", desc := "(III)I" } : Jvm.MethodName) prog_20_method_40_code (4 : Nat) (Option.some Jvm.ClassFile.FieldType.int)) ∈ lw_all := lw_g (lw_at lw_m10 120 rfl) rfl
theorem q2344 : (Jvm.Cond.methodLink "TreeDifferModel" (227 : Nat) ({ cls := "TreeDifferModel", name := "finds", desc := "(IIIZ)I" } : Jvm.MethodName)) ∈ lw_all := lw_g (lw_at lw_m10 121 rfl) rfl
theorem q2345 : (Jvm.Cond.privateMethod ({ cls := "TreeDifferModel", name := "finds", desc := "(IIIZ)I" } : Jvm.MethodName)) ∈ lw_tbl := lw_at lw_m10 122 rfl
theorem q2346 : (Jvm.Cond.instanceMethod ({ cls := "TreeDifferModel", name := "finds", desc := "(IIIZ)I" } : Jvm.MethodName)) ∈ lw_all := lw_g (lw_at lw_m10 123 rfl) rfl
theorem q2347 : (Jvm.Cond.code ({ cls := "TreeDifferModel", name := "finds", desc := "(IIIZ)I" } : Jvm.MethodName) prog_20_method_39_code (6 : Nat) (Option.some Jvm.ClassFile.FieldType.int)) ∈ lw_all := lw_g (lw_at lw_m10 124 rfl) rfl
theorem q2349 : (Jvm.Cond.instanceMethod ({ cls := "TreeDifferModel", name := "shapeTwin", desc := "(III)I" } : Jvm.MethodName)) ∈ lw_all := lw_g (lw_at lw_m10 126 rfl) rfl
theorem q2350 : (Jvm.Cond.selects "TreeDifferModel" ({ cls := "TreeDifferModel", name := "shapeTwin", desc := "(III)I" } : Jvm.MethodName) ({ cls := "TreeDifferModel", name := "shapeTwin", desc := "(III)I" } : Jvm.MethodName)) ∈ lw_all := lw_g (lw_at lw_m10 127 rfl) rfl
theorem q2351 : (Jvm.Cond.code ({ cls := "TreeDifferModel", name := "shapeTwin", desc := "(III)I" } : Jvm.MethodName) prog_20_method_41_code (4 : Nat) (Option.some Jvm.ClassFile.FieldType.int)) ∈ lw_all := lw_g (lw_at lw_m10 128 rfl) rfl
theorem q2353 : (Jvm.Cond.instanceMethod ({ cls := "TreeDifferModel", name := "distance", desc := "(II)I" } : Jvm.MethodName)) ∈ lw_all := lw_g (lw_at lw_m10 130 rfl) rfl
theorem q2354 : (Jvm.Cond.selects "TreeDifferModel" ({ cls := "TreeDifferModel", name := "distance", desc := "(II)I" } : Jvm.MethodName) ({ cls := "TreeDifferModel", name := "distance", desc := "(II)I" } : Jvm.MethodName)) ∈ lw_all := lw_g (lw_at lw_m10 131 rfl) rfl
theorem q2355 : (Jvm.Cond.code ({ cls := "TreeDifferModel", name := "distance", desc := "(II)I" } : Jvm.MethodName) prog_20_method_47_code (3 : Nat) (Option.some Jvm.ClassFile.FieldType.int)) ∈ lw_all := lw_g (lw_at lw_m10 132 rfl) rfl
theorem q2356 : (Jvm.Cond.methodLink "TreeDifferModel" (253 : Nat) ({ cls := "TreeDifferModel", name := "fills", desc := "(LTreeDifferModel$Tree;LTreeDifferModel$Tree;)I" } : Jvm.MethodName)) ∈ lw_all := lw_g (lw_at lw_m10 133 rfl) rfl
theorem q2357 : (Jvm.Cond.privateMethod ({ cls := "TreeDifferModel", name := "fills", desc := "(LTreeDifferModel$Tree;LTreeDifferModel$Tree;)I" } : Jvm.MethodName)) ∈ lw_tbl := lw_at lw_m10 134 rfl
theorem q2358 : (Jvm.Cond.instanceMethod ({ cls := "TreeDifferModel", name := "fills", desc := "(LTreeDifferModel$Tree;LTreeDifferModel$Tree;)I" } : Jvm.MethodName)) ∈ lw_all := lw_g (lw_at lw_m10 135 rfl) rfl
theorem q2359 : (Jvm.Cond.code ({ cls := "TreeDifferModel", name := "fills", desc := "(LTreeDifferModel$Tree;LTreeDifferModel$Tree;)I" } : Jvm.MethodName) prog_20_method_43_code (6 : Nat) (Option.some Jvm.ClassFile.FieldType.int)) ∈ lw_all := lw_g (lw_at lw_m10 136 rfl) rfl
theorem q2360 : (Jvm.Cond.methodLink "TreeDifferModel" (238 : Nat) ({ cls := "TreeDifferModel", name := "left", desc := "(LTreeDifferModel$Tree;[ILTreeDifferModel$Tree;[I)[[I" } : Jvm.MethodName)) ∈ lw_all := lw_g (lw_at lw_m10 137 rfl) rfl
theorem q2361 : (Jvm.Cond.privateMethod ({ cls := "TreeDifferModel", name := "left", desc := "(LTreeDifferModel$Tree;[ILTreeDifferModel$Tree;[I)[[I" } : Jvm.MethodName)) ∈ lw_tbl := lw_at lw_m10 138 rfl
theorem q2362 : (Jvm.Cond.instanceMethod ({ cls := "TreeDifferModel", name := "left", desc := "(LTreeDifferModel$Tree;[ILTreeDifferModel$Tree;[I)[[I" } : Jvm.MethodName)) ∈ lw_all := lw_g (lw_at lw_m10 139 rfl) rfl
theorem q2363 : (Jvm.Cond.code ({ cls := "TreeDifferModel", name := "left", desc := "(LTreeDifferModel$Tree;[ILTreeDifferModel$Tree;[I)[[I" } : Jvm.MethodName) prog_20_method_42_code (9 : Nat) (Option.some (Jvm.ClassFile.FieldType.array (Jvm.ClassFile.FieldType.array Jvm.ClassFile.FieldType.int)))) ∈ lw_all := lw_g (lw_at lw_m10 140 rfl) rfl
theorem q2364 : (Jvm.Cond.constant "TreeDifferModel" (231 : Nat) (1000000 : Int32)) ∈ lw_all := lw_g (lw_at lw_m10 141 rfl) rfl
theorem q2365 : (Jvm.Cond.methodLink "TreeDifferModel" (232 : Nat) ({ cls := "java/lang/Math", name := "min", desc := "(II)I" } : Jvm.MethodName)) ∈ lw_all := lw_g (lw_at lw_m10 142 rfl) rfl
theorem q2367 : (Jvm.Cond.instanceMethod ({ cls := "TreeDifferModel", name := "distanceByMatchings", desc := "(II)I" } : Jvm.MethodName)) ∈ lw_all := lw_g (lw_at lw_m10 144 rfl) rfl
theorem q2368 : (Jvm.Cond.selects "TreeDifferModel" ({ cls := "TreeDifferModel", name := "distanceByMatchings", desc := "(II)I" } : Jvm.MethodName) ({ cls := "TreeDifferModel", name := "distanceByMatchings", desc := "(II)I" } : Jvm.MethodName)) ∈ lw_all := lw_g (lw_at lw_m10 145 rfl) rfl
theorem q2369 : (Jvm.Cond.code ({ cls := "TreeDifferModel", name := "distanceByMatchings", desc := "(II)I" } : Jvm.MethodName) prog_20_method_48_code (3 : Nat) (Option.some Jvm.ClassFile.FieldType.int)) ∈ lw_all := lw_g (lw_at lw_m10 146 rfl) rfl
theorem q2371 : (Jvm.Cond.instanceMethod ({ cls := "TreeDifferModel", name := "similarity", desc := "(II)D" } : Jvm.MethodName)) ∈ lw_all := lw_g (lw_at lw_m10 148 rfl) rfl
theorem q2372 : (Jvm.Cond.selects "TreeDifferModel" ({ cls := "TreeDifferModel", name := "similarity", desc := "(II)D" } : Jvm.MethodName) ({ cls := "TreeDifferModel", name := "similarity", desc := "(II)D" } : Jvm.MethodName)) ∈ lw_all := lw_g (lw_at lw_m10 149 rfl) rfl
theorem q2373 : (Jvm.Cond.code ({ cls := "TreeDifferModel", name := "similarity", desc := "(II)D" } : Jvm.MethodName) prog_20_method_49_code (3 : Nat) (Option.some Jvm.ClassFile.FieldType.double)) ∈ lw_all := lw_g (lw_at lw_m10 150 rfl) rfl
theorem q2375 : (Jvm.Cond.instanceMethod ({ cls := "TreeDifferModel", name := "diff", desc := "(II)I" } : Jvm.MethodName)) ∈ lw_all := lw_g (lw_at lw_m10 152 rfl) rfl
theorem q2376 : (Jvm.Cond.selects "TreeDifferModel" ({ cls := "TreeDifferModel", name := "diff", desc := "(II)I" } : Jvm.MethodName) ({ cls := "TreeDifferModel", name := "diff", desc := "(II)I" } : Jvm.MethodName)) ∈ lw_all := lw_g (lw_at lw_m10 153 rfl) rfl
theorem q2377 : (Jvm.Cond.code ({ cls := "TreeDifferModel", name := "diff", desc := "(II)I" } : Jvm.MethodName) prog_20_method_51_code (4 : Nat) (Option.some Jvm.ClassFile.FieldType.int)) ∈ lw_all := lw_g (lw_at lw_m10 154 rfl) rfl
theorem q2378 : (Jvm.Cond.methodLink "TreeDifferModel" (257 : Nat) ({ cls := "TreeDifferModel", name := "matches", desc := "(LTreeDifferModel$Tree;LTreeDifferModel$Tree;)V" } : Jvm.MethodName)) ∈ lw_all := lw_g (lw_at lw_m10 155 rfl) rfl
theorem q2379 : (Jvm.Cond.privateMethod ({ cls := "TreeDifferModel", name := "matches", desc := "(LTreeDifferModel$Tree;LTreeDifferModel$Tree;)V" } : Jvm.MethodName)) ∈ lw_tbl := lw_at lw_m10 156 rfl
theorem q2380 : (Jvm.Cond.instanceMethod ({ cls := "TreeDifferModel", name := "matches", desc := "(LTreeDifferModel$Tree;LTreeDifferModel$Tree;)V" } : Jvm.MethodName)) ∈ lw_all := lw_g (lw_at lw_m10 157 rfl) rfl
theorem q2381 : (Jvm.Cond.code ({ cls := "TreeDifferModel", name := "matches", desc := "(LTreeDifferModel$Tree;LTreeDifferModel$Tree;)V" } : Jvm.MethodName) prog_20_method_46_code (4 : Nat) (Option.none : Option Jvm.ClassFile.FieldType)) ∈ lw_all := lw_g (lw_at lw_m10 158 rfl) rfl
theorem q2382 : (Jvm.Cond.methodLink "TreeDifferModel" (249 : Nat) ({ cls := "TreeDifferModel", name := "pairs", desc := "(LTreeDifferModel$Tree;ILTreeDifferModel$Tree;I)V" } : Jvm.MethodName)) ∈ lw_all := lw_g (lw_at lw_m10 159 rfl) rfl
theorem q2383 : (Jvm.Cond.privateMethod ({ cls := "TreeDifferModel", name := "pairs", desc := "(LTreeDifferModel$Tree;ILTreeDifferModel$Tree;I)V" } : Jvm.MethodName)) ∈ lw_tbl := lw_at lw_m10 160 rfl
theorem q2384 : (Jvm.Cond.instanceMethod ({ cls := "TreeDifferModel", name := "pairs", desc := "(LTreeDifferModel$Tree;ILTreeDifferModel$Tree;I)V" } : Jvm.MethodName)) ∈ lw_all := lw_g (lw_at lw_m10 161 rfl) rfl
theorem q2385 : (Jvm.Cond.code ({ cls := "TreeDifferModel", name := "pairs", desc := "(LTreeDifferModel$Tree;ILTreeDifferModel$Tree;I)V" } : Jvm.MethodName) prog_20_method_45_code (11 : Nat) (Option.none : Option Jvm.ClassFile.FieldType)) ∈ lw_all := lw_g (lw_at lw_m10 162 rfl) rfl
theorem q2386 : (Jvm.Cond.methodLink "TreeDifferModel" (245 : Nat) ({ cls := "TreeDifferModel", name := "notes", desc := "(CII)V" } : Jvm.MethodName)) ∈ lw_all := lw_g (lw_at lw_m10 163 rfl) rfl
theorem q2387 : (Jvm.Cond.privateMethod ({ cls := "TreeDifferModel", name := "notes", desc := "(CII)V" } : Jvm.MethodName)) ∈ lw_tbl := lw_at lw_m10 164 rfl
theorem q2388 : (Jvm.Cond.instanceMethod ({ cls := "TreeDifferModel", name := "notes", desc := "(CII)V" } : Jvm.MethodName)) ∈ lw_all := lw_g (lw_at lw_m10 165 rfl) rfl
theorem q2389 : (Jvm.Cond.code ({ cls := "TreeDifferModel", name := "notes", desc := "(CII)V" } : Jvm.MethodName) prog_20_method_44_code (4 : Nat) (Option.none : Option Jvm.ClassFile.FieldType)) ∈ lw_all := lw_g (lw_at lw_m10 166 rfl) rfl
theorem q2390 : (Jvm.Cond.methodLink "TreeDifferModel" (261 : Nat) ({ cls := "TreeDifferModel", name := "recognizes", desc := "()V" } : Jvm.MethodName)) ∈ lw_all := lw_g (lw_at lw_m10 167 rfl) rfl
theorem q2391 : (Jvm.Cond.privateMethod ({ cls := "TreeDifferModel", name := "recognizes", desc := "()V" } : Jvm.MethodName)) ∈ lw_tbl := lw_at lw_m10 168 rfl
theorem q2392 : (Jvm.Cond.instanceMethod ({ cls := "TreeDifferModel", name := "recognizes", desc := "()V" } : Jvm.MethodName)) ∈ lw_all := lw_g (lw_at lw_m10 169 rfl) rfl
theorem q2393 : (Jvm.Cond.code ({ cls := "TreeDifferModel", name := "recognizes", desc := "()V" } : Jvm.MethodName) prog_20_method_50_code (3 : Nat) (Option.none : Option Jvm.ClassFile.FieldType)) ∈ lw_all := lw_g (lw_at lw_m10 170 rfl) rfl
theorem q2395 : (Jvm.Cond.instanceMethod ({ cls := "TreeDifferModel", name := "operations", desc := "()I" } : Jvm.MethodName)) ∈ lw_all := lw_g (lw_at lw_m10 172 rfl) rfl
theorem q2396 : (Jvm.Cond.selects "TreeDifferModel" ({ cls := "TreeDifferModel", name := "operations", desc := "()I" } : Jvm.MethodName) ({ cls := "TreeDifferModel", name := "operations", desc := "()I" } : Jvm.MethodName)) ∈ lw_all := lw_g (lw_at lw_m10 173 rfl) rfl
theorem q2397 : (Jvm.Cond.code ({ cls := "TreeDifferModel", name := "operations", desc := "()I" } : Jvm.MethodName) prog_20_method_54_code (1 : Nat) (Option.some Jvm.ClassFile.FieldType.int)) ∈ lw_all := lw_g (lw_at lw_m10 174 rfl) rfl
theorem q2398 : (Jvm.Cond.methodLink "TreeDifferModel" (264 : Nat) ({ cls := "TreeDifferModel", name := "isNoScript", desc := "()Z" } : Jvm.MethodName)) ∈ lw_all := lw_g (lw_at lw_m10 175 rfl) rfl
theorem q2399 : (Jvm.Cond.privateMethod ({ cls := "TreeDifferModel", name := "isNoScript", desc := "()Z" } : Jvm.MethodName)) ∈ lw_tbl := lw_at lw_m10 176 rfl
theorem q2400 : (Jvm.Cond.instanceMethod ({ cls := "TreeDifferModel", name := "isNoScript", desc := "()Z" } : Jvm.MethodName)) ∈ lw_all := lw_g (lw_at lw_m10 177 rfl) rfl
theorem q2401 : (Jvm.Cond.code ({ cls := "TreeDifferModel", name := "isNoScript", desc := "()Z" } : Jvm.MethodName) prog_20_method_53_code (1 : Nat) (Option.some Jvm.ClassFile.FieldType.boolean)) ∈ lw_all := lw_g (lw_at lw_m10 178 rfl) rfl
theorem q2403 : (Jvm.Cond.instanceMethod ({ cls := "TreeDifferModel", name := "opKind", desc := "(I)C" } : Jvm.MethodName)) ∈ lw_all := lw_g (lw_at lw_m10 180 rfl) rfl
theorem q2404 : (Jvm.Cond.selects "TreeDifferModel" ({ cls := "TreeDifferModel", name := "opKind", desc := "(I)C" } : Jvm.MethodName) ({ cls := "TreeDifferModel", name := "opKind", desc := "(I)C" } : Jvm.MethodName)) ∈ lw_all := lw_g (lw_at lw_m10 181 rfl) rfl
theorem q2405 : (Jvm.Cond.code ({ cls := "TreeDifferModel", name := "opKind", desc := "(I)C" } : Jvm.MethodName) prog_20_method_55_code (2 : Nat) (Option.some Jvm.ClassFile.FieldType.char)) ∈ lw_all := lw_g (lw_at lw_m10 182 rfl) rfl
theorem q2406 : (Jvm.Cond.methodLink "TreeDifferModel" (268 : Nat) ({ cls := "TreeDifferModel", name := "isNoOperation", desc := "(I)Z" } : Jvm.MethodName)) ∈ lw_all := lw_g (lw_at lw_m10 183 rfl) rfl
theorem q2407 : (Jvm.Cond.privateMethod ({ cls := "TreeDifferModel", name := "isNoOperation", desc := "(I)Z" } : Jvm.MethodName)) ∈ lw_tbl := lw_at lw_m10 184 rfl
theorem q2408 : (Jvm.Cond.instanceMethod ({ cls := "TreeDifferModel", name := "isNoOperation", desc := "(I)Z" } : Jvm.MethodName)) ∈ lw_all := lw_g (lw_at lw_m10 185 rfl) rfl
theorem q2409 : (Jvm.Cond.code ({ cls := "TreeDifferModel", name := "isNoOperation", desc := "(I)Z" } : Jvm.MethodName) prog_20_method_52_code (2 : Nat) (Option.some Jvm.ClassFile.FieldType.boolean)) ∈ lw_all := lw_g (lw_at lw_m10 186 rfl) rfl
theorem q2411 : (Jvm.Cond.instanceMethod ({ cls := "TreeDifferModel", name := "opNode", desc := "(I)I" } : Jvm.MethodName)) ∈ lw_all := lw_g (lw_at lw_m10 188 rfl) rfl
theorem q2412 : (Jvm.Cond.selects "TreeDifferModel" ({ cls := "TreeDifferModel", name := "opNode", desc := "(I)I" } : Jvm.MethodName) ({ cls := "TreeDifferModel", name := "opNode", desc := "(I)I" } : Jvm.MethodName)) ∈ lw_all := lw_g (lw_at lw_m10 189 rfl) rfl
theorem q2413 : (Jvm.Cond.code ({ cls := "TreeDifferModel", name := "opNode", desc := "(I)I" } : Jvm.MethodName) prog_20_method_56_code (2 : Nat) (Option.some Jvm.ClassFile.FieldType.int)) ∈ lw_all := lw_g (lw_at lw_m10 190 rfl) rfl
theorem q2415 : (Jvm.Cond.instanceMethod ({ cls := "TreeDifferModel", name := "opTarget", desc := "(I)I" } : Jvm.MethodName)) ∈ lw_all := lw_g (lw_at lw_m10 192 rfl) rfl
theorem q2416 : (Jvm.Cond.selects "TreeDifferModel" ({ cls := "TreeDifferModel", name := "opTarget", desc := "(I)I" } : Jvm.MethodName) ({ cls := "TreeDifferModel", name := "opTarget", desc := "(I)I" } : Jvm.MethodName)) ∈ lw_all := lw_g (lw_at lw_m10 193 rfl) rfl
theorem q2417 : (Jvm.Cond.code ({ cls := "TreeDifferModel", name := "opTarget", desc := "(I)I" } : Jvm.MethodName) prog_20_method_57_code (2 : Nat) (Option.some Jvm.ClassFile.FieldType.int)) ∈ lw_all := lw_g (lw_at lw_m10 194 rfl) rfl
theorem q2419 : (Jvm.Cond.instanceMethod ({ cls := "TreeDifferModel", name := "partner", desc := "(I)I" } : Jvm.MethodName)) ∈ lw_all := lw_g (lw_at lw_m10 196 rfl) rfl
theorem q2420 : (Jvm.Cond.selects "TreeDifferModel" ({ cls := "TreeDifferModel", name := "partner", desc := "(I)I" } : Jvm.MethodName) ({ cls := "TreeDifferModel", name := "partner", desc := "(I)I" } : Jvm.MethodName)) ∈ lw_all := lw_g (lw_at lw_m10 197 rfl) rfl
theorem q2421 : (Jvm.Cond.code ({ cls := "TreeDifferModel", name := "partner", desc := "(I)I" } : Jvm.MethodName) prog_20_method_58_code (2 : Nat) (Option.some Jvm.ClassFile.FieldType.int)) ∈ lw_all := lw_g (lw_at lw_m10 198 rfl) rfl
theorem q2423 : (Jvm.Cond.instanceMethod ({ cls := "TreeDifferModel", name := "moves", desc := "()I" } : Jvm.MethodName)) ∈ lw_all := lw_g (lw_at lw_m10 200 rfl) rfl
theorem q2424 : (Jvm.Cond.selects "TreeDifferModel" ({ cls := "TreeDifferModel", name := "moves", desc := "()I" } : Jvm.MethodName) ({ cls := "TreeDifferModel", name := "moves", desc := "()I" } : Jvm.MethodName)) ∈ lw_all := lw_g (lw_at lw_m10 201 rfl) rfl
theorem q2425 : (Jvm.Cond.code ({ cls := "TreeDifferModel", name := "moves", desc := "()I" } : Jvm.MethodName) prog_20_method_59_code (3 : Nat) (Option.some Jvm.ClassFile.FieldType.int)) ∈ lw_all := lw_g (lw_at lw_m10 202 rfl) rfl
theorem q2427 : (Jvm.Cond.instanceMethod ({ cls := "TreeDifferModel", name := "scriptCost", desc := "()I" } : Jvm.MethodName)) ∈ lw_all := lw_g (lw_at lw_m10 204 rfl) rfl
theorem q2428 : (Jvm.Cond.selects "TreeDifferModel" ({ cls := "TreeDifferModel", name := "scriptCost", desc := "()I" } : Jvm.MethodName) ({ cls := "TreeDifferModel", name := "scriptCost", desc := "()I" } : Jvm.MethodName)) ∈ lw_all := lw_g (lw_at lw_m10 205 rfl) rfl
theorem q2429 : (Jvm.Cond.code ({ cls := "TreeDifferModel", name := "scriptCost", desc := "()I" } : Jvm.MethodName) prog_20_method_61_code (3 : Nat) (Option.some Jvm.ClassFile.FieldType.int)) ∈ lw_all := lw_g (lw_at lw_m10 206 rfl) rfl
theorem q2430 : (Jvm.Cond.methodLink "TreeDifferModel" (271 : Nat) ({ cls := "TreeDifferModel", name := "cost", desc := "(I)I" } : Jvm.MethodName)) ∈ lw_all := lw_g (lw_at lw_m10 207 rfl) rfl
theorem q2431 : (Jvm.Cond.privateMethod ({ cls := "TreeDifferModel", name := "cost", desc := "(I)I" } : Jvm.MethodName)) ∈ lw_tbl := lw_at lw_m10 208 rfl
theorem q2432 : (Jvm.Cond.instanceMethod ({ cls := "TreeDifferModel", name := "cost", desc := "(I)I" } : Jvm.MethodName)) ∈ lw_all := lw_g (lw_at lw_m10 209 rfl) rfl
theorem q2433 : (Jvm.Cond.code ({ cls := "TreeDifferModel", name := "cost", desc := "(I)I" } : Jvm.MethodName) prog_20_method_60_code (2 : Nat) (Option.some Jvm.ClassFile.FieldType.int)) ∈ lw_all := lw_g (lw_at lw_m10 210 rfl) rfl
theorem q2435 : (Jvm.Cond.instanceMethod ({ cls := "TreeDifferModel", name := "givesTarget", desc := "()Z" } : Jvm.MethodName)) ∈ lw_all := lw_g (lw_at lw_m10 212 rfl) rfl
theorem q2436 : (Jvm.Cond.selects "TreeDifferModel" ({ cls := "TreeDifferModel", name := "givesTarget", desc := "()Z" } : Jvm.MethodName) ({ cls := "TreeDifferModel", name := "givesTarget", desc := "()Z" } : Jvm.MethodName)) ∈ lw_all := lw_g (lw_at lw_m10 213 rfl) rfl
theorem q2437 : (Jvm.Cond.code ({ cls := "TreeDifferModel", name := "givesTarget", desc := "()Z" } : Jvm.MethodName) prog_20_method_71_code (1 : Nat) (Option.some Jvm.ClassFile.FieldType.boolean)) ∈ lw_all := lw_g (lw_at lw_m10 214 rfl) rfl
theorem q2438 : (Jvm.Cond.methodLink "TreeDifferModel" (343 : Nat) ({ cls := "TreeDifferModel", name := "patches", desc := "(LTreeDifferModel$Tree;)I" } : Jvm.MethodName)) ∈ lw_all := lw_g (lw_at lw_m10 215 rfl) rfl
theorem q2439 : (Jvm.Cond.privateMethod ({ cls := "TreeDifferModel", name := "patches", desc := "(LTreeDifferModel$Tree;)I" } : Jvm.MethodName)) ∈ lw_tbl := lw_at lw_m10 216 rfl
theorem q2440 : (Jvm.Cond.instanceMethod ({ cls := "TreeDifferModel", name := "patches", desc := "(LTreeDifferModel$Tree;)I" } : Jvm.MethodName)) ∈ lw_all := lw_g (lw_at lw_m10 217 rfl) rfl
theorem q2441 : (Jvm.Cond.code ({ cls := "TreeDifferModel", name := "patches", desc := "(LTreeDifferModel$Tree;)I" } : Jvm.MethodName) prog_20_method_70_code (4 : Nat) (Option.some Jvm.ClassFile.FieldType.int)) ∈ lw_all := lw_g (lw_at lw_m10 218 rfl) rfl
theorem q2442 : (Jvm.Cond.methodLink "TreeDifferModel" (321 : Nat) ({ cls := "TreeDifferModel", name := "links", desc := "(LTreeDifferModel$Tree;I)[LTreeDifferModel$Item;" } : Jvm.MethodName)) ∈ lw_all := lw_g (lw_at lw_m10 219 rfl) rfl
theorem q2443 : (Jvm.Cond.static ({ cls := "TreeDifferModel", name := "links", desc := "(LTreeDifferModel$Tree;I)[LTreeDifferModel$Item;" } : Jvm.MethodName)) ∈ lw_all := lw_g (lw_at lw_m10 220 rfl) rfl
theorem q2444 : (Jvm.Cond.code ({ cls := "TreeDifferModel", name := "links", desc := "(LTreeDifferModel$Tree;I)[LTreeDifferModel$Item;" } : Jvm.MethodName) prog_20_method_62_code (5 : Nat) (Option.some (Jvm.ClassFile.FieldType.array (Jvm.ClassFile.FieldType.object "TreeDifferModel$Item")))) ∈ lw_all := lw_g (lw_at lw_m10 221 rfl) rfl
theorem q2446 : (Jvm.Cond.methodLinkNest "TreeDifferModel" (274 : Nat) ({ cls := "TreeDifferModel$Item", name := "<init>", desc := "()V" } : Jvm.MethodName) "TreeDifferModel") ∈ lw_tbl := lw_at lw_m10 223 rfl
theorem q2451 : (Jvm.Cond.fieldLinkNest "TreeDifferModel" (275 : Nat) "TreeDifferModel$Item" "label" "I" "TreeDifferModel") ∈ lw_tbl := lw_at lw_m10 228 rfl
theorem q2453 : (Jvm.Cond.fieldLinkNest "TreeDifferModel" (278 : Nat) "TreeDifferModel$Item" "key" "I" "TreeDifferModel") ∈ lw_tbl := lw_at lw_m10 230 rfl
theorem q2454 : (Jvm.Cond.fieldLinkNest "TreeDifferModel" (281 : Nat) "TreeDifferModel$Item" "value" "I" "TreeDifferModel") ∈ lw_tbl := lw_at lw_m10 231 rfl
theorem q2456 : (Jvm.Cond.fieldLinkNest "TreeDifferModel" (284 : Nat) "TreeDifferModel$Item" "many" "I" "TreeDifferModel") ∈ lw_tbl := lw_at lw_m10 233 rfl
theorem q2458 : (Jvm.Cond.fieldLinkNest "TreeDifferModel" (313 : Nat) "TreeDifferModel$Item" "parent" "LTreeDifferModel$Item;" "TreeDifferModel") ∈ lw_tbl := lw_at lw_m10 235 rfl
theorem q2460 : (Jvm.Cond.fieldLinkNest "TreeDifferModel" (289 : Nat) "TreeDifferModel$Item" "kids" "[LTreeDifferModel$Item;" "TreeDifferModel") ∈ lw_tbl := lw_at lw_m10 237 rfl
theorem q2474 : (Jvm.Cond.methodLinkNest "TreeDifferModel" (285 : Nat) ({ cls := "TreeDifferModel$Item", name := "puts", desc := "(LTreeDifferModel$Item;I)V" } : Jvm.MethodName) "TreeDifferModel") ∈ lw_tbl := lw_at lw_m11 11 rfl
theorem q2478 : (Jvm.Cond.methodLink "TreeDifferModel" (335 : Nat) ({ cls := "TreeDifferModel", name := "applies", desc := "(IILTreeDifferModel$Tree;)C" } : Jvm.MethodName)) ∈ lw_all := lw_g (lw_at lw_m11 15 rfl) rfl
theorem q2479 : (Jvm.Cond.privateMethod ({ cls := "TreeDifferModel", name := "applies", desc := "(IILTreeDifferModel$Tree;)C" } : Jvm.MethodName)) ∈ lw_tbl := lw_at lw_m11 16 rfl
theorem q2480 : (Jvm.Cond.instanceMethod ({ cls := "TreeDifferModel", name := "applies", desc := "(IILTreeDifferModel$Tree;)C" } : Jvm.MethodName)) ∈ lw_all := lw_g (lw_at lw_m11 17 rfl) rfl
theorem q2481 : (Jvm.Cond.code ({ cls := "TreeDifferModel", name := "applies", desc := "(IILTreeDifferModel$Tree;)C" } : Jvm.MethodName) prog_20_method_69_code (5 : Nat) (Option.some Jvm.ClassFile.FieldType.char)) ∈ lw_all := lw_g (lw_at lw_m11 18 rfl) rfl
theorem q2482 : (Jvm.Cond.methodLink "TreeDifferModel" (325 : Nat) ({ cls := "TreeDifferModel", name := "takesOut", desc := "(ILTreeDifferModel$Tree;)C" } : Jvm.MethodName)) ∈ lw_all := lw_g (lw_at lw_m11 19 rfl) rfl
theorem q2483 : (Jvm.Cond.privateMethod ({ cls := "TreeDifferModel", name := "takesOut", desc := "(ILTreeDifferModel$Tree;)C" } : Jvm.MethodName)) ∈ lw_tbl := lw_at lw_m11 20 rfl
theorem q2484 : (Jvm.Cond.instanceMethod ({ cls := "TreeDifferModel", name := "takesOut", desc := "(ILTreeDifferModel$Tree;)C" } : Jvm.MethodName)) ∈ lw_all := lw_g (lw_at lw_m11 21 rfl) rfl
theorem q2485 : (Jvm.Cond.code ({ cls := "TreeDifferModel", name := "takesOut", desc := "(ILTreeDifferModel$Tree;)C" } : Jvm.MethodName) prog_20_method_65_code (4 : Nat) (Option.some Jvm.ClassFile.FieldType.char)) ∈ lw_all := lw_g (lw_at lw_m11 22 rfl) rfl
theorem q2486 : (Jvm.Cond.methodLink "TreeDifferModel" (297 : Nat) ({ cls := "TreeDifferModel", name := "image", desc := "(I)LTreeDifferModel$Item;" } : Jvm.MethodName)) ∈ lw_all := lw_g (lw_at lw_m11 23 rfl) rfl
theorem q2487 : (Jvm.Cond.privateMethod ({ cls := "TreeDifferModel", name := "image", desc := "(I)LTreeDifferModel$Item;" } : Jvm.MethodName)) ∈ lw_tbl := lw_at lw_m11 24 rfl
theorem q2488 : (Jvm.Cond.instanceMethod ({ cls := "TreeDifferModel", name := "image", desc := "(I)LTreeDifferModel$Item;" } : Jvm.MethodName)) ∈ lw_all := lw_g (lw_at lw_m11 25 rfl) rfl
theorem q2489 : (Jvm.Cond.code ({ cls := "TreeDifferModel", name := "image", desc := "(I)LTreeDifferModel$Item;" } : Jvm.MethodName) prog_20_method_64_code (2 : Nat) (Option.some (Jvm.ClassFile.FieldType.object "TreeDifferModel$Item"))) ∈ lw_all := lw_g (lw_at lw_m11 26 rfl) rfl
theorem q2490 : (Jvm.Cond.methodLinkNest "TreeDifferModel" (301 : Nat) ({ cls := "TreeDifferModel$Item", name := "leaves", desc := "()V" } : Jvm.MethodName) "TreeDifferModel") ∈ lw_tbl := lw_at lw_m11 27 rfl
theorem q2498 : (Jvm.Cond.methodLink "TreeDifferModel" (329 : Nat) ({ cls := "TreeDifferModel", name := "changes", desc := "(I)C" } : Jvm.MethodName)) ∈ lw_all := lw_g (lw_at lw_m11 35 rfl) rfl
theorem q2499 : (Jvm.Cond.privateMethod ({ cls := "TreeDifferModel", name := "changes", desc := "(I)C" } : Jvm.MethodName)) ∈ lw_tbl := lw_at lw_m11 36 rfl
theorem q2500 : (Jvm.Cond.instanceMethod ({ cls := "TreeDifferModel", name := "changes", desc := "(I)C" } : Jvm.MethodName)) ∈ lw_all := lw_g (lw_at lw_m11 37 rfl) rfl
theorem q2501 : (Jvm.Cond.code ({ cls := "TreeDifferModel", name := "changes", desc := "(I)C" } : Jvm.MethodName) prog_20_method_66_code (6 : Nat) (Option.some Jvm.ClassFile.FieldType.char)) ∈ lw_all := lw_g (lw_at lw_m11 38 rfl) rfl
theorem q2502 : (Jvm.Cond.methodLink "TreeDifferModel" (332 : Nat) ({ cls := "TreeDifferModel", name := "putsIn", desc := "(ILTreeDifferModel$Tree;)C" } : Jvm.MethodName)) ∈ lw_all := lw_g (lw_at lw_m11 39 rfl) rfl
theorem q2503 : (Jvm.Cond.privateMethod ({ cls := "TreeDifferModel", name := "putsIn", desc := "(ILTreeDifferModel$Tree;)C" } : Jvm.MethodName)) ∈ lw_tbl := lw_at lw_m11 40 rfl
theorem q2504 : (Jvm.Cond.instanceMethod ({ cls := "TreeDifferModel", name := "putsIn", desc := "(ILTreeDifferModel$Tree;)C" } : Jvm.MethodName)) ∈ lw_all := lw_g (lw_at lw_m11 41 rfl) rfl
theorem q2505 : (Jvm.Cond.code ({ cls := "TreeDifferModel", name := "putsIn", desc := "(ILTreeDifferModel$Tree;)C" } : Jvm.MethodName) prog_20_method_68_code (13 : Nat) (Option.some Jvm.ClassFile.FieldType.char)) ∈ lw_all := lw_g (lw_at lw_m11 42 rfl) rfl
theorem q2506 : (Jvm.Cond.methodLinkNest "TreeDifferModel" (307 : Nat) ({ cls := "TreeDifferModel$Item", name := "hasKey", desc := "(I)Z" } : Jvm.MethodName) "TreeDifferModel") ∈ lw_tbl := lw_at lw_m11 43 rfl
theorem q2510 : (Jvm.Cond.methodLink "TreeDifferModel" (310 : Nat) ({ cls := "TreeDifferModel", name := "counterpart", desc := "(I)LTreeDifferModel$Item;" } : Jvm.MethodName)) ∈ lw_all := lw_g (lw_at lw_m11 47 rfl) rfl
theorem q2511 : (Jvm.Cond.privateMethod ({ cls := "TreeDifferModel", name := "counterpart", desc := "(I)LTreeDifferModel$Item;" } : Jvm.MethodName)) ∈ lw_tbl := lw_at lw_m11 48 rfl
theorem q2512 : (Jvm.Cond.instanceMethod ({ cls := "TreeDifferModel", name := "counterpart", desc := "(I)LTreeDifferModel$Item;" } : Jvm.MethodName)) ∈ lw_all := lw_g (lw_at lw_m11 49 rfl) rfl
theorem q2513 : (Jvm.Cond.code ({ cls := "TreeDifferModel", name := "counterpart", desc := "(I)LTreeDifferModel$Item;" } : Jvm.MethodName) prog_20_method_67_code (2 : Nat) (Option.some (Jvm.ClassFile.FieldType.object "TreeDifferModel$Item"))) ∈ lw_all := lw_g (lw_at lw_m11 50 rfl) rfl
theorem q2514 : (Jvm.Cond.methodLinkNest "TreeDifferModel" (317 : Nat) ({ cls := "TreeDifferModel$Item", name := "placeOf", desc := "(LTreeDifferModel$Item;)I" } : Jvm.MethodName) "TreeDifferModel") ∈ lw_tbl := lw_at lw_m11 51 rfl
theorem q2515 : (Jvm.Cond.methodLink "TreeDifferModel" (291 : Nat) ({ cls := "TreeDifferModel", name := "flattens", desc := "(LTreeDifferModel$Item;I)V" } : Jvm.MethodName)) ∈ lw_all := lw_g (lw_at lw_m11 52 rfl) rfl
theorem q2516 : (Jvm.Cond.privateMethod ({ cls := "TreeDifferModel", name := "flattens", desc := "(LTreeDifferModel$Item;I)V" } : Jvm.MethodName)) ∈ lw_tbl := lw_at lw_m11 53 rfl
theorem q2517 : (Jvm.Cond.instanceMethod ({ cls := "TreeDifferModel", name := "flattens", desc := "(LTreeDifferModel$Item;I)V" } : Jvm.MethodName)) ∈ lw_all := lw_g (lw_at lw_m11 54 rfl) rfl
theorem q2518 : (Jvm.Cond.code ({ cls := "TreeDifferModel", name := "flattens", desc := "(LTreeDifferModel$Item;I)V" } : Jvm.MethodName) prog_20_method_63_code (5 : Nat) (Option.none : Option Jvm.ClassFile.FieldType)) ∈ lw_all := lw_g (lw_at lw_m11 55 rfl) rfl
theorem q2520 : (Jvm.Cond.instanceMethod ({ cls := "TreeDifferModel", name := "patch", desc := "(I)I" } : Jvm.MethodName)) ∈ lw_all := lw_g (lw_at lw_m11 57 rfl) rfl
theorem q2521 : (Jvm.Cond.selects "TreeDifferModel" ({ cls := "TreeDifferModel", name := "patch", desc := "(I)I" } : Jvm.MethodName) ({ cls := "TreeDifferModel", name := "patch", desc := "(I)I" } : Jvm.MethodName)) ∈ lw_all := lw_g (lw_at lw_m11 58 rfl) rfl
theorem q2522 : (Jvm.Cond.code ({ cls := "TreeDifferModel", name := "patch", desc := "(I)I" } : Jvm.MethodName) prog_20_method_72_code (3 : Nat) (Option.some Jvm.ClassFile.FieldType.int)) ∈ lw_all := lw_g (lw_at lw_m11 59 rfl) rfl
theorem q2524 : (Jvm.Cond.instanceMethod ({ cls := "TreeDifferModel", name := "conflictOperation", desc := "()I" } : Jvm.MethodName)) ∈ lw_all := lw_g (lw_at lw_m11 61 rfl) rfl
theorem q2525 : (Jvm.Cond.selects "TreeDifferModel" ({ cls := "TreeDifferModel", name := "conflictOperation", desc := "()I" } : Jvm.MethodName) ({ cls := "TreeDifferModel", name := "conflictOperation", desc := "()I" } : Jvm.MethodName)) ∈ lw_all := lw_g (lw_at lw_m11 62 rfl) rfl
theorem q2526 : (Jvm.Cond.code ({ cls := "TreeDifferModel", name := "conflictOperation", desc := "()I" } : Jvm.MethodName) prog_20_method_73_code (1 : Nat) (Option.some Jvm.ClassFile.FieldType.int)) ∈ lw_all := lw_g (lw_at lw_m11 63 rfl) rfl
theorem q2528 : (Jvm.Cond.instanceMethod ({ cls := "TreeDifferModel", name := "conflictReason", desc := "()C" } : Jvm.MethodName)) ∈ lw_all := lw_g (lw_at lw_m11 65 rfl) rfl
theorem q2529 : (Jvm.Cond.selects "TreeDifferModel" ({ cls := "TreeDifferModel", name := "conflictReason", desc := "()C" } : Jvm.MethodName) ({ cls := "TreeDifferModel", name := "conflictReason", desc := "()C" } : Jvm.MethodName)) ∈ lw_all := lw_g (lw_at lw_m11 66 rfl) rfl
theorem q2530 : (Jvm.Cond.code ({ cls := "TreeDifferModel", name := "conflictReason", desc := "()C" } : Jvm.MethodName) prog_20_method_74_code (1 : Nat) (Option.some Jvm.ClassFile.FieldType.char)) ∈ lw_all := lw_g (lw_at lw_m11 67 rfl) rfl
theorem q2532 : (Jvm.Cond.instanceMethod ({ cls := "TreeDifferModel", name := "isConsistent", desc := "()Z" } : Jvm.MethodName)) ∈ lw_all := lw_g (lw_at lw_m11 69 rfl) rfl
theorem q2533 : (Jvm.Cond.selects "TreeDifferModel" ({ cls := "TreeDifferModel", name := "isConsistent", desc := "()Z" } : Jvm.MethodName) ({ cls := "TreeDifferModel", name := "isConsistent", desc := "()Z" } : Jvm.MethodName)) ∈ lw_all := lw_g (lw_at lw_m11 70 rfl) rfl
theorem q2534 : (Jvm.Cond.code ({ cls := "TreeDifferModel", name := "isConsistent", desc := "()Z" } : Jvm.MethodName) prog_20_method_75_code (1 : Nat) (Option.some Jvm.ClassFile.FieldType.boolean)) ∈ lw_all := lw_g (lw_at lw_m11 71 rfl) rfl
theorem q2561 : (Jvm.Cond.castable "TreeDifferModel" "java/lang/Object") ∈ lw_tbl := lw_at lw_m11 98 rfl
theorem in_X4 : ∀ w ∈ wsX40, w ∈ lw_all := lw_in wsX40 [2083, 2085, 2087, 2089, 2091, 2093, 2095, 2097, 2099, 2101, 2103, 2105, 2107, 2109, 2111, 2113, 2115, 2117, 2119, 2121, 2123, 2125, 2127, 2129, 2131, 2133, 2135, 2137, 2139, 2141, 2143] (by decide +kernel) (by decide +kernel)

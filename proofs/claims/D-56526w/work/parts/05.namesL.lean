/-! TreeDifferLaw -/
set_option maxRecDepth 100000
def RX0 : String := "TreeDifferLaw"
abbrev cX0_type : ByteArray := method_3_code
def yX0_type : MethodName := ⟨RX0, "type", "(LTreeDiffer;C[J)I"⟩
def dkwX0_type_0 : List UInt8 := [44, 3, 42, 27, 182, 0, 7, 133, 80, 167, 0, 6, 78, 4, 172, 3, 172]
abbrev dktX0_type_0 : List UInt8 := dkwX0_type_0 ++ []
theorem dksX0_type_0 : cX0_type.data.toList.drop 0 = dktX0_type_0 := by decide +kernel
theorem dX0_type_0 : decode cX0_type 0 = .ok (.aload_n 2, 1) := dk_44 (dk_at dksX0_type_0 0 rfl rfl)
theorem dX0_type_1 : decode cX0_type 1 = .ok (.iconst 0, 1) := dk_3 (dk_at dksX0_type_0 1 rfl rfl)
theorem dX0_type_2 : decode cX0_type 2 = .ok (.aload_n 0, 1) := dk_42 (dk_at dksX0_type_0 2 rfl rfl)
theorem dX0_type_3 : decode cX0_type 3 = .ok (.iload_n 1, 1) := dk_27 (dk_at dksX0_type_0 3 rfl rfl)
theorem dX0_type_4 : decode cX0_type 4 = .ok (.invokevirtual 7, 3) := dk_182 0 7 (dk_at dksX0_type_0 4 rfl rfl)
theorem dX0_type_7 : decode cX0_type 7 = .ok (.i2l, 1) := dk_133 (dk_at dksX0_type_0 7 rfl rfl)
theorem dX0_type_8 : decode cX0_type 8 = .ok (.lastore, 1) := dk_80 (dk_at dksX0_type_0 8 rfl rfl)
theorem dX0_type_9 : decode cX0_type 9 = .ok (.goto 6, 3) := dk_167 0 6 (dk_at dksX0_type_0 9 rfl rfl)
theorem dX0_type_12 : decode cX0_type 12 = .ok (.astore_n 3, 1) := dk_78 (dk_at dksX0_type_0 12 rfl rfl)
theorem dX0_type_13 : decode cX0_type 13 = .ok (.iconst 1, 1) := dk_4 (dk_at dksX0_type_0 13 rfl rfl)
theorem dX0_type_14 : decode cX0_type 14 = .ok (.ireturn, 1) := dk_172 (dk_at dksX0_type_0 14 rfl rfl)
theorem dX0_type_15 : decode cX0_type 15 = .ok (.iconst 0, 1) := dk_3 (dk_at dksX0_type_0 15 rfl rfl)
theorem dX0_type_16 : decode cX0_type 16 = .ok (.ireturn, 1) := dk_172 (dk_at dksX0_type_0 16 rfl rfl)
abbrev cX0_read : ByteArray := method_4_code
def yX0_read : MethodName := ⟨RX0, "read", "(LTreeDiffer;I[J)I"⟩
def dkwX0_read_0 : List UInt8 := [44, 3, 42, 27, 182, 0, 15, 133, 80, 167, 0, 9, 78, 4, 172, 78, 5, 172, 3, 172]
abbrev dktX0_read_0 : List UInt8 := dkwX0_read_0 ++ []
theorem dksX0_read_0 : cX0_read.data.toList.drop 0 = dktX0_read_0 := by decide +kernel
theorem dX0_read_0 : decode cX0_read 0 = .ok (.aload_n 2, 1) := dk_44 (dk_at dksX0_read_0 0 rfl rfl)
theorem dX0_read_1 : decode cX0_read 1 = .ok (.iconst 0, 1) := dk_3 (dk_at dksX0_read_0 1 rfl rfl)
theorem dX0_read_2 : decode cX0_read 2 = .ok (.aload_n 0, 1) := dk_42 (dk_at dksX0_read_0 2 rfl rfl)
theorem dX0_read_3 : decode cX0_read 3 = .ok (.iload_n 1, 1) := dk_27 (dk_at dksX0_read_0 3 rfl rfl)
theorem dX0_read_4 : decode cX0_read 4 = .ok (.invokevirtual 15, 3) := dk_182 0 15 (dk_at dksX0_read_0 4 rfl rfl)
theorem dX0_read_7 : decode cX0_read 7 = .ok (.i2l, 1) := dk_133 (dk_at dksX0_read_0 7 rfl rfl)
theorem dX0_read_8 : decode cX0_read 8 = .ok (.lastore, 1) := dk_80 (dk_at dksX0_read_0 8 rfl rfl)
theorem dX0_read_9 : decode cX0_read 9 = .ok (.goto 9, 3) := dk_167 0 9 (dk_at dksX0_read_0 9 rfl rfl)
theorem dX0_read_12 : decode cX0_read 12 = .ok (.astore_n 3, 1) := dk_78 (dk_at dksX0_read_0 12 rfl rfl)
theorem dX0_read_13 : decode cX0_read 13 = .ok (.iconst 1, 1) := dk_4 (dk_at dksX0_read_0 13 rfl rfl)
theorem dX0_read_14 : decode cX0_read 14 = .ok (.ireturn, 1) := dk_172 (dk_at dksX0_read_0 14 rfl rfl)
theorem dX0_read_15 : decode cX0_read 15 = .ok (.astore_n 3, 1) := dk_78 (dk_at dksX0_read_0 15 rfl rfl)
theorem dX0_read_16 : decode cX0_read 16 = .ok (.iconst 2, 1) := dk_5 (dk_at dksX0_read_0 16 rfl rfl)
theorem dX0_read_17 : decode cX0_read 17 = .ok (.ireturn, 1) := dk_172 (dk_at dksX0_read_0 17 rfl rfl)
theorem dX0_read_18 : decode cX0_read 18 = .ok (.iconst 0, 1) := dk_3 (dk_at dksX0_read_0 18 rfl rfl)
theorem dX0_read_19 : decode cX0_read 19 = .ok (.ireturn, 1) := dk_172 (dk_at dksX0_read_0 19 rfl rfl)
abbrev cX0_errorPosition : ByteArray := method_5_code
def yX0_errorPosition : MethodName := ⟨RX0, "errorPosition", "(LTreeDiffer;[J)I"⟩
def dkwX0_errorPosition_0 : List UInt8 := [43, 3, 42, 182, 0, 23, 133, 80, 167, 0, 6, 77, 4, 172, 3, 172]
abbrev dktX0_errorPosition_0 : List UInt8 := dkwX0_errorPosition_0 ++ []
theorem dksX0_errorPosition_0 : cX0_errorPosition.data.toList.drop 0 = dktX0_errorPosition_0 := by decide +kernel
theorem dX0_errorPosition_0 : decode cX0_errorPosition 0 = .ok (.aload_n 1, 1) := dk_43 (dk_at dksX0_errorPosition_0 0 rfl rfl)
theorem dX0_errorPosition_1 : decode cX0_errorPosition 1 = .ok (.iconst 0, 1) := dk_3 (dk_at dksX0_errorPosition_0 1 rfl rfl)
theorem dX0_errorPosition_2 : decode cX0_errorPosition 2 = .ok (.aload_n 0, 1) := dk_42 (dk_at dksX0_errorPosition_0 2 rfl rfl)
theorem dX0_errorPosition_3 : decode cX0_errorPosition 3 = .ok (.invokevirtual 23, 3) := dk_182 0 23 (dk_at dksX0_errorPosition_0 3 rfl rfl)
theorem dX0_errorPosition_6 : decode cX0_errorPosition 6 = .ok (.i2l, 1) := dk_133 (dk_at dksX0_errorPosition_0 6 rfl rfl)
theorem dX0_errorPosition_7 : decode cX0_errorPosition 7 = .ok (.lastore, 1) := dk_80 (dk_at dksX0_errorPosition_0 7 rfl rfl)
theorem dX0_errorPosition_8 : decode cX0_errorPosition 8 = .ok (.goto 6, 3) := dk_167 0 6 (dk_at dksX0_errorPosition_0 8 rfl rfl)
theorem dX0_errorPosition_11 : decode cX0_errorPosition 11 = .ok (.astore_n 2, 1) := dk_77 (dk_at dksX0_errorPosition_0 11 rfl rfl)
theorem dX0_errorPosition_12 : decode cX0_errorPosition 12 = .ok (.iconst 1, 1) := dk_4 (dk_at dksX0_errorPosition_0 12 rfl rfl)
theorem dX0_errorPosition_13 : decode cX0_errorPosition 13 = .ok (.ireturn, 1) := dk_172 (dk_at dksX0_errorPosition_0 13 rfl rfl)
theorem dX0_errorPosition_14 : decode cX0_errorPosition 14 = .ok (.iconst 0, 1) := dk_3 (dk_at dksX0_errorPosition_0 14 rfl rfl)
theorem dX0_errorPosition_15 : decode cX0_errorPosition 15 = .ok (.ireturn, 1) := dk_172 (dk_at dksX0_errorPosition_0 15 rfl rfl)
abbrev cX0_writeTree : ByteArray := method_6_code
def yX0_writeTree : MethodName := ⟨RX0, "writeTree", "(LTreeDiffer;I[J)I"⟩
def dkwX0_writeTree_0 : List UInt8 := [44, 3, 42, 27, 182, 0, 29, 133, 80, 167, 0, 6, 78, 4, 172, 3, 172]
abbrev dktX0_writeTree_0 : List UInt8 := dkwX0_writeTree_0 ++ []
theorem dksX0_writeTree_0 : cX0_writeTree.data.toList.drop 0 = dktX0_writeTree_0 := by decide +kernel
theorem dX0_writeTree_0 : decode cX0_writeTree 0 = .ok (.aload_n 2, 1) := dk_44 (dk_at dksX0_writeTree_0 0 rfl rfl)
theorem dX0_writeTree_1 : decode cX0_writeTree 1 = .ok (.iconst 0, 1) := dk_3 (dk_at dksX0_writeTree_0 1 rfl rfl)
theorem dX0_writeTree_2 : decode cX0_writeTree 2 = .ok (.aload_n 0, 1) := dk_42 (dk_at dksX0_writeTree_0 2 rfl rfl)
theorem dX0_writeTree_3 : decode cX0_writeTree 3 = .ok (.iload_n 1, 1) := dk_27 (dk_at dksX0_writeTree_0 3 rfl rfl)
theorem dX0_writeTree_4 : decode cX0_writeTree 4 = .ok (.invokevirtual 29, 3) := dk_182 0 29 (dk_at dksX0_writeTree_0 4 rfl rfl)
theorem dX0_writeTree_7 : decode cX0_writeTree 7 = .ok (.i2l, 1) := dk_133 (dk_at dksX0_writeTree_0 7 rfl rfl)
theorem dX0_writeTree_8 : decode cX0_writeTree 8 = .ok (.lastore, 1) := dk_80 (dk_at dksX0_writeTree_0 8 rfl rfl)
theorem dX0_writeTree_9 : decode cX0_writeTree 9 = .ok (.goto 6, 3) := dk_167 0 6 (dk_at dksX0_writeTree_0 9 rfl rfl)
theorem dX0_writeTree_12 : decode cX0_writeTree 12 = .ok (.astore_n 3, 1) := dk_78 (dk_at dksX0_writeTree_0 12 rfl rfl)
theorem dX0_writeTree_13 : decode cX0_writeTree 13 = .ok (.iconst 1, 1) := dk_4 (dk_at dksX0_writeTree_0 13 rfl rfl)
theorem dX0_writeTree_14 : decode cX0_writeTree 14 = .ok (.ireturn, 1) := dk_172 (dk_at dksX0_writeTree_0 14 rfl rfl)
theorem dX0_writeTree_15 : decode cX0_writeTree 15 = .ok (.iconst 0, 1) := dk_3 (dk_at dksX0_writeTree_0 15 rfl rfl)
theorem dX0_writeTree_16 : decode cX0_writeTree 16 = .ok (.ireturn, 1) := dk_172 (dk_at dksX0_writeTree_0 16 rfl rfl)
abbrev cX0_writeScript : ByteArray := method_7_code
def yX0_writeScript : MethodName := ⟨RX0, "writeScript", "(LTreeDiffer;[J)I"⟩
def dkwX0_writeScript_0 : List UInt8 := [43, 3, 42, 182, 0, 32, 133, 80, 167, 0, 6, 77, 4, 172, 3, 172]
abbrev dktX0_writeScript_0 : List UInt8 := dkwX0_writeScript_0 ++ []
theorem dksX0_writeScript_0 : cX0_writeScript.data.toList.drop 0 = dktX0_writeScript_0 := by decide +kernel
theorem dX0_writeScript_0 : decode cX0_writeScript 0 = .ok (.aload_n 1, 1) := dk_43 (dk_at dksX0_writeScript_0 0 rfl rfl)
theorem dX0_writeScript_1 : decode cX0_writeScript 1 = .ok (.iconst 0, 1) := dk_3 (dk_at dksX0_writeScript_0 1 rfl rfl)
theorem dX0_writeScript_2 : decode cX0_writeScript 2 = .ok (.aload_n 0, 1) := dk_42 (dk_at dksX0_writeScript_0 2 rfl rfl)
theorem dX0_writeScript_3 : decode cX0_writeScript 3 = .ok (.invokevirtual 32, 3) := dk_182 0 32 (dk_at dksX0_writeScript_0 3 rfl rfl)
theorem dX0_writeScript_6 : decode cX0_writeScript 6 = .ok (.i2l, 1) := dk_133 (dk_at dksX0_writeScript_0 6 rfl rfl)
theorem dX0_writeScript_7 : decode cX0_writeScript 7 = .ok (.lastore, 1) := dk_80 (dk_at dksX0_writeScript_0 7 rfl rfl)
theorem dX0_writeScript_8 : decode cX0_writeScript 8 = .ok (.goto 6, 3) := dk_167 0 6 (dk_at dksX0_writeScript_0 8 rfl rfl)
theorem dX0_writeScript_11 : decode cX0_writeScript 11 = .ok (.astore_n 2, 1) := dk_77 (dk_at dksX0_writeScript_0 11 rfl rfl)
theorem dX0_writeScript_12 : decode cX0_writeScript 12 = .ok (.iconst 1, 1) := dk_4 (dk_at dksX0_writeScript_0 12 rfl rfl)
theorem dX0_writeScript_13 : decode cX0_writeScript 13 = .ok (.ireturn, 1) := dk_172 (dk_at dksX0_writeScript_0 13 rfl rfl)
theorem dX0_writeScript_14 : decode cX0_writeScript 14 = .ok (.iconst 0, 1) := dk_3 (dk_at dksX0_writeScript_0 14 rfl rfl)
theorem dX0_writeScript_15 : decode cX0_writeScript 15 = .ok (.ireturn, 1) := dk_172 (dk_at dksX0_writeScript_0 15 rfl rfl)
abbrev cX0_charAt : ByteArray := method_8_code
def yX0_charAt : MethodName := ⟨RX0, "charAt", "(LTreeDiffer;I[J)I"⟩
def dkwX0_charAt_0 : List UInt8 := [44, 3, 42, 27, 182, 0, 35, 133, 80, 167, 0, 6, 78, 4, 172, 3, 172]
abbrev dktX0_charAt_0 : List UInt8 := dkwX0_charAt_0 ++ []
theorem dksX0_charAt_0 : cX0_charAt.data.toList.drop 0 = dktX0_charAt_0 := by decide +kernel
theorem dX0_charAt_0 : decode cX0_charAt 0 = .ok (.aload_n 2, 1) := dk_44 (dk_at dksX0_charAt_0 0 rfl rfl)
theorem dX0_charAt_1 : decode cX0_charAt 1 = .ok (.iconst 0, 1) := dk_3 (dk_at dksX0_charAt_0 1 rfl rfl)
theorem dX0_charAt_2 : decode cX0_charAt 2 = .ok (.aload_n 0, 1) := dk_42 (dk_at dksX0_charAt_0 2 rfl rfl)
theorem dX0_charAt_3 : decode cX0_charAt 3 = .ok (.iload_n 1, 1) := dk_27 (dk_at dksX0_charAt_0 3 rfl rfl)
theorem dX0_charAt_4 : decode cX0_charAt 4 = .ok (.invokevirtual 35, 3) := dk_182 0 35 (dk_at dksX0_charAt_0 4 rfl rfl)
theorem dX0_charAt_7 : decode cX0_charAt 7 = .ok (.i2l, 1) := dk_133 (dk_at dksX0_charAt_0 7 rfl rfl)
theorem dX0_charAt_8 : decode cX0_charAt 8 = .ok (.lastore, 1) := dk_80 (dk_at dksX0_charAt_0 8 rfl rfl)
theorem dX0_charAt_9 : decode cX0_charAt 9 = .ok (.goto 6, 3) := dk_167 0 6 (dk_at dksX0_charAt_0 9 rfl rfl)
theorem dX0_charAt_12 : decode cX0_charAt 12 = .ok (.astore_n 3, 1) := dk_78 (dk_at dksX0_charAt_0 12 rfl rfl)
theorem dX0_charAt_13 : decode cX0_charAt 13 = .ok (.iconst 1, 1) := dk_4 (dk_at dksX0_charAt_0 13 rfl rfl)
theorem dX0_charAt_14 : decode cX0_charAt 14 = .ok (.ireturn, 1) := dk_172 (dk_at dksX0_charAt_0 14 rfl rfl)
theorem dX0_charAt_15 : decode cX0_charAt 15 = .ok (.iconst 0, 1) := dk_3 (dk_at dksX0_charAt_0 15 rfl rfl)
theorem dX0_charAt_16 : decode cX0_charAt 16 = .ok (.ireturn, 1) := dk_172 (dk_at dksX0_charAt_0 16 rfl rfl)
abbrev cX0_addNode : ByteArray := method_9_code
def yX0_addNode : MethodName := ⟨RX0, "addNode", "(LTreeDiffer;IIIC[J)I"⟩
def dkwX0_addNode_1 : List UInt8 := [172, 58, 6, 6, 172, 3, 172]
abbrev dktX0_addNode_1 : List UInt8 := dkwX0_addNode_1 ++ []
def dkwX0_addNode_0 : List UInt8 := [25, 5, 3, 42, 27, 28, 29, 21, 4, 182, 0, 39, 133, 80, 167, 0, 15, 58, 6, 4, 172, 58, 6, 5]
abbrev dktX0_addNode_0 : List UInt8 := dkwX0_addNode_0 ++ dktX0_addNode_1
theorem dksX0_addNode_0 : cX0_addNode.data.toList.drop 0 = dktX0_addNode_0 := by decide +kernel
theorem dksX0_addNode_1 : cX0_addNode.data.toList.drop 24 = dktX0_addNode_1 := dk_seg dksX0_addNode_0 24 rfl rfl
theorem dX0_addNode_0 : decode cX0_addNode 0 = .ok (.aload 5, 2) := dk_25 5 (dk_at dksX0_addNode_0 0 rfl rfl)
theorem dX0_addNode_2 : decode cX0_addNode 2 = .ok (.iconst 0, 1) := dk_3 (dk_at dksX0_addNode_0 2 rfl rfl)
theorem dX0_addNode_3 : decode cX0_addNode 3 = .ok (.aload_n 0, 1) := dk_42 (dk_at dksX0_addNode_0 3 rfl rfl)
theorem dX0_addNode_4 : decode cX0_addNode 4 = .ok (.iload_n 1, 1) := dk_27 (dk_at dksX0_addNode_0 4 rfl rfl)
theorem dX0_addNode_5 : decode cX0_addNode 5 = .ok (.iload_n 2, 1) := dk_28 (dk_at dksX0_addNode_0 5 rfl rfl)
theorem dX0_addNode_6 : decode cX0_addNode 6 = .ok (.iload_n 3, 1) := dk_29 (dk_at dksX0_addNode_0 6 rfl rfl)
theorem dX0_addNode_7 : decode cX0_addNode 7 = .ok (.iload 4, 2) := dk_21 4 (dk_at dksX0_addNode_0 7 rfl rfl)
theorem dX0_addNode_9 : decode cX0_addNode 9 = .ok (.invokevirtual 39, 3) := dk_182 0 39 (dk_at dksX0_addNode_0 9 rfl rfl)
theorem dX0_addNode_12 : decode cX0_addNode 12 = .ok (.i2l, 1) := dk_133 (dk_at dksX0_addNode_0 12 rfl rfl)
theorem dX0_addNode_13 : decode cX0_addNode 13 = .ok (.lastore, 1) := dk_80 (dk_at dksX0_addNode_0 13 rfl rfl)
theorem dX0_addNode_14 : decode cX0_addNode 14 = .ok (.goto 15, 3) := dk_167 0 15 (dk_at dksX0_addNode_0 14 rfl rfl)
theorem dX0_addNode_17 : decode cX0_addNode 17 = .ok (.astore 6, 2) := dk_58 6 (dk_at dksX0_addNode_0 17 rfl rfl)
theorem dX0_addNode_19 : decode cX0_addNode 19 = .ok (.iconst 1, 1) := dk_4 (dk_at dksX0_addNode_0 19 rfl rfl)
theorem dX0_addNode_20 : decode cX0_addNode 20 = .ok (.ireturn, 1) := dk_172 (dk_at dksX0_addNode_0 20 rfl rfl)
theorem dX0_addNode_21 : decode cX0_addNode 21 = .ok (.astore 6, 2) := dk_58 6 (dk_at dksX0_addNode_0 21 rfl rfl)
theorem dX0_addNode_23 : decode cX0_addNode 23 = .ok (.iconst 2, 1) := dk_5 (dk_at dksX0_addNode_0 23 rfl rfl)
theorem dX0_addNode_24 : decode cX0_addNode 24 = .ok (.ireturn, 1) := dk_172 (dk_at dksX0_addNode_1 0 rfl rfl)
theorem dX0_addNode_25 : decode cX0_addNode 25 = .ok (.astore 6, 2) := dk_58 6 (dk_at dksX0_addNode_1 1 rfl rfl)
theorem dX0_addNode_27 : decode cX0_addNode 27 = .ok (.iconst 3, 1) := dk_6 (dk_at dksX0_addNode_1 3 rfl rfl)
theorem dX0_addNode_28 : decode cX0_addNode 28 = .ok (.ireturn, 1) := dk_172 (dk_at dksX0_addNode_1 4 rfl rfl)
theorem dX0_addNode_29 : decode cX0_addNode 29 = .ok (.iconst 0, 1) := dk_3 (dk_at dksX0_addNode_1 5 rfl rfl)
theorem dX0_addNode_30 : decode cX0_addNode 30 = .ok (.ireturn, 1) := dk_172 (dk_at dksX0_addNode_1 6 rfl rfl)
abbrev cX0_removeNode : ByteArray := method_10_code
def yX0_removeNode : MethodName := ⟨RX0, "removeNode", "(LTreeDiffer;II[J)I"⟩
def dkwX0_removeNode_0 : List UInt8 := [45, 3, 42, 27, 28, 182, 0, 43, 133, 80, 167, 0, 11, 58, 4, 4, 172, 58, 4, 5, 172, 3, 172]
abbrev dktX0_removeNode_0 : List UInt8 := dkwX0_removeNode_0 ++ []
theorem dksX0_removeNode_0 : cX0_removeNode.data.toList.drop 0 = dktX0_removeNode_0 := by decide +kernel
theorem dX0_removeNode_0 : decode cX0_removeNode 0 = .ok (.aload_n 3, 1) := dk_45 (dk_at dksX0_removeNode_0 0 rfl rfl)
theorem dX0_removeNode_1 : decode cX0_removeNode 1 = .ok (.iconst 0, 1) := dk_3 (dk_at dksX0_removeNode_0 1 rfl rfl)
theorem dX0_removeNode_2 : decode cX0_removeNode 2 = .ok (.aload_n 0, 1) := dk_42 (dk_at dksX0_removeNode_0 2 rfl rfl)
theorem dX0_removeNode_3 : decode cX0_removeNode 3 = .ok (.iload_n 1, 1) := dk_27 (dk_at dksX0_removeNode_0 3 rfl rfl)
theorem dX0_removeNode_4 : decode cX0_removeNode 4 = .ok (.iload_n 2, 1) := dk_28 (dk_at dksX0_removeNode_0 4 rfl rfl)
theorem dX0_removeNode_5 : decode cX0_removeNode 5 = .ok (.invokevirtual 43, 3) := dk_182 0 43 (dk_at dksX0_removeNode_0 5 rfl rfl)
theorem dX0_removeNode_8 : decode cX0_removeNode 8 = .ok (.i2l, 1) := dk_133 (dk_at dksX0_removeNode_0 8 rfl rfl)
theorem dX0_removeNode_9 : decode cX0_removeNode 9 = .ok (.lastore, 1) := dk_80 (dk_at dksX0_removeNode_0 9 rfl rfl)
theorem dX0_removeNode_10 : decode cX0_removeNode 10 = .ok (.goto 11, 3) := dk_167 0 11 (dk_at dksX0_removeNode_0 10 rfl rfl)
theorem dX0_removeNode_13 : decode cX0_removeNode 13 = .ok (.astore 4, 2) := dk_58 4 (dk_at dksX0_removeNode_0 13 rfl rfl)
theorem dX0_removeNode_15 : decode cX0_removeNode 15 = .ok (.iconst 1, 1) := dk_4 (dk_at dksX0_removeNode_0 15 rfl rfl)
theorem dX0_removeNode_16 : decode cX0_removeNode 16 = .ok (.ireturn, 1) := dk_172 (dk_at dksX0_removeNode_0 16 rfl rfl)
theorem dX0_removeNode_17 : decode cX0_removeNode 17 = .ok (.astore 4, 2) := dk_58 4 (dk_at dksX0_removeNode_0 17 rfl rfl)
theorem dX0_removeNode_19 : decode cX0_removeNode 19 = .ok (.iconst 2, 1) := dk_5 (dk_at dksX0_removeNode_0 19 rfl rfl)
theorem dX0_removeNode_20 : decode cX0_removeNode 20 = .ok (.ireturn, 1) := dk_172 (dk_at dksX0_removeNode_0 20 rfl rfl)
theorem dX0_removeNode_21 : decode cX0_removeNode 21 = .ok (.iconst 0, 1) := dk_3 (dk_at dksX0_removeNode_0 21 rfl rfl)
theorem dX0_removeNode_22 : decode cX0_removeNode 22 = .ok (.ireturn, 1) := dk_172 (dk_at dksX0_removeNode_0 22 rfl rfl)
abbrev cX0_setLabel : ByteArray := method_11_code
def yX0_setLabel : MethodName := ⟨RX0, "setLabel", "(LTreeDiffer;IIC[J)I"⟩
def dkwX0_setLabel_1 : List UInt8 := [172]
abbrev dktX0_setLabel_1 : List UInt8 := dkwX0_setLabel_1 ++ []
def dkwX0_setLabel_0 : List UInt8 := [25, 4, 3, 42, 27, 28, 29, 182, 0, 49, 133, 80, 167, 0, 11, 58, 5, 4, 172, 58, 5, 5, 172, 3]
abbrev dktX0_setLabel_0 : List UInt8 := dkwX0_setLabel_0 ++ dktX0_setLabel_1
theorem dksX0_setLabel_0 : cX0_setLabel.data.toList.drop 0 = dktX0_setLabel_0 := by decide +kernel
theorem dksX0_setLabel_1 : cX0_setLabel.data.toList.drop 24 = dktX0_setLabel_1 := dk_seg dksX0_setLabel_0 24 rfl rfl
theorem dX0_setLabel_0 : decode cX0_setLabel 0 = .ok (.aload 4, 2) := dk_25 4 (dk_at dksX0_setLabel_0 0 rfl rfl)
theorem dX0_setLabel_2 : decode cX0_setLabel 2 = .ok (.iconst 0, 1) := dk_3 (dk_at dksX0_setLabel_0 2 rfl rfl)
theorem dX0_setLabel_3 : decode cX0_setLabel 3 = .ok (.aload_n 0, 1) := dk_42 (dk_at dksX0_setLabel_0 3 rfl rfl)
theorem dX0_setLabel_4 : decode cX0_setLabel 4 = .ok (.iload_n 1, 1) := dk_27 (dk_at dksX0_setLabel_0 4 rfl rfl)
theorem dX0_setLabel_5 : decode cX0_setLabel 5 = .ok (.iload_n 2, 1) := dk_28 (dk_at dksX0_setLabel_0 5 rfl rfl)
theorem dX0_setLabel_6 : decode cX0_setLabel 6 = .ok (.iload_n 3, 1) := dk_29 (dk_at dksX0_setLabel_0 6 rfl rfl)
theorem dX0_setLabel_7 : decode cX0_setLabel 7 = .ok (.invokevirtual 49, 3) := dk_182 0 49 (dk_at dksX0_setLabel_0 7 rfl rfl)
theorem dX0_setLabel_10 : decode cX0_setLabel 10 = .ok (.i2l, 1) := dk_133 (dk_at dksX0_setLabel_0 10 rfl rfl)
theorem dX0_setLabel_11 : decode cX0_setLabel 11 = .ok (.lastore, 1) := dk_80 (dk_at dksX0_setLabel_0 11 rfl rfl)
theorem dX0_setLabel_12 : decode cX0_setLabel 12 = .ok (.goto 11, 3) := dk_167 0 11 (dk_at dksX0_setLabel_0 12 rfl rfl)
theorem dX0_setLabel_15 : decode cX0_setLabel 15 = .ok (.astore 5, 2) := dk_58 5 (dk_at dksX0_setLabel_0 15 rfl rfl)
theorem dX0_setLabel_17 : decode cX0_setLabel 17 = .ok (.iconst 1, 1) := dk_4 (dk_at dksX0_setLabel_0 17 rfl rfl)
theorem dX0_setLabel_18 : decode cX0_setLabel 18 = .ok (.ireturn, 1) := dk_172 (dk_at dksX0_setLabel_0 18 rfl rfl)
theorem dX0_setLabel_19 : decode cX0_setLabel 19 = .ok (.astore 5, 2) := dk_58 5 (dk_at dksX0_setLabel_0 19 rfl rfl)
theorem dX0_setLabel_21 : decode cX0_setLabel 21 = .ok (.iconst 2, 1) := dk_5 (dk_at dksX0_setLabel_0 21 rfl rfl)
theorem dX0_setLabel_22 : decode cX0_setLabel 22 = .ok (.ireturn, 1) := dk_172 (dk_at dksX0_setLabel_0 22 rfl rfl)
theorem dX0_setLabel_23 : decode cX0_setLabel 23 = .ok (.iconst 0, 1) := dk_3 (dk_at dksX0_setLabel_0 23 rfl rfl)
theorem dX0_setLabel_24 : decode cX0_setLabel 24 = .ok (.ireturn, 1) := dk_172 (dk_at dksX0_setLabel_1 0 rfl rfl)
abbrev cX0_setKey : ByteArray := method_12_code
def yX0_setKey : MethodName := ⟨RX0, "setKey", "(LTreeDiffer;III[J)I"⟩
def dkwX0_setKey_1 : List UInt8 := [58, 5, 6, 172, 58, 5, 7, 172, 3, 172]
abbrev dktX0_setKey_1 : List UInt8 := dkwX0_setKey_1 ++ []
def dkwX0_setKey_0 : List UInt8 := [25, 4, 3, 42, 27, 28, 29, 182, 0, 53, 133, 80, 167, 0, 19, 58, 5, 4, 172, 58, 5, 5, 172]
abbrev dktX0_setKey_0 : List UInt8 := dkwX0_setKey_0 ++ dktX0_setKey_1
theorem dksX0_setKey_0 : cX0_setKey.data.toList.drop 0 = dktX0_setKey_0 := by decide +kernel
theorem dksX0_setKey_1 : cX0_setKey.data.toList.drop 23 = dktX0_setKey_1 := dk_seg dksX0_setKey_0 23 rfl rfl
theorem dX0_setKey_0 : decode cX0_setKey 0 = .ok (.aload 4, 2) := dk_25 4 (dk_at dksX0_setKey_0 0 rfl rfl)
theorem dX0_setKey_2 : decode cX0_setKey 2 = .ok (.iconst 0, 1) := dk_3 (dk_at dksX0_setKey_0 2 rfl rfl)
theorem dX0_setKey_3 : decode cX0_setKey 3 = .ok (.aload_n 0, 1) := dk_42 (dk_at dksX0_setKey_0 3 rfl rfl)
theorem dX0_setKey_4 : decode cX0_setKey 4 = .ok (.iload_n 1, 1) := dk_27 (dk_at dksX0_setKey_0 4 rfl rfl)
theorem dX0_setKey_5 : decode cX0_setKey 5 = .ok (.iload_n 2, 1) := dk_28 (dk_at dksX0_setKey_0 5 rfl rfl)
theorem dX0_setKey_6 : decode cX0_setKey 6 = .ok (.iload_n 3, 1) := dk_29 (dk_at dksX0_setKey_0 6 rfl rfl)
theorem dX0_setKey_7 : decode cX0_setKey 7 = .ok (.invokevirtual 53, 3) := dk_182 0 53 (dk_at dksX0_setKey_0 7 rfl rfl)
theorem dX0_setKey_10 : decode cX0_setKey 10 = .ok (.i2l, 1) := dk_133 (dk_at dksX0_setKey_0 10 rfl rfl)
theorem dX0_setKey_11 : decode cX0_setKey 11 = .ok (.lastore, 1) := dk_80 (dk_at dksX0_setKey_0 11 rfl rfl)
theorem dX0_setKey_12 : decode cX0_setKey 12 = .ok (.goto 19, 3) := dk_167 0 19 (dk_at dksX0_setKey_0 12 rfl rfl)
theorem dX0_setKey_15 : decode cX0_setKey 15 = .ok (.astore 5, 2) := dk_58 5 (dk_at dksX0_setKey_0 15 rfl rfl)
theorem dX0_setKey_17 : decode cX0_setKey 17 = .ok (.iconst 1, 1) := dk_4 (dk_at dksX0_setKey_0 17 rfl rfl)
theorem dX0_setKey_18 : decode cX0_setKey 18 = .ok (.ireturn, 1) := dk_172 (dk_at dksX0_setKey_0 18 rfl rfl)
theorem dX0_setKey_19 : decode cX0_setKey 19 = .ok (.astore 5, 2) := dk_58 5 (dk_at dksX0_setKey_0 19 rfl rfl)
theorem dX0_setKey_21 : decode cX0_setKey 21 = .ok (.iconst 2, 1) := dk_5 (dk_at dksX0_setKey_0 21 rfl rfl)
theorem dX0_setKey_22 : decode cX0_setKey 22 = .ok (.ireturn, 1) := dk_172 (dk_at dksX0_setKey_0 22 rfl rfl)
theorem dX0_setKey_23 : decode cX0_setKey 23 = .ok (.astore 5, 2) := dk_58 5 (dk_at dksX0_setKey_1 0 rfl rfl)
theorem dX0_setKey_25 : decode cX0_setKey 25 = .ok (.iconst 3, 1) := dk_6 (dk_at dksX0_setKey_1 2 rfl rfl)
theorem dX0_setKey_26 : decode cX0_setKey 26 = .ok (.ireturn, 1) := dk_172 (dk_at dksX0_setKey_1 3 rfl rfl)
theorem dX0_setKey_27 : decode cX0_setKey 27 = .ok (.astore 5, 2) := dk_58 5 (dk_at dksX0_setKey_1 4 rfl rfl)
theorem dX0_setKey_29 : decode cX0_setKey 29 = .ok (.iconst 4, 1) := dk_7 (dk_at dksX0_setKey_1 6 rfl rfl)
theorem dX0_setKey_30 : decode cX0_setKey 30 = .ok (.ireturn, 1) := dk_172 (dk_at dksX0_setKey_1 7 rfl rfl)
theorem dX0_setKey_31 : decode cX0_setKey 31 = .ok (.iconst 0, 1) := dk_3 (dk_at dksX0_setKey_1 8 rfl rfl)
theorem dX0_setKey_32 : decode cX0_setKey 32 = .ok (.ireturn, 1) := dk_172 (dk_at dksX0_setKey_1 9 rfl rfl)
abbrev cX0_setValue : ByteArray := method_13_code
def yX0_setValue : MethodName := ⟨RX0, "setValue", "(LTreeDiffer;III[J)I"⟩
def dkwX0_setValue_1 : List UInt8 := [172]
abbrev dktX0_setValue_1 : List UInt8 := dkwX0_setValue_1 ++ []
def dkwX0_setValue_0 : List UInt8 := [25, 4, 3, 42, 27, 28, 29, 182, 0, 57, 133, 80, 167, 0, 11, 58, 5, 4, 172, 58, 5, 5, 172, 3]
abbrev dktX0_setValue_0 : List UInt8 := dkwX0_setValue_0 ++ dktX0_setValue_1
theorem dksX0_setValue_0 : cX0_setValue.data.toList.drop 0 = dktX0_setValue_0 := by decide +kernel
theorem dksX0_setValue_1 : cX0_setValue.data.toList.drop 24 = dktX0_setValue_1 := dk_seg dksX0_setValue_0 24 rfl rfl
theorem dX0_setValue_0 : decode cX0_setValue 0 = .ok (.aload 4, 2) := dk_25 4 (dk_at dksX0_setValue_0 0 rfl rfl)
theorem dX0_setValue_2 : decode cX0_setValue 2 = .ok (.iconst 0, 1) := dk_3 (dk_at dksX0_setValue_0 2 rfl rfl)
theorem dX0_setValue_3 : decode cX0_setValue 3 = .ok (.aload_n 0, 1) := dk_42 (dk_at dksX0_setValue_0 3 rfl rfl)
theorem dX0_setValue_4 : decode cX0_setValue 4 = .ok (.iload_n 1, 1) := dk_27 (dk_at dksX0_setValue_0 4 rfl rfl)
theorem dX0_setValue_5 : decode cX0_setValue 5 = .ok (.iload_n 2, 1) := dk_28 (dk_at dksX0_setValue_0 5 rfl rfl)
theorem dX0_setValue_6 : decode cX0_setValue 6 = .ok (.iload_n 3, 1) := dk_29 (dk_at dksX0_setValue_0 6 rfl rfl)
theorem dX0_setValue_7 : decode cX0_setValue 7 = .ok (.invokevirtual 57, 3) := dk_182 0 57 (dk_at dksX0_setValue_0 7 rfl rfl)
theorem dX0_setValue_10 : decode cX0_setValue 10 = .ok (.i2l, 1) := dk_133 (dk_at dksX0_setValue_0 10 rfl rfl)
theorem dX0_setValue_11 : decode cX0_setValue 11 = .ok (.lastore, 1) := dk_80 (dk_at dksX0_setValue_0 11 rfl rfl)
theorem dX0_setValue_12 : decode cX0_setValue 12 = .ok (.goto 11, 3) := dk_167 0 11 (dk_at dksX0_setValue_0 12 rfl rfl)
theorem dX0_setValue_15 : decode cX0_setValue 15 = .ok (.astore 5, 2) := dk_58 5 (dk_at dksX0_setValue_0 15 rfl rfl)
theorem dX0_setValue_17 : decode cX0_setValue 17 = .ok (.iconst 1, 1) := dk_4 (dk_at dksX0_setValue_0 17 rfl rfl)
theorem dX0_setValue_18 : decode cX0_setValue 18 = .ok (.ireturn, 1) := dk_172 (dk_at dksX0_setValue_0 18 rfl rfl)
theorem dX0_setValue_19 : decode cX0_setValue 19 = .ok (.astore 5, 2) := dk_58 5 (dk_at dksX0_setValue_0 19 rfl rfl)
theorem dX0_setValue_21 : decode cX0_setValue 21 = .ok (.iconst 2, 1) := dk_5 (dk_at dksX0_setValue_0 21 rfl rfl)
theorem dX0_setValue_22 : decode cX0_setValue 22 = .ok (.ireturn, 1) := dk_172 (dk_at dksX0_setValue_0 22 rfl rfl)
theorem dX0_setValue_23 : decode cX0_setValue 23 = .ok (.iconst 0, 1) := dk_3 (dk_at dksX0_setValue_0 23 rfl rfl)
theorem dX0_setValue_24 : decode cX0_setValue 24 = .ok (.ireturn, 1) := dk_172 (dk_at dksX0_setValue_1 0 rfl rfl)
abbrev cX0_copyTree : ByteArray := method_14_code
def yX0_copyTree : MethodName := ⟨RX0, "copyTree", "(LTreeDiffer;II[J)I"⟩
def dkwX0_copyTree_0 : List UInt8 := [45, 3, 42, 27, 28, 182, 0, 60, 133, 80, 167, 0, 7, 58, 4, 4, 172, 3, 172]
abbrev dktX0_copyTree_0 : List UInt8 := dkwX0_copyTree_0 ++ []
theorem dksX0_copyTree_0 : cX0_copyTree.data.toList.drop 0 = dktX0_copyTree_0 := by decide +kernel
theorem dX0_copyTree_0 : decode cX0_copyTree 0 = .ok (.aload_n 3, 1) := dk_45 (dk_at dksX0_copyTree_0 0 rfl rfl)
theorem dX0_copyTree_1 : decode cX0_copyTree 1 = .ok (.iconst 0, 1) := dk_3 (dk_at dksX0_copyTree_0 1 rfl rfl)
theorem dX0_copyTree_2 : decode cX0_copyTree 2 = .ok (.aload_n 0, 1) := dk_42 (dk_at dksX0_copyTree_0 2 rfl rfl)
theorem dX0_copyTree_3 : decode cX0_copyTree 3 = .ok (.iload_n 1, 1) := dk_27 (dk_at dksX0_copyTree_0 3 rfl rfl)
theorem dX0_copyTree_4 : decode cX0_copyTree 4 = .ok (.iload_n 2, 1) := dk_28 (dk_at dksX0_copyTree_0 4 rfl rfl)
theorem dX0_copyTree_5 : decode cX0_copyTree 5 = .ok (.invokevirtual 60, 3) := dk_182 0 60 (dk_at dksX0_copyTree_0 5 rfl rfl)
theorem dX0_copyTree_8 : decode cX0_copyTree 8 = .ok (.i2l, 1) := dk_133 (dk_at dksX0_copyTree_0 8 rfl rfl)
theorem dX0_copyTree_9 : decode cX0_copyTree 9 = .ok (.lastore, 1) := dk_80 (dk_at dksX0_copyTree_0 9 rfl rfl)
theorem dX0_copyTree_10 : decode cX0_copyTree 10 = .ok (.goto 7, 3) := dk_167 0 7 (dk_at dksX0_copyTree_0 10 rfl rfl)
theorem dX0_copyTree_13 : decode cX0_copyTree 13 = .ok (.astore 4, 2) := dk_58 4 (dk_at dksX0_copyTree_0 13 rfl rfl)
theorem dX0_copyTree_15 : decode cX0_copyTree 15 = .ok (.iconst 1, 1) := dk_4 (dk_at dksX0_copyTree_0 15 rfl rfl)
theorem dX0_copyTree_16 : decode cX0_copyTree 16 = .ok (.ireturn, 1) := dk_172 (dk_at dksX0_copyTree_0 16 rfl rfl)
theorem dX0_copyTree_17 : decode cX0_copyTree 17 = .ok (.iconst 0, 1) := dk_3 (dk_at dksX0_copyTree_0 17 rfl rfl)
theorem dX0_copyTree_18 : decode cX0_copyTree 18 = .ok (.ireturn, 1) := dk_172 (dk_at dksX0_copyTree_0 18 rfl rfl)
abbrev cX0_size : ByteArray := method_15_code
def yX0_size : MethodName := ⟨RX0, "size", "(LTreeDiffer;I[J)I"⟩
def dkwX0_size_0 : List UInt8 := [44, 3, 42, 27, 182, 0, 63, 133, 80, 167, 0, 6, 78, 4, 172, 3, 172]
abbrev dktX0_size_0 : List UInt8 := dkwX0_size_0 ++ []
theorem dksX0_size_0 : cX0_size.data.toList.drop 0 = dktX0_size_0 := by decide +kernel
theorem dX0_size_0 : decode cX0_size 0 = .ok (.aload_n 2, 1) := dk_44 (dk_at dksX0_size_0 0 rfl rfl)
theorem dX0_size_1 : decode cX0_size 1 = .ok (.iconst 0, 1) := dk_3 (dk_at dksX0_size_0 1 rfl rfl)
theorem dX0_size_2 : decode cX0_size 2 = .ok (.aload_n 0, 1) := dk_42 (dk_at dksX0_size_0 2 rfl rfl)
theorem dX0_size_3 : decode cX0_size 3 = .ok (.iload_n 1, 1) := dk_27 (dk_at dksX0_size_0 3 rfl rfl)
theorem dX0_size_4 : decode cX0_size 4 = .ok (.invokevirtual 63, 3) := dk_182 0 63 (dk_at dksX0_size_0 4 rfl rfl)
theorem dX0_size_7 : decode cX0_size 7 = .ok (.i2l, 1) := dk_133 (dk_at dksX0_size_0 7 rfl rfl)
theorem dX0_size_8 : decode cX0_size 8 = .ok (.lastore, 1) := dk_80 (dk_at dksX0_size_0 8 rfl rfl)
theorem dX0_size_9 : decode cX0_size 9 = .ok (.goto 6, 3) := dk_167 0 6 (dk_at dksX0_size_0 9 rfl rfl)
theorem dX0_size_12 : decode cX0_size 12 = .ok (.astore_n 3, 1) := dk_78 (dk_at dksX0_size_0 12 rfl rfl)
theorem dX0_size_13 : decode cX0_size 13 = .ok (.iconst 1, 1) := dk_4 (dk_at dksX0_size_0 13 rfl rfl)
theorem dX0_size_14 : decode cX0_size 14 = .ok (.ireturn, 1) := dk_172 (dk_at dksX0_size_0 14 rfl rfl)
theorem dX0_size_15 : decode cX0_size 15 = .ok (.iconst 0, 1) := dk_3 (dk_at dksX0_size_0 15 rfl rfl)
theorem dX0_size_16 : decode cX0_size 16 = .ok (.ireturn, 1) := dk_172 (dk_at dksX0_size_0 16 rfl rfl)
abbrev cX0_label : ByteArray := method_16_code
def yX0_label : MethodName := ⟨RX0, "label", "(LTreeDiffer;II[J)I"⟩
def dkwX0_label_0 : List UInt8 := [45, 3, 42, 27, 28, 182, 0, 66, 133, 80, 167, 0, 7, 58, 4, 4, 172, 3, 172]
abbrev dktX0_label_0 : List UInt8 := dkwX0_label_0 ++ []
theorem dksX0_label_0 : cX0_label.data.toList.drop 0 = dktX0_label_0 := by decide +kernel
theorem dX0_label_0 : decode cX0_label 0 = .ok (.aload_n 3, 1) := dk_45 (dk_at dksX0_label_0 0 rfl rfl)
theorem dX0_label_1 : decode cX0_label 1 = .ok (.iconst 0, 1) := dk_3 (dk_at dksX0_label_0 1 rfl rfl)
theorem dX0_label_2 : decode cX0_label 2 = .ok (.aload_n 0, 1) := dk_42 (dk_at dksX0_label_0 2 rfl rfl)
theorem dX0_label_3 : decode cX0_label 3 = .ok (.iload_n 1, 1) := dk_27 (dk_at dksX0_label_0 3 rfl rfl)
theorem dX0_label_4 : decode cX0_label 4 = .ok (.iload_n 2, 1) := dk_28 (dk_at dksX0_label_0 4 rfl rfl)
theorem dX0_label_5 : decode cX0_label 5 = .ok (.invokevirtual 66, 3) := dk_182 0 66 (dk_at dksX0_label_0 5 rfl rfl)
theorem dX0_label_8 : decode cX0_label 8 = .ok (.i2l, 1) := dk_133 (dk_at dksX0_label_0 8 rfl rfl)
theorem dX0_label_9 : decode cX0_label 9 = .ok (.lastore, 1) := dk_80 (dk_at dksX0_label_0 9 rfl rfl)
theorem dX0_label_10 : decode cX0_label 10 = .ok (.goto 7, 3) := dk_167 0 7 (dk_at dksX0_label_0 10 rfl rfl)
theorem dX0_label_13 : decode cX0_label 13 = .ok (.astore 4, 2) := dk_58 4 (dk_at dksX0_label_0 13 rfl rfl)
theorem dX0_label_15 : decode cX0_label 15 = .ok (.iconst 1, 1) := dk_4 (dk_at dksX0_label_0 15 rfl rfl)
theorem dX0_label_16 : decode cX0_label 16 = .ok (.ireturn, 1) := dk_172 (dk_at dksX0_label_0 16 rfl rfl)
theorem dX0_label_17 : decode cX0_label 17 = .ok (.iconst 0, 1) := dk_3 (dk_at dksX0_label_0 17 rfl rfl)
theorem dX0_label_18 : decode cX0_label 18 = .ok (.ireturn, 1) := dk_172 (dk_at dksX0_label_0 18 rfl rfl)
abbrev cX0_key : ByteArray := method_17_code
def yX0_key : MethodName := ⟨RX0, "key", "(LTreeDiffer;II[J)I"⟩
def dkwX0_key_0 : List UInt8 := [45, 3, 42, 27, 28, 182, 0, 70, 133, 80, 167, 0, 7, 58, 4, 4, 172, 3, 172]
abbrev dktX0_key_0 : List UInt8 := dkwX0_key_0 ++ []
theorem dksX0_key_0 : cX0_key.data.toList.drop 0 = dktX0_key_0 := by decide +kernel
theorem dX0_key_0 : decode cX0_key 0 = .ok (.aload_n 3, 1) := dk_45 (dk_at dksX0_key_0 0 rfl rfl)
theorem dX0_key_1 : decode cX0_key 1 = .ok (.iconst 0, 1) := dk_3 (dk_at dksX0_key_0 1 rfl rfl)
theorem dX0_key_2 : decode cX0_key 2 = .ok (.aload_n 0, 1) := dk_42 (dk_at dksX0_key_0 2 rfl rfl)
theorem dX0_key_3 : decode cX0_key 3 = .ok (.iload_n 1, 1) := dk_27 (dk_at dksX0_key_0 3 rfl rfl)
theorem dX0_key_4 : decode cX0_key 4 = .ok (.iload_n 2, 1) := dk_28 (dk_at dksX0_key_0 4 rfl rfl)
theorem dX0_key_5 : decode cX0_key 5 = .ok (.invokevirtual 70, 3) := dk_182 0 70 (dk_at dksX0_key_0 5 rfl rfl)
theorem dX0_key_8 : decode cX0_key 8 = .ok (.i2l, 1) := dk_133 (dk_at dksX0_key_0 8 rfl rfl)
theorem dX0_key_9 : decode cX0_key 9 = .ok (.lastore, 1) := dk_80 (dk_at dksX0_key_0 9 rfl rfl)
theorem dX0_key_10 : decode cX0_key 10 = .ok (.goto 7, 3) := dk_167 0 7 (dk_at dksX0_key_0 10 rfl rfl)
theorem dX0_key_13 : decode cX0_key 13 = .ok (.astore 4, 2) := dk_58 4 (dk_at dksX0_key_0 13 rfl rfl)
theorem dX0_key_15 : decode cX0_key 15 = .ok (.iconst 1, 1) := dk_4 (dk_at dksX0_key_0 15 rfl rfl)
theorem dX0_key_16 : decode cX0_key 16 = .ok (.ireturn, 1) := dk_172 (dk_at dksX0_key_0 16 rfl rfl)
theorem dX0_key_17 : decode cX0_key 17 = .ok (.iconst 0, 1) := dk_3 (dk_at dksX0_key_0 17 rfl rfl)
theorem dX0_key_18 : decode cX0_key 18 = .ok (.ireturn, 1) := dk_172 (dk_at dksX0_key_0 18 rfl rfl)
abbrev cX0_value : ByteArray := method_18_code
def yX0_value : MethodName := ⟨RX0, "value", "(LTreeDiffer;II[J)I"⟩
def dkwX0_value_0 : List UInt8 := [45, 3, 42, 27, 28, 182, 0, 73, 133, 80, 167, 0, 7, 58, 4, 4, 172, 3, 172]
abbrev dktX0_value_0 : List UInt8 := dkwX0_value_0 ++ []
theorem dksX0_value_0 : cX0_value.data.toList.drop 0 = dktX0_value_0 := by decide +kernel
theorem dX0_value_0 : decode cX0_value 0 = .ok (.aload_n 3, 1) := dk_45 (dk_at dksX0_value_0 0 rfl rfl)
theorem dX0_value_1 : decode cX0_value 1 = .ok (.iconst 0, 1) := dk_3 (dk_at dksX0_value_0 1 rfl rfl)
theorem dX0_value_2 : decode cX0_value 2 = .ok (.aload_n 0, 1) := dk_42 (dk_at dksX0_value_0 2 rfl rfl)
theorem dX0_value_3 : decode cX0_value 3 = .ok (.iload_n 1, 1) := dk_27 (dk_at dksX0_value_0 3 rfl rfl)
theorem dX0_value_4 : decode cX0_value 4 = .ok (.iload_n 2, 1) := dk_28 (dk_at dksX0_value_0 4 rfl rfl)
theorem dX0_value_5 : decode cX0_value 5 = .ok (.invokevirtual 73, 3) := dk_182 0 73 (dk_at dksX0_value_0 5 rfl rfl)
theorem dX0_value_8 : decode cX0_value 8 = .ok (.i2l, 1) := dk_133 (dk_at dksX0_value_0 8 rfl rfl)
theorem dX0_value_9 : decode cX0_value 9 = .ok (.lastore, 1) := dk_80 (dk_at dksX0_value_0 9 rfl rfl)
theorem dX0_value_10 : decode cX0_value 10 = .ok (.goto 7, 3) := dk_167 0 7 (dk_at dksX0_value_0 10 rfl rfl)
theorem dX0_value_13 : decode cX0_value 13 = .ok (.astore 4, 2) := dk_58 4 (dk_at dksX0_value_0 13 rfl rfl)
theorem dX0_value_15 : decode cX0_value 15 = .ok (.iconst 1, 1) := dk_4 (dk_at dksX0_value_0 15 rfl rfl)
theorem dX0_value_16 : decode cX0_value 16 = .ok (.ireturn, 1) := dk_172 (dk_at dksX0_value_0 16 rfl rfl)
theorem dX0_value_17 : decode cX0_value 17 = .ok (.iconst 0, 1) := dk_3 (dk_at dksX0_value_0 17 rfl rfl)
theorem dX0_value_18 : decode cX0_value 18 = .ok (.ireturn, 1) := dk_172 (dk_at dksX0_value_0 18 rfl rfl)
abbrev cX0_children : ByteArray := method_19_code
def yX0_children : MethodName := ⟨RX0, "children", "(LTreeDiffer;II[J)I"⟩
def dkwX0_children_0 : List UInt8 := [45, 3, 42, 27, 28, 182, 0, 76, 133, 80, 167, 0, 7, 58, 4, 4, 172, 3, 172]
abbrev dktX0_children_0 : List UInt8 := dkwX0_children_0 ++ []
theorem dksX0_children_0 : cX0_children.data.toList.drop 0 = dktX0_children_0 := by decide +kernel
theorem dX0_children_0 : decode cX0_children 0 = .ok (.aload_n 3, 1) := dk_45 (dk_at dksX0_children_0 0 rfl rfl)
theorem dX0_children_1 : decode cX0_children 1 = .ok (.iconst 0, 1) := dk_3 (dk_at dksX0_children_0 1 rfl rfl)
theorem dX0_children_2 : decode cX0_children 2 = .ok (.aload_n 0, 1) := dk_42 (dk_at dksX0_children_0 2 rfl rfl)
theorem dX0_children_3 : decode cX0_children 3 = .ok (.iload_n 1, 1) := dk_27 (dk_at dksX0_children_0 3 rfl rfl)
theorem dX0_children_4 : decode cX0_children 4 = .ok (.iload_n 2, 1) := dk_28 (dk_at dksX0_children_0 4 rfl rfl)
theorem dX0_children_5 : decode cX0_children 5 = .ok (.invokevirtual 76, 3) := dk_182 0 76 (dk_at dksX0_children_0 5 rfl rfl)
theorem dX0_children_8 : decode cX0_children 8 = .ok (.i2l, 1) := dk_133 (dk_at dksX0_children_0 8 rfl rfl)
theorem dX0_children_9 : decode cX0_children 9 = .ok (.lastore, 1) := dk_80 (dk_at dksX0_children_0 9 rfl rfl)
theorem dX0_children_10 : decode cX0_children 10 = .ok (.goto 7, 3) := dk_167 0 7 (dk_at dksX0_children_0 10 rfl rfl)
theorem dX0_children_13 : decode cX0_children 13 = .ok (.astore 4, 2) := dk_58 4 (dk_at dksX0_children_0 13 rfl rfl)
theorem dX0_children_15 : decode cX0_children 15 = .ok (.iconst 1, 1) := dk_4 (dk_at dksX0_children_0 15 rfl rfl)
theorem dX0_children_16 : decode cX0_children 16 = .ok (.ireturn, 1) := dk_172 (dk_at dksX0_children_0 16 rfl rfl)
theorem dX0_children_17 : decode cX0_children 17 = .ok (.iconst 0, 1) := dk_3 (dk_at dksX0_children_0 17 rfl rfl)
theorem dX0_children_18 : decode cX0_children 18 = .ok (.ireturn, 1) := dk_172 (dk_at dksX0_children_0 18 rfl rfl)
abbrev cX0_parent : ByteArray := method_20_code
def yX0_parent : MethodName := ⟨RX0, "parent", "(LTreeDiffer;II[J)I"⟩
def dkwX0_parent_0 : List UInt8 := [45, 3, 42, 27, 28, 182, 0, 79, 133, 80, 167, 0, 11, 58, 4, 4, 172, 58, 4, 5, 172, 3, 172]
abbrev dktX0_parent_0 : List UInt8 := dkwX0_parent_0 ++ []
theorem dksX0_parent_0 : cX0_parent.data.toList.drop 0 = dktX0_parent_0 := by decide +kernel
theorem dX0_parent_0 : decode cX0_parent 0 = .ok (.aload_n 3, 1) := dk_45 (dk_at dksX0_parent_0 0 rfl rfl)
theorem dX0_parent_1 : decode cX0_parent 1 = .ok (.iconst 0, 1) := dk_3 (dk_at dksX0_parent_0 1 rfl rfl)
theorem dX0_parent_2 : decode cX0_parent 2 = .ok (.aload_n 0, 1) := dk_42 (dk_at dksX0_parent_0 2 rfl rfl)
theorem dX0_parent_3 : decode cX0_parent 3 = .ok (.iload_n 1, 1) := dk_27 (dk_at dksX0_parent_0 3 rfl rfl)
theorem dX0_parent_4 : decode cX0_parent 4 = .ok (.iload_n 2, 1) := dk_28 (dk_at dksX0_parent_0 4 rfl rfl)
theorem dX0_parent_5 : decode cX0_parent 5 = .ok (.invokevirtual 79, 3) := dk_182 0 79 (dk_at dksX0_parent_0 5 rfl rfl)
theorem dX0_parent_8 : decode cX0_parent 8 = .ok (.i2l, 1) := dk_133 (dk_at dksX0_parent_0 8 rfl rfl)
theorem dX0_parent_9 : decode cX0_parent 9 = .ok (.lastore, 1) := dk_80 (dk_at dksX0_parent_0 9 rfl rfl)
theorem dX0_parent_10 : decode cX0_parent 10 = .ok (.goto 11, 3) := dk_167 0 11 (dk_at dksX0_parent_0 10 rfl rfl)
theorem dX0_parent_13 : decode cX0_parent 13 = .ok (.astore 4, 2) := dk_58 4 (dk_at dksX0_parent_0 13 rfl rfl)
theorem dX0_parent_15 : decode cX0_parent 15 = .ok (.iconst 1, 1) := dk_4 (dk_at dksX0_parent_0 15 rfl rfl)
theorem dX0_parent_16 : decode cX0_parent 16 = .ok (.ireturn, 1) := dk_172 (dk_at dksX0_parent_0 16 rfl rfl)
theorem dX0_parent_17 : decode cX0_parent 17 = .ok (.astore 4, 2) := dk_58 4 (dk_at dksX0_parent_0 17 rfl rfl)
theorem dX0_parent_19 : decode cX0_parent 19 = .ok (.iconst 2, 1) := dk_5 (dk_at dksX0_parent_0 19 rfl rfl)
theorem dX0_parent_20 : decode cX0_parent 20 = .ok (.ireturn, 1) := dk_172 (dk_at dksX0_parent_0 20 rfl rfl)
theorem dX0_parent_21 : decode cX0_parent 21 = .ok (.iconst 0, 1) := dk_3 (dk_at dksX0_parent_0 21 rfl rfl)
theorem dX0_parent_22 : decode cX0_parent 22 = .ok (.ireturn, 1) := dk_172 (dk_at dksX0_parent_0 22 rfl rfl)
abbrev cX0_subtreeSize : ByteArray := method_21_code
def yX0_subtreeSize : MethodName := ⟨RX0, "subtreeSize", "(LTreeDiffer;II[J)I"⟩
def dkwX0_subtreeSize_0 : List UInt8 := [45, 3, 42, 27, 28, 182, 0, 82, 133, 80, 167, 0, 7, 58, 4, 4, 172, 3, 172]
abbrev dktX0_subtreeSize_0 : List UInt8 := dkwX0_subtreeSize_0 ++ []
theorem dksX0_subtreeSize_0 : cX0_subtreeSize.data.toList.drop 0 = dktX0_subtreeSize_0 := by decide +kernel
theorem dX0_subtreeSize_0 : decode cX0_subtreeSize 0 = .ok (.aload_n 3, 1) := dk_45 (dk_at dksX0_subtreeSize_0 0 rfl rfl)
theorem dX0_subtreeSize_1 : decode cX0_subtreeSize 1 = .ok (.iconst 0, 1) := dk_3 (dk_at dksX0_subtreeSize_0 1 rfl rfl)
theorem dX0_subtreeSize_2 : decode cX0_subtreeSize 2 = .ok (.aload_n 0, 1) := dk_42 (dk_at dksX0_subtreeSize_0 2 rfl rfl)
theorem dX0_subtreeSize_3 : decode cX0_subtreeSize 3 = .ok (.iload_n 1, 1) := dk_27 (dk_at dksX0_subtreeSize_0 3 rfl rfl)
theorem dX0_subtreeSize_4 : decode cX0_subtreeSize 4 = .ok (.iload_n 2, 1) := dk_28 (dk_at dksX0_subtreeSize_0 4 rfl rfl)
theorem dX0_subtreeSize_5 : decode cX0_subtreeSize 5 = .ok (.invokevirtual 82, 3) := dk_182 0 82 (dk_at dksX0_subtreeSize_0 5 rfl rfl)
theorem dX0_subtreeSize_8 : decode cX0_subtreeSize 8 = .ok (.i2l, 1) := dk_133 (dk_at dksX0_subtreeSize_0 8 rfl rfl)
theorem dX0_subtreeSize_9 : decode cX0_subtreeSize 9 = .ok (.lastore, 1) := dk_80 (dk_at dksX0_subtreeSize_0 9 rfl rfl)
theorem dX0_subtreeSize_10 : decode cX0_subtreeSize 10 = .ok (.goto 7, 3) := dk_167 0 7 (dk_at dksX0_subtreeSize_0 10 rfl rfl)
theorem dX0_subtreeSize_13 : decode cX0_subtreeSize 13 = .ok (.astore 4, 2) := dk_58 4 (dk_at dksX0_subtreeSize_0 13 rfl rfl)
theorem dX0_subtreeSize_15 : decode cX0_subtreeSize 15 = .ok (.iconst 1, 1) := dk_4 (dk_at dksX0_subtreeSize_0 15 rfl rfl)
theorem dX0_subtreeSize_16 : decode cX0_subtreeSize 16 = .ok (.ireturn, 1) := dk_172 (dk_at dksX0_subtreeSize_0 16 rfl rfl)
theorem dX0_subtreeSize_17 : decode cX0_subtreeSize 17 = .ok (.iconst 0, 1) := dk_3 (dk_at dksX0_subtreeSize_0 17 rfl rfl)
theorem dX0_subtreeSize_18 : decode cX0_subtreeSize 18 = .ok (.ireturn, 1) := dk_172 (dk_at dksX0_subtreeSize_0 18 rfl rfl)
abbrev cX0_subtreeHash : ByteArray := method_22_code
def yX0_subtreeHash : MethodName := ⟨RX0, "subtreeHash", "(LTreeDiffer;II[J)I"⟩
def dkwX0_subtreeHash_0 : List UInt8 := [45, 3, 42, 27, 28, 182, 0, 85, 133, 80, 167, 0, 7, 58, 4, 4, 172, 3, 172]
abbrev dktX0_subtreeHash_0 : List UInt8 := dkwX0_subtreeHash_0 ++ []
theorem dksX0_subtreeHash_0 : cX0_subtreeHash.data.toList.drop 0 = dktX0_subtreeHash_0 := by decide +kernel
theorem dX0_subtreeHash_0 : decode cX0_subtreeHash 0 = .ok (.aload_n 3, 1) := dk_45 (dk_at dksX0_subtreeHash_0 0 rfl rfl)
theorem dX0_subtreeHash_1 : decode cX0_subtreeHash 1 = .ok (.iconst 0, 1) := dk_3 (dk_at dksX0_subtreeHash_0 1 rfl rfl)
theorem dX0_subtreeHash_2 : decode cX0_subtreeHash 2 = .ok (.aload_n 0, 1) := dk_42 (dk_at dksX0_subtreeHash_0 2 rfl rfl)
theorem dX0_subtreeHash_3 : decode cX0_subtreeHash 3 = .ok (.iload_n 1, 1) := dk_27 (dk_at dksX0_subtreeHash_0 3 rfl rfl)
theorem dX0_subtreeHash_4 : decode cX0_subtreeHash 4 = .ok (.iload_n 2, 1) := dk_28 (dk_at dksX0_subtreeHash_0 4 rfl rfl)
theorem dX0_subtreeHash_5 : decode cX0_subtreeHash 5 = .ok (.invokevirtual 85, 3) := dk_182 0 85 (dk_at dksX0_subtreeHash_0 5 rfl rfl)
theorem dX0_subtreeHash_8 : decode cX0_subtreeHash 8 = .ok (.i2l, 1) := dk_133 (dk_at dksX0_subtreeHash_0 8 rfl rfl)
theorem dX0_subtreeHash_9 : decode cX0_subtreeHash 9 = .ok (.lastore, 1) := dk_80 (dk_at dksX0_subtreeHash_0 9 rfl rfl)
theorem dX0_subtreeHash_10 : decode cX0_subtreeHash 10 = .ok (.goto 7, 3) := dk_167 0 7 (dk_at dksX0_subtreeHash_0 10 rfl rfl)
theorem dX0_subtreeHash_13 : decode cX0_subtreeHash 13 = .ok (.astore 4, 2) := dk_58 4 (dk_at dksX0_subtreeHash_0 13 rfl rfl)
theorem dX0_subtreeHash_15 : decode cX0_subtreeHash 15 = .ok (.iconst 1, 1) := dk_4 (dk_at dksX0_subtreeHash_0 15 rfl rfl)
theorem dX0_subtreeHash_16 : decode cX0_subtreeHash 16 = .ok (.ireturn, 1) := dk_172 (dk_at dksX0_subtreeHash_0 16 rfl rfl)
theorem dX0_subtreeHash_17 : decode cX0_subtreeHash 17 = .ok (.iconst 0, 1) := dk_3 (dk_at dksX0_subtreeHash_0 17 rfl rfl)
theorem dX0_subtreeHash_18 : decode cX0_subtreeHash 18 = .ok (.ireturn, 1) := dk_172 (dk_at dksX0_subtreeHash_0 18 rfl rfl)
abbrev cX0_areEqual : ByteArray := method_23_code
def yX0_areEqual : MethodName := ⟨RX0, "areEqual", "(LTreeDiffer;IIII[J)I"⟩
def dkwX0_areEqual_1 : List UInt8 := [58, 6, 4, 172, 3, 172]
abbrev dktX0_areEqual_1 : List UInt8 := dkwX0_areEqual_1 ++ []
def dkwX0_areEqual_0 : List UInt8 := [25, 5, 3, 42, 27, 28, 29, 21, 4, 182, 0, 88, 153, 0, 7, 10, 167, 0, 4, 9, 80, 167, 0, 7]
abbrev dktX0_areEqual_0 : List UInt8 := dkwX0_areEqual_0 ++ dktX0_areEqual_1
theorem dksX0_areEqual_0 : cX0_areEqual.data.toList.drop 0 = dktX0_areEqual_0 := by decide +kernel
theorem dksX0_areEqual_1 : cX0_areEqual.data.toList.drop 24 = dktX0_areEqual_1 := dk_seg dksX0_areEqual_0 24 rfl rfl
theorem dX0_areEqual_0 : decode cX0_areEqual 0 = .ok (.aload 5, 2) := dk_25 5 (dk_at dksX0_areEqual_0 0 rfl rfl)
theorem dX0_areEqual_2 : decode cX0_areEqual 2 = .ok (.iconst 0, 1) := dk_3 (dk_at dksX0_areEqual_0 2 rfl rfl)
theorem dX0_areEqual_3 : decode cX0_areEqual 3 = .ok (.aload_n 0, 1) := dk_42 (dk_at dksX0_areEqual_0 3 rfl rfl)
theorem dX0_areEqual_4 : decode cX0_areEqual 4 = .ok (.iload_n 1, 1) := dk_27 (dk_at dksX0_areEqual_0 4 rfl rfl)
theorem dX0_areEqual_5 : decode cX0_areEqual 5 = .ok (.iload_n 2, 1) := dk_28 (dk_at dksX0_areEqual_0 5 rfl rfl)
theorem dX0_areEqual_6 : decode cX0_areEqual 6 = .ok (.iload_n 3, 1) := dk_29 (dk_at dksX0_areEqual_0 6 rfl rfl)
theorem dX0_areEqual_7 : decode cX0_areEqual 7 = .ok (.iload 4, 2) := dk_21 4 (dk_at dksX0_areEqual_0 7 rfl rfl)
theorem dX0_areEqual_9 : decode cX0_areEqual 9 = .ok (.invokevirtual 88, 3) := dk_182 0 88 (dk_at dksX0_areEqual_0 9 rfl rfl)
theorem dX0_areEqual_12 : decode cX0_areEqual 12 = .ok (.ifCond .eq 7, 3) := dk_153 0 7 (dk_at dksX0_areEqual_0 12 rfl rfl)
theorem dX0_areEqual_15 : decode cX0_areEqual 15 = .ok (.lconst 1, 1) := dk_10 (dk_at dksX0_areEqual_0 15 rfl rfl)
theorem dX0_areEqual_16 : decode cX0_areEqual 16 = .ok (.goto 4, 3) := dk_167 0 4 (dk_at dksX0_areEqual_0 16 rfl rfl)
theorem dX0_areEqual_19 : decode cX0_areEqual 19 = .ok (.lconst 0, 1) := dk_9 (dk_at dksX0_areEqual_0 19 rfl rfl)
theorem dX0_areEqual_20 : decode cX0_areEqual 20 = .ok (.lastore, 1) := dk_80 (dk_at dksX0_areEqual_0 20 rfl rfl)
theorem dX0_areEqual_21 : decode cX0_areEqual 21 = .ok (.goto 7, 3) := dk_167 0 7 (dk_at dksX0_areEqual_0 21 rfl rfl)
theorem dX0_areEqual_24 : decode cX0_areEqual 24 = .ok (.astore 6, 2) := dk_58 6 (dk_at dksX0_areEqual_1 0 rfl rfl)
theorem dX0_areEqual_26 : decode cX0_areEqual 26 = .ok (.iconst 1, 1) := dk_4 (dk_at dksX0_areEqual_1 2 rfl rfl)
theorem dX0_areEqual_27 : decode cX0_areEqual 27 = .ok (.ireturn, 1) := dk_172 (dk_at dksX0_areEqual_1 3 rfl rfl)
theorem dX0_areEqual_28 : decode cX0_areEqual 28 = .ok (.iconst 0, 1) := dk_3 (dk_at dksX0_areEqual_1 4 rfl rfl)
theorem dX0_areEqual_29 : decode cX0_areEqual 29 = .ok (.ireturn, 1) := dk_172 (dk_at dksX0_areEqual_1 5 rfl rfl)
abbrev cX0_twin : ByteArray := method_24_code
def yX0_twin : MethodName := ⟨RX0, "twin", "(LTreeDiffer;III[J)I"⟩
def dkwX0_twin_1 : List UInt8 := [172]
abbrev dktX0_twin_1 : List UInt8 := dkwX0_twin_1 ++ []
def dkwX0_twin_0 : List UInt8 := [25, 4, 3, 42, 27, 28, 29, 182, 0, 92, 133, 80, 167, 0, 11, 58, 5, 4, 172, 58, 5, 5, 172, 3]
abbrev dktX0_twin_0 : List UInt8 := dkwX0_twin_0 ++ dktX0_twin_1
theorem dksX0_twin_0 : cX0_twin.data.toList.drop 0 = dktX0_twin_0 := by decide +kernel
theorem dksX0_twin_1 : cX0_twin.data.toList.drop 24 = dktX0_twin_1 := dk_seg dksX0_twin_0 24 rfl rfl
theorem dX0_twin_0 : decode cX0_twin 0 = .ok (.aload 4, 2) := dk_25 4 (dk_at dksX0_twin_0 0 rfl rfl)
theorem dX0_twin_2 : decode cX0_twin 2 = .ok (.iconst 0, 1) := dk_3 (dk_at dksX0_twin_0 2 rfl rfl)
theorem dX0_twin_3 : decode cX0_twin 3 = .ok (.aload_n 0, 1) := dk_42 (dk_at dksX0_twin_0 3 rfl rfl)
theorem dX0_twin_4 : decode cX0_twin 4 = .ok (.iload_n 1, 1) := dk_27 (dk_at dksX0_twin_0 4 rfl rfl)
theorem dX0_twin_5 : decode cX0_twin 5 = .ok (.iload_n 2, 1) := dk_28 (dk_at dksX0_twin_0 5 rfl rfl)
theorem dX0_twin_6 : decode cX0_twin 6 = .ok (.iload_n 3, 1) := dk_29 (dk_at dksX0_twin_0 6 rfl rfl)
theorem dX0_twin_7 : decode cX0_twin 7 = .ok (.invokevirtual 92, 3) := dk_182 0 92 (dk_at dksX0_twin_0 7 rfl rfl)
theorem dX0_twin_10 : decode cX0_twin 10 = .ok (.i2l, 1) := dk_133 (dk_at dksX0_twin_0 10 rfl rfl)
theorem dX0_twin_11 : decode cX0_twin 11 = .ok (.lastore, 1) := dk_80 (dk_at dksX0_twin_0 11 rfl rfl)
theorem dX0_twin_12 : decode cX0_twin 12 = .ok (.goto 11, 3) := dk_167 0 11 (dk_at dksX0_twin_0 12 rfl rfl)
theorem dX0_twin_15 : decode cX0_twin 15 = .ok (.astore 5, 2) := dk_58 5 (dk_at dksX0_twin_0 15 rfl rfl)
theorem dX0_twin_17 : decode cX0_twin 17 = .ok (.iconst 1, 1) := dk_4 (dk_at dksX0_twin_0 17 rfl rfl)
theorem dX0_twin_18 : decode cX0_twin 18 = .ok (.ireturn, 1) := dk_172 (dk_at dksX0_twin_0 18 rfl rfl)
theorem dX0_twin_19 : decode cX0_twin 19 = .ok (.astore 5, 2) := dk_58 5 (dk_at dksX0_twin_0 19 rfl rfl)
theorem dX0_twin_21 : decode cX0_twin 21 = .ok (.iconst 2, 1) := dk_5 (dk_at dksX0_twin_0 21 rfl rfl)
theorem dX0_twin_22 : decode cX0_twin 22 = .ok (.ireturn, 1) := dk_172 (dk_at dksX0_twin_0 22 rfl rfl)
theorem dX0_twin_23 : decode cX0_twin 23 = .ok (.iconst 0, 1) := dk_3 (dk_at dksX0_twin_0 23 rfl rfl)
theorem dX0_twin_24 : decode cX0_twin 24 = .ok (.ireturn, 1) := dk_172 (dk_at dksX0_twin_1 0 rfl rfl)
abbrev cX0_shapeTwin : ByteArray := method_25_code
def yX0_shapeTwin : MethodName := ⟨RX0, "shapeTwin", "(LTreeDiffer;III[J)I"⟩
def dkwX0_shapeTwin_1 : List UInt8 := [172]
abbrev dktX0_shapeTwin_1 : List UInt8 := dkwX0_shapeTwin_1 ++ []
def dkwX0_shapeTwin_0 : List UInt8 := [25, 4, 3, 42, 27, 28, 29, 182, 0, 95, 133, 80, 167, 0, 11, 58, 5, 4, 172, 58, 5, 5, 172, 3]
abbrev dktX0_shapeTwin_0 : List UInt8 := dkwX0_shapeTwin_0 ++ dktX0_shapeTwin_1
theorem dksX0_shapeTwin_0 : cX0_shapeTwin.data.toList.drop 0 = dktX0_shapeTwin_0 := by decide +kernel
theorem dksX0_shapeTwin_1 : cX0_shapeTwin.data.toList.drop 24 = dktX0_shapeTwin_1 := dk_seg dksX0_shapeTwin_0 24 rfl rfl
theorem dX0_shapeTwin_0 : decode cX0_shapeTwin 0 = .ok (.aload 4, 2) := dk_25 4 (dk_at dksX0_shapeTwin_0 0 rfl rfl)
theorem dX0_shapeTwin_2 : decode cX0_shapeTwin 2 = .ok (.iconst 0, 1) := dk_3 (dk_at dksX0_shapeTwin_0 2 rfl rfl)
theorem dX0_shapeTwin_3 : decode cX0_shapeTwin 3 = .ok (.aload_n 0, 1) := dk_42 (dk_at dksX0_shapeTwin_0 3 rfl rfl)
theorem dX0_shapeTwin_4 : decode cX0_shapeTwin 4 = .ok (.iload_n 1, 1) := dk_27 (dk_at dksX0_shapeTwin_0 4 rfl rfl)
theorem dX0_shapeTwin_5 : decode cX0_shapeTwin 5 = .ok (.iload_n 2, 1) := dk_28 (dk_at dksX0_shapeTwin_0 5 rfl rfl)
theorem dX0_shapeTwin_6 : decode cX0_shapeTwin 6 = .ok (.iload_n 3, 1) := dk_29 (dk_at dksX0_shapeTwin_0 6 rfl rfl)
theorem dX0_shapeTwin_7 : decode cX0_shapeTwin 7 = .ok (.invokevirtual 95, 3) := dk_182 0 95 (dk_at dksX0_shapeTwin_0 7 rfl rfl)
theorem dX0_shapeTwin_10 : decode cX0_shapeTwin 10 = .ok (.i2l, 1) := dk_133 (dk_at dksX0_shapeTwin_0 10 rfl rfl)
theorem dX0_shapeTwin_11 : decode cX0_shapeTwin 11 = .ok (.lastore, 1) := dk_80 (dk_at dksX0_shapeTwin_0 11 rfl rfl)
theorem dX0_shapeTwin_12 : decode cX0_shapeTwin 12 = .ok (.goto 11, 3) := dk_167 0 11 (dk_at dksX0_shapeTwin_0 12 rfl rfl)
theorem dX0_shapeTwin_15 : decode cX0_shapeTwin 15 = .ok (.astore 5, 2) := dk_58 5 (dk_at dksX0_shapeTwin_0 15 rfl rfl)
theorem dX0_shapeTwin_17 : decode cX0_shapeTwin 17 = .ok (.iconst 1, 1) := dk_4 (dk_at dksX0_shapeTwin_0 17 rfl rfl)
theorem dX0_shapeTwin_18 : decode cX0_shapeTwin 18 = .ok (.ireturn, 1) := dk_172 (dk_at dksX0_shapeTwin_0 18 rfl rfl)
theorem dX0_shapeTwin_19 : decode cX0_shapeTwin 19 = .ok (.astore 5, 2) := dk_58 5 (dk_at dksX0_shapeTwin_0 19 rfl rfl)
theorem dX0_shapeTwin_21 : decode cX0_shapeTwin 21 = .ok (.iconst 2, 1) := dk_5 (dk_at dksX0_shapeTwin_0 21 rfl rfl)
theorem dX0_shapeTwin_22 : decode cX0_shapeTwin 22 = .ok (.ireturn, 1) := dk_172 (dk_at dksX0_shapeTwin_0 22 rfl rfl)
theorem dX0_shapeTwin_23 : decode cX0_shapeTwin 23 = .ok (.iconst 0, 1) := dk_3 (dk_at dksX0_shapeTwin_0 23 rfl rfl)
theorem dX0_shapeTwin_24 : decode cX0_shapeTwin 24 = .ok (.ireturn, 1) := dk_172 (dk_at dksX0_shapeTwin_1 0 rfl rfl)
abbrev cX0_distance : ByteArray := method_26_code
def yX0_distance : MethodName := ⟨RX0, "distance", "(LTreeDiffer;II[J)I"⟩
def dkwX0_distance_0 : List UInt8 := [45, 3, 42, 27, 28, 182, 0, 98, 133, 80, 167, 0, 7, 58, 4, 4, 172, 3, 172]
abbrev dktX0_distance_0 : List UInt8 := dkwX0_distance_0 ++ []
theorem dksX0_distance_0 : cX0_distance.data.toList.drop 0 = dktX0_distance_0 := by decide +kernel
theorem dX0_distance_0 : decode cX0_distance 0 = .ok (.aload_n 3, 1) := dk_45 (dk_at dksX0_distance_0 0 rfl rfl)
theorem dX0_distance_1 : decode cX0_distance 1 = .ok (.iconst 0, 1) := dk_3 (dk_at dksX0_distance_0 1 rfl rfl)
theorem dX0_distance_2 : decode cX0_distance 2 = .ok (.aload_n 0, 1) := dk_42 (dk_at dksX0_distance_0 2 rfl rfl)
theorem dX0_distance_3 : decode cX0_distance 3 = .ok (.iload_n 1, 1) := dk_27 (dk_at dksX0_distance_0 3 rfl rfl)
theorem dX0_distance_4 : decode cX0_distance 4 = .ok (.iload_n 2, 1) := dk_28 (dk_at dksX0_distance_0 4 rfl rfl)
theorem dX0_distance_5 : decode cX0_distance 5 = .ok (.invokevirtual 98, 3) := dk_182 0 98 (dk_at dksX0_distance_0 5 rfl rfl)
theorem dX0_distance_8 : decode cX0_distance 8 = .ok (.i2l, 1) := dk_133 (dk_at dksX0_distance_0 8 rfl rfl)
theorem dX0_distance_9 : decode cX0_distance 9 = .ok (.lastore, 1) := dk_80 (dk_at dksX0_distance_0 9 rfl rfl)
theorem dX0_distance_10 : decode cX0_distance 10 = .ok (.goto 7, 3) := dk_167 0 7 (dk_at dksX0_distance_0 10 rfl rfl)
theorem dX0_distance_13 : decode cX0_distance 13 = .ok (.astore 4, 2) := dk_58 4 (dk_at dksX0_distance_0 13 rfl rfl)
theorem dX0_distance_15 : decode cX0_distance 15 = .ok (.iconst 1, 1) := dk_4 (dk_at dksX0_distance_0 15 rfl rfl)
theorem dX0_distance_16 : decode cX0_distance 16 = .ok (.ireturn, 1) := dk_172 (dk_at dksX0_distance_0 16 rfl rfl)
theorem dX0_distance_17 : decode cX0_distance 17 = .ok (.iconst 0, 1) := dk_3 (dk_at dksX0_distance_0 17 rfl rfl)
theorem dX0_distance_18 : decode cX0_distance 18 = .ok (.ireturn, 1) := dk_172 (dk_at dksX0_distance_0 18 rfl rfl)
abbrev cX0_distanceByMatchings : ByteArray := method_27_code
def yX0_distanceByMatchings : MethodName := ⟨RX0, "distanceByMatchings", "(LTreeDiffer;II[J)I"⟩
def dkwX0_distanceByMatchings_0 : List UInt8 := [45, 3, 42, 27, 28, 182, 0, 101, 133, 80, 167, 0, 11, 58, 4, 4, 172, 58, 4, 5, 172, 3, 172]
abbrev dktX0_distanceByMatchings_0 : List UInt8 := dkwX0_distanceByMatchings_0 ++ []
theorem dksX0_distanceByMatchings_0 : cX0_distanceByMatchings.data.toList.drop 0 = dktX0_distanceByMatchings_0 := by decide +kernel
theorem dX0_distanceByMatchings_0 : decode cX0_distanceByMatchings 0 = .ok (.aload_n 3, 1) := dk_45 (dk_at dksX0_distanceByMatchings_0 0 rfl rfl)
theorem dX0_distanceByMatchings_1 : decode cX0_distanceByMatchings 1 = .ok (.iconst 0, 1) := dk_3 (dk_at dksX0_distanceByMatchings_0 1 rfl rfl)
theorem dX0_distanceByMatchings_2 : decode cX0_distanceByMatchings 2 = .ok (.aload_n 0, 1) := dk_42 (dk_at dksX0_distanceByMatchings_0 2 rfl rfl)
theorem dX0_distanceByMatchings_3 : decode cX0_distanceByMatchings 3 = .ok (.iload_n 1, 1) := dk_27 (dk_at dksX0_distanceByMatchings_0 3 rfl rfl)
theorem dX0_distanceByMatchings_4 : decode cX0_distanceByMatchings 4 = .ok (.iload_n 2, 1) := dk_28 (dk_at dksX0_distanceByMatchings_0 4 rfl rfl)
theorem dX0_distanceByMatchings_5 : decode cX0_distanceByMatchings 5 = .ok (.invokevirtual 101, 3) := dk_182 0 101 (dk_at dksX0_distanceByMatchings_0 5 rfl rfl)
theorem dX0_distanceByMatchings_8 : decode cX0_distanceByMatchings 8 = .ok (.i2l, 1) := dk_133 (dk_at dksX0_distanceByMatchings_0 8 rfl rfl)
theorem dX0_distanceByMatchings_9 : decode cX0_distanceByMatchings 9 = .ok (.lastore, 1) := dk_80 (dk_at dksX0_distanceByMatchings_0 9 rfl rfl)
theorem dX0_distanceByMatchings_10 : decode cX0_distanceByMatchings 10 = .ok (.goto 11, 3) := dk_167 0 11 (dk_at dksX0_distanceByMatchings_0 10 rfl rfl)
theorem dX0_distanceByMatchings_13 : decode cX0_distanceByMatchings 13 = .ok (.astore 4, 2) := dk_58 4 (dk_at dksX0_distanceByMatchings_0 13 rfl rfl)
theorem dX0_distanceByMatchings_15 : decode cX0_distanceByMatchings 15 = .ok (.iconst 1, 1) := dk_4 (dk_at dksX0_distanceByMatchings_0 15 rfl rfl)
theorem dX0_distanceByMatchings_16 : decode cX0_distanceByMatchings 16 = .ok (.ireturn, 1) := dk_172 (dk_at dksX0_distanceByMatchings_0 16 rfl rfl)
theorem dX0_distanceByMatchings_17 : decode cX0_distanceByMatchings 17 = .ok (.astore 4, 2) := dk_58 4 (dk_at dksX0_distanceByMatchings_0 17 rfl rfl)
theorem dX0_distanceByMatchings_19 : decode cX0_distanceByMatchings 19 = .ok (.iconst 2, 1) := dk_5 (dk_at dksX0_distanceByMatchings_0 19 rfl rfl)
theorem dX0_distanceByMatchings_20 : decode cX0_distanceByMatchings 20 = .ok (.ireturn, 1) := dk_172 (dk_at dksX0_distanceByMatchings_0 20 rfl rfl)
theorem dX0_distanceByMatchings_21 : decode cX0_distanceByMatchings 21 = .ok (.iconst 0, 1) := dk_3 (dk_at dksX0_distanceByMatchings_0 21 rfl rfl)
theorem dX0_distanceByMatchings_22 : decode cX0_distanceByMatchings 22 = .ok (.ireturn, 1) := dk_172 (dk_at dksX0_distanceByMatchings_0 22 rfl rfl)
abbrev cX0_similarity : ByteArray := method_28_code
def yX0_similarity : MethodName := ⟨RX0, "similarity", "(LTreeDiffer;II[D)I"⟩
def dkwX0_similarity_0 : List UInt8 := [45, 3, 42, 27, 28, 182, 0, 104, 82, 167, 0, 7, 58, 4, 4, 172, 3, 172]
abbrev dktX0_similarity_0 : List UInt8 := dkwX0_similarity_0 ++ []
theorem dksX0_similarity_0 : cX0_similarity.data.toList.drop 0 = dktX0_similarity_0 := by decide +kernel
theorem dX0_similarity_0 : decode cX0_similarity 0 = .ok (.aload_n 3, 1) := dk_45 (dk_at dksX0_similarity_0 0 rfl rfl)
theorem dX0_similarity_1 : decode cX0_similarity 1 = .ok (.iconst 0, 1) := dk_3 (dk_at dksX0_similarity_0 1 rfl rfl)
theorem dX0_similarity_2 : decode cX0_similarity 2 = .ok (.aload_n 0, 1) := dk_42 (dk_at dksX0_similarity_0 2 rfl rfl)
theorem dX0_similarity_3 : decode cX0_similarity 3 = .ok (.iload_n 1, 1) := dk_27 (dk_at dksX0_similarity_0 3 rfl rfl)
theorem dX0_similarity_4 : decode cX0_similarity 4 = .ok (.iload_n 2, 1) := dk_28 (dk_at dksX0_similarity_0 4 rfl rfl)
theorem dX0_similarity_5 : decode cX0_similarity 5 = .ok (.invokevirtual 104, 3) := dk_182 0 104 (dk_at dksX0_similarity_0 5 rfl rfl)
theorem dX0_similarity_8 : decode cX0_similarity 8 = .ok (.dastore, 1) := dk_82 (dk_at dksX0_similarity_0 8 rfl rfl)
theorem dX0_similarity_9 : decode cX0_similarity 9 = .ok (.goto 7, 3) := dk_167 0 7 (dk_at dksX0_similarity_0 9 rfl rfl)
theorem dX0_similarity_12 : decode cX0_similarity 12 = .ok (.astore 4, 2) := dk_58 4 (dk_at dksX0_similarity_0 12 rfl rfl)
theorem dX0_similarity_14 : decode cX0_similarity 14 = .ok (.iconst 1, 1) := dk_4 (dk_at dksX0_similarity_0 14 rfl rfl)
theorem dX0_similarity_15 : decode cX0_similarity 15 = .ok (.ireturn, 1) := dk_172 (dk_at dksX0_similarity_0 15 rfl rfl)
theorem dX0_similarity_16 : decode cX0_similarity 16 = .ok (.iconst 0, 1) := dk_3 (dk_at dksX0_similarity_0 16 rfl rfl)
theorem dX0_similarity_17 : decode cX0_similarity 17 = .ok (.ireturn, 1) := dk_172 (dk_at dksX0_similarity_0 17 rfl rfl)
abbrev cX0_diff : ByteArray := method_29_code
def yX0_diff : MethodName := ⟨RX0, "diff", "(LTreeDiffer;II[J)I"⟩
def dkwX0_diff_0 : List UInt8 := [45, 3, 42, 27, 28, 182, 0, 108, 133, 80, 167, 0, 7, 58, 4, 4, 172, 3, 172]
abbrev dktX0_diff_0 : List UInt8 := dkwX0_diff_0 ++ []
theorem dksX0_diff_0 : cX0_diff.data.toList.drop 0 = dktX0_diff_0 := by decide +kernel
theorem dX0_diff_0 : decode cX0_diff 0 = .ok (.aload_n 3, 1) := dk_45 (dk_at dksX0_diff_0 0 rfl rfl)
theorem dX0_diff_1 : decode cX0_diff 1 = .ok (.iconst 0, 1) := dk_3 (dk_at dksX0_diff_0 1 rfl rfl)
theorem dX0_diff_2 : decode cX0_diff 2 = .ok (.aload_n 0, 1) := dk_42 (dk_at dksX0_diff_0 2 rfl rfl)
theorem dX0_diff_3 : decode cX0_diff 3 = .ok (.iload_n 1, 1) := dk_27 (dk_at dksX0_diff_0 3 rfl rfl)
theorem dX0_diff_4 : decode cX0_diff 4 = .ok (.iload_n 2, 1) := dk_28 (dk_at dksX0_diff_0 4 rfl rfl)
theorem dX0_diff_5 : decode cX0_diff 5 = .ok (.invokevirtual 108, 3) := dk_182 0 108 (dk_at dksX0_diff_0 5 rfl rfl)
theorem dX0_diff_8 : decode cX0_diff 8 = .ok (.i2l, 1) := dk_133 (dk_at dksX0_diff_0 8 rfl rfl)
theorem dX0_diff_9 : decode cX0_diff 9 = .ok (.lastore, 1) := dk_80 (dk_at dksX0_diff_0 9 rfl rfl)
theorem dX0_diff_10 : decode cX0_diff 10 = .ok (.goto 7, 3) := dk_167 0 7 (dk_at dksX0_diff_0 10 rfl rfl)
theorem dX0_diff_13 : decode cX0_diff 13 = .ok (.astore 4, 2) := dk_58 4 (dk_at dksX0_diff_0 13 rfl rfl)
theorem dX0_diff_15 : decode cX0_diff 15 = .ok (.iconst 1, 1) := dk_4 (dk_at dksX0_diff_0 15 rfl rfl)
theorem dX0_diff_16 : decode cX0_diff 16 = .ok (.ireturn, 1) := dk_172 (dk_at dksX0_diff_0 16 rfl rfl)
theorem dX0_diff_17 : decode cX0_diff 17 = .ok (.iconst 0, 1) := dk_3 (dk_at dksX0_diff_0 17 rfl rfl)
theorem dX0_diff_18 : decode cX0_diff 18 = .ok (.ireturn, 1) := dk_172 (dk_at dksX0_diff_0 18 rfl rfl)
abbrev cX0_operations : ByteArray := method_30_code
def yX0_operations : MethodName := ⟨RX0, "operations", "(LTreeDiffer;[J)I"⟩
def dkwX0_operations_0 : List UInt8 := [43, 3, 42, 182, 0, 111, 133, 80, 167, 0, 6, 77, 4, 172, 3, 172]
abbrev dktX0_operations_0 : List UInt8 := dkwX0_operations_0 ++ []
theorem dksX0_operations_0 : cX0_operations.data.toList.drop 0 = dktX0_operations_0 := by decide +kernel
theorem dX0_operations_0 : decode cX0_operations 0 = .ok (.aload_n 1, 1) := dk_43 (dk_at dksX0_operations_0 0 rfl rfl)
theorem dX0_operations_1 : decode cX0_operations 1 = .ok (.iconst 0, 1) := dk_3 (dk_at dksX0_operations_0 1 rfl rfl)
theorem dX0_operations_2 : decode cX0_operations 2 = .ok (.aload_n 0, 1) := dk_42 (dk_at dksX0_operations_0 2 rfl rfl)
theorem dX0_operations_3 : decode cX0_operations 3 = .ok (.invokevirtual 111, 3) := dk_182 0 111 (dk_at dksX0_operations_0 3 rfl rfl)
theorem dX0_operations_6 : decode cX0_operations 6 = .ok (.i2l, 1) := dk_133 (dk_at dksX0_operations_0 6 rfl rfl)
theorem dX0_operations_7 : decode cX0_operations 7 = .ok (.lastore, 1) := dk_80 (dk_at dksX0_operations_0 7 rfl rfl)
theorem dX0_operations_8 : decode cX0_operations 8 = .ok (.goto 6, 3) := dk_167 0 6 (dk_at dksX0_operations_0 8 rfl rfl)
theorem dX0_operations_11 : decode cX0_operations 11 = .ok (.astore_n 2, 1) := dk_77 (dk_at dksX0_operations_0 11 rfl rfl)
theorem dX0_operations_12 : decode cX0_operations 12 = .ok (.iconst 1, 1) := dk_4 (dk_at dksX0_operations_0 12 rfl rfl)
theorem dX0_operations_13 : decode cX0_operations 13 = .ok (.ireturn, 1) := dk_172 (dk_at dksX0_operations_0 13 rfl rfl)
theorem dX0_operations_14 : decode cX0_operations 14 = .ok (.iconst 0, 1) := dk_3 (dk_at dksX0_operations_0 14 rfl rfl)
theorem dX0_operations_15 : decode cX0_operations 15 = .ok (.ireturn, 1) := dk_172 (dk_at dksX0_operations_0 15 rfl rfl)
abbrev cX0_opKind : ByteArray := method_31_code
def yX0_opKind : MethodName := ⟨RX0, "opKind", "(LTreeDiffer;I[J)I"⟩
def dkwX0_opKind_0 : List UInt8 := [44, 3, 42, 27, 182, 0, 114, 133, 80, 167, 0, 9, 78, 4, 172, 78, 5, 172, 3, 172]
abbrev dktX0_opKind_0 : List UInt8 := dkwX0_opKind_0 ++ []
theorem dksX0_opKind_0 : cX0_opKind.data.toList.drop 0 = dktX0_opKind_0 := by decide +kernel
theorem dX0_opKind_0 : decode cX0_opKind 0 = .ok (.aload_n 2, 1) := dk_44 (dk_at dksX0_opKind_0 0 rfl rfl)
theorem dX0_opKind_1 : decode cX0_opKind 1 = .ok (.iconst 0, 1) := dk_3 (dk_at dksX0_opKind_0 1 rfl rfl)
theorem dX0_opKind_2 : decode cX0_opKind 2 = .ok (.aload_n 0, 1) := dk_42 (dk_at dksX0_opKind_0 2 rfl rfl)
theorem dX0_opKind_3 : decode cX0_opKind 3 = .ok (.iload_n 1, 1) := dk_27 (dk_at dksX0_opKind_0 3 rfl rfl)
theorem dX0_opKind_4 : decode cX0_opKind 4 = .ok (.invokevirtual 114, 3) := dk_182 0 114 (dk_at dksX0_opKind_0 4 rfl rfl)
theorem dX0_opKind_7 : decode cX0_opKind 7 = .ok (.i2l, 1) := dk_133 (dk_at dksX0_opKind_0 7 rfl rfl)
theorem dX0_opKind_8 : decode cX0_opKind 8 = .ok (.lastore, 1) := dk_80 (dk_at dksX0_opKind_0 8 rfl rfl)
theorem dX0_opKind_9 : decode cX0_opKind 9 = .ok (.goto 9, 3) := dk_167 0 9 (dk_at dksX0_opKind_0 9 rfl rfl)
theorem dX0_opKind_12 : decode cX0_opKind 12 = .ok (.astore_n 3, 1) := dk_78 (dk_at dksX0_opKind_0 12 rfl rfl)
theorem dX0_opKind_13 : decode cX0_opKind 13 = .ok (.iconst 1, 1) := dk_4 (dk_at dksX0_opKind_0 13 rfl rfl)
theorem dX0_opKind_14 : decode cX0_opKind 14 = .ok (.ireturn, 1) := dk_172 (dk_at dksX0_opKind_0 14 rfl rfl)
theorem dX0_opKind_15 : decode cX0_opKind 15 = .ok (.astore_n 3, 1) := dk_78 (dk_at dksX0_opKind_0 15 rfl rfl)
theorem dX0_opKind_16 : decode cX0_opKind 16 = .ok (.iconst 2, 1) := dk_5 (dk_at dksX0_opKind_0 16 rfl rfl)
theorem dX0_opKind_17 : decode cX0_opKind 17 = .ok (.ireturn, 1) := dk_172 (dk_at dksX0_opKind_0 17 rfl rfl)
theorem dX0_opKind_18 : decode cX0_opKind 18 = .ok (.iconst 0, 1) := dk_3 (dk_at dksX0_opKind_0 18 rfl rfl)
theorem dX0_opKind_19 : decode cX0_opKind 19 = .ok (.ireturn, 1) := dk_172 (dk_at dksX0_opKind_0 19 rfl rfl)
abbrev cX0_opNode : ByteArray := method_32_code
def yX0_opNode : MethodName := ⟨RX0, "opNode", "(LTreeDiffer;I[J)I"⟩
def dkwX0_opNode_0 : List UInt8 := [44, 3, 42, 27, 182, 0, 117, 133, 80, 167, 0, 9, 78, 4, 172, 78, 5, 172, 3, 172]
abbrev dktX0_opNode_0 : List UInt8 := dkwX0_opNode_0 ++ []
theorem dksX0_opNode_0 : cX0_opNode.data.toList.drop 0 = dktX0_opNode_0 := by decide +kernel
theorem dX0_opNode_0 : decode cX0_opNode 0 = .ok (.aload_n 2, 1) := dk_44 (dk_at dksX0_opNode_0 0 rfl rfl)
theorem dX0_opNode_1 : decode cX0_opNode 1 = .ok (.iconst 0, 1) := dk_3 (dk_at dksX0_opNode_0 1 rfl rfl)
theorem dX0_opNode_2 : decode cX0_opNode 2 = .ok (.aload_n 0, 1) := dk_42 (dk_at dksX0_opNode_0 2 rfl rfl)
theorem dX0_opNode_3 : decode cX0_opNode 3 = .ok (.iload_n 1, 1) := dk_27 (dk_at dksX0_opNode_0 3 rfl rfl)
theorem dX0_opNode_4 : decode cX0_opNode 4 = .ok (.invokevirtual 117, 3) := dk_182 0 117 (dk_at dksX0_opNode_0 4 rfl rfl)
theorem dX0_opNode_7 : decode cX0_opNode 7 = .ok (.i2l, 1) := dk_133 (dk_at dksX0_opNode_0 7 rfl rfl)
theorem dX0_opNode_8 : decode cX0_opNode 8 = .ok (.lastore, 1) := dk_80 (dk_at dksX0_opNode_0 8 rfl rfl)
theorem dX0_opNode_9 : decode cX0_opNode 9 = .ok (.goto 9, 3) := dk_167 0 9 (dk_at dksX0_opNode_0 9 rfl rfl)
theorem dX0_opNode_12 : decode cX0_opNode 12 = .ok (.astore_n 3, 1) := dk_78 (dk_at dksX0_opNode_0 12 rfl rfl)
theorem dX0_opNode_13 : decode cX0_opNode 13 = .ok (.iconst 1, 1) := dk_4 (dk_at dksX0_opNode_0 13 rfl rfl)
theorem dX0_opNode_14 : decode cX0_opNode 14 = .ok (.ireturn, 1) := dk_172 (dk_at dksX0_opNode_0 14 rfl rfl)
theorem dX0_opNode_15 : decode cX0_opNode 15 = .ok (.astore_n 3, 1) := dk_78 (dk_at dksX0_opNode_0 15 rfl rfl)
theorem dX0_opNode_16 : decode cX0_opNode 16 = .ok (.iconst 2, 1) := dk_5 (dk_at dksX0_opNode_0 16 rfl rfl)
theorem dX0_opNode_17 : decode cX0_opNode 17 = .ok (.ireturn, 1) := dk_172 (dk_at dksX0_opNode_0 17 rfl rfl)
theorem dX0_opNode_18 : decode cX0_opNode 18 = .ok (.iconst 0, 1) := dk_3 (dk_at dksX0_opNode_0 18 rfl rfl)
theorem dX0_opNode_19 : decode cX0_opNode 19 = .ok (.ireturn, 1) := dk_172 (dk_at dksX0_opNode_0 19 rfl rfl)
abbrev cX0_opTarget : ByteArray := method_33_code
def yX0_opTarget : MethodName := ⟨RX0, "opTarget", "(LTreeDiffer;I[J)I"⟩
def dkwX0_opTarget_0 : List UInt8 := [44, 3, 42, 27, 182, 0, 120, 133, 80, 167, 0, 12, 78, 4, 172, 78, 5, 172, 78, 6, 172, 3, 172]
abbrev dktX0_opTarget_0 : List UInt8 := dkwX0_opTarget_0 ++ []
theorem dksX0_opTarget_0 : cX0_opTarget.data.toList.drop 0 = dktX0_opTarget_0 := by decide +kernel
theorem dX0_opTarget_0 : decode cX0_opTarget 0 = .ok (.aload_n 2, 1) := dk_44 (dk_at dksX0_opTarget_0 0 rfl rfl)
theorem dX0_opTarget_1 : decode cX0_opTarget 1 = .ok (.iconst 0, 1) := dk_3 (dk_at dksX0_opTarget_0 1 rfl rfl)
theorem dX0_opTarget_2 : decode cX0_opTarget 2 = .ok (.aload_n 0, 1) := dk_42 (dk_at dksX0_opTarget_0 2 rfl rfl)
theorem dX0_opTarget_3 : decode cX0_opTarget 3 = .ok (.iload_n 1, 1) := dk_27 (dk_at dksX0_opTarget_0 3 rfl rfl)
theorem dX0_opTarget_4 : decode cX0_opTarget 4 = .ok (.invokevirtual 120, 3) := dk_182 0 120 (dk_at dksX0_opTarget_0 4 rfl rfl)
theorem dX0_opTarget_7 : decode cX0_opTarget 7 = .ok (.i2l, 1) := dk_133 (dk_at dksX0_opTarget_0 7 rfl rfl)
theorem dX0_opTarget_8 : decode cX0_opTarget 8 = .ok (.lastore, 1) := dk_80 (dk_at dksX0_opTarget_0 8 rfl rfl)
theorem dX0_opTarget_9 : decode cX0_opTarget 9 = .ok (.goto 12, 3) := dk_167 0 12 (dk_at dksX0_opTarget_0 9 rfl rfl)
theorem dX0_opTarget_12 : decode cX0_opTarget 12 = .ok (.astore_n 3, 1) := dk_78 (dk_at dksX0_opTarget_0 12 rfl rfl)
theorem dX0_opTarget_13 : decode cX0_opTarget 13 = .ok (.iconst 1, 1) := dk_4 (dk_at dksX0_opTarget_0 13 rfl rfl)
theorem dX0_opTarget_14 : decode cX0_opTarget 14 = .ok (.ireturn, 1) := dk_172 (dk_at dksX0_opTarget_0 14 rfl rfl)
theorem dX0_opTarget_15 : decode cX0_opTarget 15 = .ok (.astore_n 3, 1) := dk_78 (dk_at dksX0_opTarget_0 15 rfl rfl)
theorem dX0_opTarget_16 : decode cX0_opTarget 16 = .ok (.iconst 2, 1) := dk_5 (dk_at dksX0_opTarget_0 16 rfl rfl)
theorem dX0_opTarget_17 : decode cX0_opTarget 17 = .ok (.ireturn, 1) := dk_172 (dk_at dksX0_opTarget_0 17 rfl rfl)
theorem dX0_opTarget_18 : decode cX0_opTarget 18 = .ok (.astore_n 3, 1) := dk_78 (dk_at dksX0_opTarget_0 18 rfl rfl)
theorem dX0_opTarget_19 : decode cX0_opTarget 19 = .ok (.iconst 3, 1) := dk_6 (dk_at dksX0_opTarget_0 19 rfl rfl)
theorem dX0_opTarget_20 : decode cX0_opTarget 20 = .ok (.ireturn, 1) := dk_172 (dk_at dksX0_opTarget_0 20 rfl rfl)
theorem dX0_opTarget_21 : decode cX0_opTarget 21 = .ok (.iconst 0, 1) := dk_3 (dk_at dksX0_opTarget_0 21 rfl rfl)
theorem dX0_opTarget_22 : decode cX0_opTarget 22 = .ok (.ireturn, 1) := dk_172 (dk_at dksX0_opTarget_0 22 rfl rfl)
abbrev cX0_partner : ByteArray := method_34_code
def yX0_partner : MethodName := ⟨RX0, "partner", "(LTreeDiffer;I[J)I"⟩
def dkwX0_partner_0 : List UInt8 := [44, 3, 42, 27, 182, 0, 123, 133, 80, 167, 0, 12, 78, 4, 172, 78, 5, 172, 78, 6, 172, 3, 172]
abbrev dktX0_partner_0 : List UInt8 := dkwX0_partner_0 ++ []
theorem dksX0_partner_0 : cX0_partner.data.toList.drop 0 = dktX0_partner_0 := by decide +kernel
theorem dX0_partner_0 : decode cX0_partner 0 = .ok (.aload_n 2, 1) := dk_44 (dk_at dksX0_partner_0 0 rfl rfl)
theorem dX0_partner_1 : decode cX0_partner 1 = .ok (.iconst 0, 1) := dk_3 (dk_at dksX0_partner_0 1 rfl rfl)
theorem dX0_partner_2 : decode cX0_partner 2 = .ok (.aload_n 0, 1) := dk_42 (dk_at dksX0_partner_0 2 rfl rfl)
theorem dX0_partner_3 : decode cX0_partner 3 = .ok (.iload_n 1, 1) := dk_27 (dk_at dksX0_partner_0 3 rfl rfl)
theorem dX0_partner_4 : decode cX0_partner 4 = .ok (.invokevirtual 123, 3) := dk_182 0 123 (dk_at dksX0_partner_0 4 rfl rfl)
theorem dX0_partner_7 : decode cX0_partner 7 = .ok (.i2l, 1) := dk_133 (dk_at dksX0_partner_0 7 rfl rfl)
theorem dX0_partner_8 : decode cX0_partner 8 = .ok (.lastore, 1) := dk_80 (dk_at dksX0_partner_0 8 rfl rfl)
theorem dX0_partner_9 : decode cX0_partner 9 = .ok (.goto 12, 3) := dk_167 0 12 (dk_at dksX0_partner_0 9 rfl rfl)
theorem dX0_partner_12 : decode cX0_partner 12 = .ok (.astore_n 3, 1) := dk_78 (dk_at dksX0_partner_0 12 rfl rfl)
theorem dX0_partner_13 : decode cX0_partner 13 = .ok (.iconst 1, 1) := dk_4 (dk_at dksX0_partner_0 13 rfl rfl)
theorem dX0_partner_14 : decode cX0_partner 14 = .ok (.ireturn, 1) := dk_172 (dk_at dksX0_partner_0 14 rfl rfl)
theorem dX0_partner_15 : decode cX0_partner 15 = .ok (.astore_n 3, 1) := dk_78 (dk_at dksX0_partner_0 15 rfl rfl)
theorem dX0_partner_16 : decode cX0_partner 16 = .ok (.iconst 2, 1) := dk_5 (dk_at dksX0_partner_0 16 rfl rfl)
theorem dX0_partner_17 : decode cX0_partner 17 = .ok (.ireturn, 1) := dk_172 (dk_at dksX0_partner_0 17 rfl rfl)
theorem dX0_partner_18 : decode cX0_partner 18 = .ok (.astore_n 3, 1) := dk_78 (dk_at dksX0_partner_0 18 rfl rfl)
theorem dX0_partner_19 : decode cX0_partner 19 = .ok (.iconst 3, 1) := dk_6 (dk_at dksX0_partner_0 19 rfl rfl)
theorem dX0_partner_20 : decode cX0_partner 20 = .ok (.ireturn, 1) := dk_172 (dk_at dksX0_partner_0 20 rfl rfl)
theorem dX0_partner_21 : decode cX0_partner 21 = .ok (.iconst 0, 1) := dk_3 (dk_at dksX0_partner_0 21 rfl rfl)
theorem dX0_partner_22 : decode cX0_partner 22 = .ok (.ireturn, 1) := dk_172 (dk_at dksX0_partner_0 22 rfl rfl)
abbrev cX0_moves : ByteArray := method_35_code
def yX0_moves : MethodName := ⟨RX0, "moves", "(LTreeDiffer;[J)I"⟩
def dkwX0_moves_0 : List UInt8 := [43, 3, 42, 182, 0, 126, 133, 80, 167, 0, 6, 77, 4, 172, 3, 172]
abbrev dktX0_moves_0 : List UInt8 := dkwX0_moves_0 ++ []
theorem dksX0_moves_0 : cX0_moves.data.toList.drop 0 = dktX0_moves_0 := by decide +kernel
theorem dX0_moves_0 : decode cX0_moves 0 = .ok (.aload_n 1, 1) := dk_43 (dk_at dksX0_moves_0 0 rfl rfl)
theorem dX0_moves_1 : decode cX0_moves 1 = .ok (.iconst 0, 1) := dk_3 (dk_at dksX0_moves_0 1 rfl rfl)
theorem dX0_moves_2 : decode cX0_moves 2 = .ok (.aload_n 0, 1) := dk_42 (dk_at dksX0_moves_0 2 rfl rfl)
theorem dX0_moves_3 : decode cX0_moves 3 = .ok (.invokevirtual 126, 3) := dk_182 0 126 (dk_at dksX0_moves_0 3 rfl rfl)
theorem dX0_moves_6 : decode cX0_moves 6 = .ok (.i2l, 1) := dk_133 (dk_at dksX0_moves_0 6 rfl rfl)
theorem dX0_moves_7 : decode cX0_moves 7 = .ok (.lastore, 1) := dk_80 (dk_at dksX0_moves_0 7 rfl rfl)
theorem dX0_moves_8 : decode cX0_moves 8 = .ok (.goto 6, 3) := dk_167 0 6 (dk_at dksX0_moves_0 8 rfl rfl)
theorem dX0_moves_11 : decode cX0_moves 11 = .ok (.astore_n 2, 1) := dk_77 (dk_at dksX0_moves_0 11 rfl rfl)
theorem dX0_moves_12 : decode cX0_moves 12 = .ok (.iconst 1, 1) := dk_4 (dk_at dksX0_moves_0 12 rfl rfl)
theorem dX0_moves_13 : decode cX0_moves 13 = .ok (.ireturn, 1) := dk_172 (dk_at dksX0_moves_0 13 rfl rfl)
theorem dX0_moves_14 : decode cX0_moves 14 = .ok (.iconst 0, 1) := dk_3 (dk_at dksX0_moves_0 14 rfl rfl)
theorem dX0_moves_15 : decode cX0_moves 15 = .ok (.ireturn, 1) := dk_172 (dk_at dksX0_moves_0 15 rfl rfl)
abbrev cX0_scriptCost : ByteArray := method_36_code
def yX0_scriptCost : MethodName := ⟨RX0, "scriptCost", "(LTreeDiffer;[J)I"⟩
def dkwX0_scriptCost_0 : List UInt8 := [43, 3, 42, 182, 0, 129, 133, 80, 167, 0, 6, 77, 4, 172, 3, 172]
abbrev dktX0_scriptCost_0 : List UInt8 := dkwX0_scriptCost_0 ++ []
theorem dksX0_scriptCost_0 : cX0_scriptCost.data.toList.drop 0 = dktX0_scriptCost_0 := by decide +kernel
theorem dX0_scriptCost_0 : decode cX0_scriptCost 0 = .ok (.aload_n 1, 1) := dk_43 (dk_at dksX0_scriptCost_0 0 rfl rfl)
theorem dX0_scriptCost_1 : decode cX0_scriptCost 1 = .ok (.iconst 0, 1) := dk_3 (dk_at dksX0_scriptCost_0 1 rfl rfl)
theorem dX0_scriptCost_2 : decode cX0_scriptCost 2 = .ok (.aload_n 0, 1) := dk_42 (dk_at dksX0_scriptCost_0 2 rfl rfl)
theorem dX0_scriptCost_3 : decode cX0_scriptCost 3 = .ok (.invokevirtual 129, 3) := dk_182 0 129 (dk_at dksX0_scriptCost_0 3 rfl rfl)
theorem dX0_scriptCost_6 : decode cX0_scriptCost 6 = .ok (.i2l, 1) := dk_133 (dk_at dksX0_scriptCost_0 6 rfl rfl)
theorem dX0_scriptCost_7 : decode cX0_scriptCost 7 = .ok (.lastore, 1) := dk_80 (dk_at dksX0_scriptCost_0 7 rfl rfl)
theorem dX0_scriptCost_8 : decode cX0_scriptCost 8 = .ok (.goto 6, 3) := dk_167 0 6 (dk_at dksX0_scriptCost_0 8 rfl rfl)
theorem dX0_scriptCost_11 : decode cX0_scriptCost 11 = .ok (.astore_n 2, 1) := dk_77 (dk_at dksX0_scriptCost_0 11 rfl rfl)
theorem dX0_scriptCost_12 : decode cX0_scriptCost 12 = .ok (.iconst 1, 1) := dk_4 (dk_at dksX0_scriptCost_0 12 rfl rfl)
theorem dX0_scriptCost_13 : decode cX0_scriptCost 13 = .ok (.ireturn, 1) := dk_172 (dk_at dksX0_scriptCost_0 13 rfl rfl)
theorem dX0_scriptCost_14 : decode cX0_scriptCost 14 = .ok (.iconst 0, 1) := dk_3 (dk_at dksX0_scriptCost_0 14 rfl rfl)
theorem dX0_scriptCost_15 : decode cX0_scriptCost 15 = .ok (.ireturn, 1) := dk_172 (dk_at dksX0_scriptCost_0 15 rfl rfl)
abbrev cX0_givesTarget : ByteArray := method_37_code
def yX0_givesTarget : MethodName := ⟨RX0, "givesTarget", "(LTreeDiffer;[J)I"⟩
def dkwX0_givesTarget_0 : List UInt8 := [43, 3, 42, 182, 0, 132, 153, 0, 7, 10, 167, 0, 4, 9, 80, 167, 0, 6, 77, 4, 172, 3, 172]
abbrev dktX0_givesTarget_0 : List UInt8 := dkwX0_givesTarget_0 ++ []
theorem dksX0_givesTarget_0 : cX0_givesTarget.data.toList.drop 0 = dktX0_givesTarget_0 := by decide +kernel
theorem dX0_givesTarget_0 : decode cX0_givesTarget 0 = .ok (.aload_n 1, 1) := dk_43 (dk_at dksX0_givesTarget_0 0 rfl rfl)
theorem dX0_givesTarget_1 : decode cX0_givesTarget 1 = .ok (.iconst 0, 1) := dk_3 (dk_at dksX0_givesTarget_0 1 rfl rfl)
theorem dX0_givesTarget_2 : decode cX0_givesTarget 2 = .ok (.aload_n 0, 1) := dk_42 (dk_at dksX0_givesTarget_0 2 rfl rfl)
theorem dX0_givesTarget_3 : decode cX0_givesTarget 3 = .ok (.invokevirtual 132, 3) := dk_182 0 132 (dk_at dksX0_givesTarget_0 3 rfl rfl)
theorem dX0_givesTarget_6 : decode cX0_givesTarget 6 = .ok (.ifCond .eq 7, 3) := dk_153 0 7 (dk_at dksX0_givesTarget_0 6 rfl rfl)
theorem dX0_givesTarget_9 : decode cX0_givesTarget 9 = .ok (.lconst 1, 1) := dk_10 (dk_at dksX0_givesTarget_0 9 rfl rfl)
theorem dX0_givesTarget_10 : decode cX0_givesTarget 10 = .ok (.goto 4, 3) := dk_167 0 4 (dk_at dksX0_givesTarget_0 10 rfl rfl)
theorem dX0_givesTarget_13 : decode cX0_givesTarget 13 = .ok (.lconst 0, 1) := dk_9 (dk_at dksX0_givesTarget_0 13 rfl rfl)
theorem dX0_givesTarget_14 : decode cX0_givesTarget 14 = .ok (.lastore, 1) := dk_80 (dk_at dksX0_givesTarget_0 14 rfl rfl)
theorem dX0_givesTarget_15 : decode cX0_givesTarget 15 = .ok (.goto 6, 3) := dk_167 0 6 (dk_at dksX0_givesTarget_0 15 rfl rfl)
theorem dX0_givesTarget_18 : decode cX0_givesTarget 18 = .ok (.astore_n 2, 1) := dk_77 (dk_at dksX0_givesTarget_0 18 rfl rfl)
theorem dX0_givesTarget_19 : decode cX0_givesTarget 19 = .ok (.iconst 1, 1) := dk_4 (dk_at dksX0_givesTarget_0 19 rfl rfl)
theorem dX0_givesTarget_20 : decode cX0_givesTarget 20 = .ok (.ireturn, 1) := dk_172 (dk_at dksX0_givesTarget_0 20 rfl rfl)
theorem dX0_givesTarget_21 : decode cX0_givesTarget 21 = .ok (.iconst 0, 1) := dk_3 (dk_at dksX0_givesTarget_0 21 rfl rfl)
theorem dX0_givesTarget_22 : decode cX0_givesTarget 22 = .ok (.ireturn, 1) := dk_172 (dk_at dksX0_givesTarget_0 22 rfl rfl)
abbrev cX0_patch : ByteArray := method_38_code
def yX0_patch : MethodName := ⟨RX0, "patch", "(LTreeDiffer;I[J)I"⟩
def dkwX0_patch_0 : List UInt8 := [44, 3, 42, 27, 182, 0, 136, 133, 80, 167, 0, 12, 78, 4, 172, 78, 5, 172, 78, 6, 172, 3, 172]
abbrev dktX0_patch_0 : List UInt8 := dkwX0_patch_0 ++ []
theorem dksX0_patch_0 : cX0_patch.data.toList.drop 0 = dktX0_patch_0 := by decide +kernel
theorem dX0_patch_0 : decode cX0_patch 0 = .ok (.aload_n 2, 1) := dk_44 (dk_at dksX0_patch_0 0 rfl rfl)
theorem dX0_patch_1 : decode cX0_patch 1 = .ok (.iconst 0, 1) := dk_3 (dk_at dksX0_patch_0 1 rfl rfl)
theorem dX0_patch_2 : decode cX0_patch 2 = .ok (.aload_n 0, 1) := dk_42 (dk_at dksX0_patch_0 2 rfl rfl)
theorem dX0_patch_3 : decode cX0_patch 3 = .ok (.iload_n 1, 1) := dk_27 (dk_at dksX0_patch_0 3 rfl rfl)
theorem dX0_patch_4 : decode cX0_patch 4 = .ok (.invokevirtual 136, 3) := dk_182 0 136 (dk_at dksX0_patch_0 4 rfl rfl)
theorem dX0_patch_7 : decode cX0_patch 7 = .ok (.i2l, 1) := dk_133 (dk_at dksX0_patch_0 7 rfl rfl)
theorem dX0_patch_8 : decode cX0_patch 8 = .ok (.lastore, 1) := dk_80 (dk_at dksX0_patch_0 8 rfl rfl)
theorem dX0_patch_9 : decode cX0_patch 9 = .ok (.goto 12, 3) := dk_167 0 12 (dk_at dksX0_patch_0 9 rfl rfl)
theorem dX0_patch_12 : decode cX0_patch 12 = .ok (.astore_n 3, 1) := dk_78 (dk_at dksX0_patch_0 12 rfl rfl)
theorem dX0_patch_13 : decode cX0_patch 13 = .ok (.iconst 1, 1) := dk_4 (dk_at dksX0_patch_0 13 rfl rfl)
theorem dX0_patch_14 : decode cX0_patch 14 = .ok (.ireturn, 1) := dk_172 (dk_at dksX0_patch_0 14 rfl rfl)
theorem dX0_patch_15 : decode cX0_patch 15 = .ok (.astore_n 3, 1) := dk_78 (dk_at dksX0_patch_0 15 rfl rfl)
theorem dX0_patch_16 : decode cX0_patch 16 = .ok (.iconst 2, 1) := dk_5 (dk_at dksX0_patch_0 16 rfl rfl)
theorem dX0_patch_17 : decode cX0_patch 17 = .ok (.ireturn, 1) := dk_172 (dk_at dksX0_patch_0 17 rfl rfl)
theorem dX0_patch_18 : decode cX0_patch 18 = .ok (.astore_n 3, 1) := dk_78 (dk_at dksX0_patch_0 18 rfl rfl)
theorem dX0_patch_19 : decode cX0_patch 19 = .ok (.iconst 3, 1) := dk_6 (dk_at dksX0_patch_0 19 rfl rfl)
theorem dX0_patch_20 : decode cX0_patch 20 = .ok (.ireturn, 1) := dk_172 (dk_at dksX0_patch_0 20 rfl rfl)
theorem dX0_patch_21 : decode cX0_patch 21 = .ok (.iconst 0, 1) := dk_3 (dk_at dksX0_patch_0 21 rfl rfl)
theorem dX0_patch_22 : decode cX0_patch 22 = .ok (.ireturn, 1) := dk_172 (dk_at dksX0_patch_0 22 rfl rfl)
abbrev cX0_conflictOperation : ByteArray := method_39_code
def yX0_conflictOperation : MethodName := ⟨RX0, "conflictOperation", "(LTreeDiffer;[J)I"⟩
def dkwX0_conflictOperation_0 : List UInt8 := [43, 3, 42, 182, 0, 139, 133, 80, 167, 0, 6, 77, 4, 172, 3, 172]
abbrev dktX0_conflictOperation_0 : List UInt8 := dkwX0_conflictOperation_0 ++ []
theorem dksX0_conflictOperation_0 : cX0_conflictOperation.data.toList.drop 0 = dktX0_conflictOperation_0 := by decide +kernel
theorem dX0_conflictOperation_0 : decode cX0_conflictOperation 0 = .ok (.aload_n 1, 1) := dk_43 (dk_at dksX0_conflictOperation_0 0 rfl rfl)
theorem dX0_conflictOperation_1 : decode cX0_conflictOperation 1 = .ok (.iconst 0, 1) := dk_3 (dk_at dksX0_conflictOperation_0 1 rfl rfl)
theorem dX0_conflictOperation_2 : decode cX0_conflictOperation 2 = .ok (.aload_n 0, 1) := dk_42 (dk_at dksX0_conflictOperation_0 2 rfl rfl)
theorem dX0_conflictOperation_3 : decode cX0_conflictOperation 3 = .ok (.invokevirtual 139, 3) := dk_182 0 139 (dk_at dksX0_conflictOperation_0 3 rfl rfl)
theorem dX0_conflictOperation_6 : decode cX0_conflictOperation 6 = .ok (.i2l, 1) := dk_133 (dk_at dksX0_conflictOperation_0 6 rfl rfl)
theorem dX0_conflictOperation_7 : decode cX0_conflictOperation 7 = .ok (.lastore, 1) := dk_80 (dk_at dksX0_conflictOperation_0 7 rfl rfl)
theorem dX0_conflictOperation_8 : decode cX0_conflictOperation 8 = .ok (.goto 6, 3) := dk_167 0 6 (dk_at dksX0_conflictOperation_0 8 rfl rfl)
theorem dX0_conflictOperation_11 : decode cX0_conflictOperation 11 = .ok (.astore_n 2, 1) := dk_77 (dk_at dksX0_conflictOperation_0 11 rfl rfl)
theorem dX0_conflictOperation_12 : decode cX0_conflictOperation 12 = .ok (.iconst 1, 1) := dk_4 (dk_at dksX0_conflictOperation_0 12 rfl rfl)
theorem dX0_conflictOperation_13 : decode cX0_conflictOperation 13 = .ok (.ireturn, 1) := dk_172 (dk_at dksX0_conflictOperation_0 13 rfl rfl)
theorem dX0_conflictOperation_14 : decode cX0_conflictOperation 14 = .ok (.iconst 0, 1) := dk_3 (dk_at dksX0_conflictOperation_0 14 rfl rfl)
theorem dX0_conflictOperation_15 : decode cX0_conflictOperation 15 = .ok (.ireturn, 1) := dk_172 (dk_at dksX0_conflictOperation_0 15 rfl rfl)
abbrev cX0_conflictReason : ByteArray := method_40_code
def yX0_conflictReason : MethodName := ⟨RX0, "conflictReason", "(LTreeDiffer;[J)I"⟩
def dkwX0_conflictReason_0 : List UInt8 := [43, 3, 42, 182, 0, 142, 133, 80, 167, 0, 6, 77, 4, 172, 3, 172]
abbrev dktX0_conflictReason_0 : List UInt8 := dkwX0_conflictReason_0 ++ []
theorem dksX0_conflictReason_0 : cX0_conflictReason.data.toList.drop 0 = dktX0_conflictReason_0 := by decide +kernel
theorem dX0_conflictReason_0 : decode cX0_conflictReason 0 = .ok (.aload_n 1, 1) := dk_43 (dk_at dksX0_conflictReason_0 0 rfl rfl)
theorem dX0_conflictReason_1 : decode cX0_conflictReason 1 = .ok (.iconst 0, 1) := dk_3 (dk_at dksX0_conflictReason_0 1 rfl rfl)
theorem dX0_conflictReason_2 : decode cX0_conflictReason 2 = .ok (.aload_n 0, 1) := dk_42 (dk_at dksX0_conflictReason_0 2 rfl rfl)
theorem dX0_conflictReason_3 : decode cX0_conflictReason 3 = .ok (.invokevirtual 142, 3) := dk_182 0 142 (dk_at dksX0_conflictReason_0 3 rfl rfl)
theorem dX0_conflictReason_6 : decode cX0_conflictReason 6 = .ok (.i2l, 1) := dk_133 (dk_at dksX0_conflictReason_0 6 rfl rfl)
theorem dX0_conflictReason_7 : decode cX0_conflictReason 7 = .ok (.lastore, 1) := dk_80 (dk_at dksX0_conflictReason_0 7 rfl rfl)
theorem dX0_conflictReason_8 : decode cX0_conflictReason 8 = .ok (.goto 6, 3) := dk_167 0 6 (dk_at dksX0_conflictReason_0 8 rfl rfl)
theorem dX0_conflictReason_11 : decode cX0_conflictReason 11 = .ok (.astore_n 2, 1) := dk_77 (dk_at dksX0_conflictReason_0 11 rfl rfl)
theorem dX0_conflictReason_12 : decode cX0_conflictReason 12 = .ok (.iconst 1, 1) := dk_4 (dk_at dksX0_conflictReason_0 12 rfl rfl)
theorem dX0_conflictReason_13 : decode cX0_conflictReason 13 = .ok (.ireturn, 1) := dk_172 (dk_at dksX0_conflictReason_0 13 rfl rfl)
theorem dX0_conflictReason_14 : decode cX0_conflictReason 14 = .ok (.iconst 0, 1) := dk_3 (dk_at dksX0_conflictReason_0 14 rfl rfl)
theorem dX0_conflictReason_15 : decode cX0_conflictReason 15 = .ok (.ireturn, 1) := dk_172 (dk_at dksX0_conflictReason_0 15 rfl rfl)
theorem q63 : (Jvm.Cond.initialized "TreeDifferLaw") ∈ lw_all := lw_g (lw_at lw_m1 0 rfl) rfl
theorem q113 : (Jvm.Cond.classLink "TreeDifferLaw" (8 : Nat) "TreeDiffer") ∈ lw_all := lw_g (lw_at lw_m1 50 rfl) rfl
theorem q115 : (Jvm.Cond.methodLink "TreeDifferLaw" (146 : Nat) ({ cls := "TreeDiffer", name := "<init>", desc := "()V" } : Jvm.MethodName)) ∈ lw_all := lw_g (lw_at lw_m1 52 rfl) rfl
theorem q266 : (Jvm.Cond.methodLink "TreeDifferLaw" (278 : Nat) ({ cls := "TreeDiffer", name := "isConsistent", desc := "()Z" } : Jvm.MethodName)) ∈ lw_all := lw_g (lw_at lw_m1 203 rfl) rfl
theorem q1354 : (Jvm.Cond.methodLink "TreeDifferLaw" (150 : Nat) ({ cls := "TreeDifferLaw", name := "type", desc := "(LTreeDiffer;C[J)I" } : Jvm.MethodName)) ∈ lw_all := lw_g (lw_at lw_m6 91 rfl) rfl
theorem q1355 : (Jvm.Cond.static ({ cls := "TreeDifferLaw", name := "type", desc := "(LTreeDiffer;C[J)I" } : Jvm.MethodName)) ∈ lw_all := lw_g (lw_at lw_m6 92 rfl) rfl
theorem q1356 : (Jvm.Cond.codeWith ({ cls := "TreeDifferLaw", name := "type", desc := "(LTreeDiffer;C[J)I" } : Jvm.MethodName) method_3_code (4 : Nat) (Option.some Jvm.ClassFile.FieldType.int) [((0 : Nat), (9 : Nat), (12 : Nat), (13 : Nat))]) ∈ lw_all := lw_g (lw_at lw_m6 93 rfl) rfl
theorem q1357 : (Jvm.Cond.classLink "TreeDifferLaw" (13 : Nat) "java/lang/IllegalStateException") ∈ lw_all := lw_g (lw_at lw_m6 94 rfl) rfl
theorem q1358 : (Jvm.Cond.methodLink "TreeDifferLaw" (7 : Nat) ({ cls := "TreeDiffer", name := "type", desc := "(C)I" } : Jvm.MethodName)) ∈ lw_all := lw_g (lw_at lw_m6 95 rfl) rfl
theorem q1391 : (Jvm.Cond.methodLink "TreeDifferLaw" (159 : Nat) ({ cls := "TreeDifferLaw", name := "read", desc := "(LTreeDiffer;I[J)I" } : Jvm.MethodName)) ∈ lw_all := lw_g (lw_at lw_m6 128 rfl) rfl
theorem q1392 : (Jvm.Cond.static ({ cls := "TreeDifferLaw", name := "read", desc := "(LTreeDiffer;I[J)I" } : Jvm.MethodName)) ∈ lw_all := lw_g (lw_at lw_m6 129 rfl) rfl
theorem q1393 : (Jvm.Cond.codeWith ({ cls := "TreeDifferLaw", name := "read", desc := "(LTreeDiffer;I[J)I" } : Jvm.MethodName) method_4_code (4 : Nat) (Option.some Jvm.ClassFile.FieldType.int) [((0 : Nat), (9 : Nat), (12 : Nat), (19 : Nat)), ((0 : Nat), (9 : Nat), (15 : Nat), (21 : Nat))]) ∈ lw_all := lw_g (lw_at lw_m6 130 rfl) rfl
theorem q1394 : (Jvm.Cond.classLink "TreeDifferLaw" (19 : Nat) "java/lang/IndexOutOfBoundsException") ∈ lw_all := lw_g (lw_at lw_m6 131 rfl) rfl
theorem q1410 : (Jvm.Cond.classLink "TreeDifferLaw" (21 : Nat) "java/lang/IllegalArgumentException") ∈ lw_all := lw_g (lw_at lw_m6 147 rfl) rfl
theorem q1411 : (Jvm.Cond.methodLink "TreeDifferLaw" (15 : Nat) ({ cls := "TreeDiffer", name := "read", desc := "(I)I" } : Jvm.MethodName)) ∈ lw_all := lw_g (lw_at lw_m6 148 rfl) rfl
theorem q1561 : (Jvm.Cond.methodLink "TreeDifferLaw" (163 : Nat) ({ cls := "TreeDifferLaw", name := "errorPosition", desc := "(LTreeDiffer;[J)I" } : Jvm.MethodName)) ∈ lw_all := lw_g (lw_at lw_m7 58 rfl) rfl
theorem q1562 : (Jvm.Cond.static ({ cls := "TreeDifferLaw", name := "errorPosition", desc := "(LTreeDiffer;[J)I" } : Jvm.MethodName)) ∈ lw_all := lw_g (lw_at lw_m7 59 rfl) rfl
theorem q1563 : (Jvm.Cond.codeWith ({ cls := "TreeDifferLaw", name := "errorPosition", desc := "(LTreeDiffer;[J)I" } : Jvm.MethodName) method_5_code (3 : Nat) (Option.some Jvm.ClassFile.FieldType.int) [((0 : Nat), (8 : Nat), (11 : Nat), (27 : Nat))]) ∈ lw_all := lw_g (lw_at lw_m7 60 rfl) rfl
theorem q1564 : (Jvm.Cond.classLink "TreeDifferLaw" (27 : Nat) "java/util/NoSuchElementException") ∈ lw_all := lw_g (lw_at lw_m7 61 rfl) rfl
theorem q1565 : (Jvm.Cond.methodLink "TreeDifferLaw" (23 : Nat) ({ cls := "TreeDiffer", name := "errorPosition", desc := "()I" } : Jvm.MethodName)) ∈ lw_all := lw_g (lw_at lw_m7 62 rfl) rfl
theorem q1574 : (Jvm.Cond.methodLink "TreeDifferLaw" (167 : Nat) ({ cls := "TreeDifferLaw", name := "writeTree", desc := "(LTreeDiffer;I[J)I" } : Jvm.MethodName)) ∈ lw_all := lw_g (lw_at lw_m7 71 rfl) rfl
theorem q1575 : (Jvm.Cond.static ({ cls := "TreeDifferLaw", name := "writeTree", desc := "(LTreeDiffer;I[J)I" } : Jvm.MethodName)) ∈ lw_all := lw_g (lw_at lw_m7 72 rfl) rfl
theorem q1576 : (Jvm.Cond.codeWith ({ cls := "TreeDifferLaw", name := "writeTree", desc := "(LTreeDiffer;I[J)I" } : Jvm.MethodName) method_6_code (4 : Nat) (Option.some Jvm.ClassFile.FieldType.int) [((0 : Nat), (9 : Nat), (12 : Nat), (19 : Nat))]) ∈ lw_all := lw_g (lw_at lw_m7 73 rfl) rfl
theorem q1577 : (Jvm.Cond.methodLink "TreeDifferLaw" (29 : Nat) ({ cls := "TreeDiffer", name := "writeTree", desc := "(I)I" } : Jvm.MethodName)) ∈ lw_all := lw_g (lw_at lw_m7 74 rfl) rfl
theorem q1594 : (Jvm.Cond.methodLink "TreeDifferLaw" (170 : Nat) ({ cls := "TreeDifferLaw", name := "writeScript", desc := "(LTreeDiffer;[J)I" } : Jvm.MethodName)) ∈ lw_all := lw_g (lw_at lw_m7 91 rfl) rfl
theorem q1595 : (Jvm.Cond.static ({ cls := "TreeDifferLaw", name := "writeScript", desc := "(LTreeDiffer;[J)I" } : Jvm.MethodName)) ∈ lw_all := lw_g (lw_at lw_m7 92 rfl) rfl
theorem q1596 : (Jvm.Cond.codeWith ({ cls := "TreeDifferLaw", name := "writeScript", desc := "(LTreeDiffer;[J)I" } : Jvm.MethodName) method_7_code (3 : Nat) (Option.some Jvm.ClassFile.FieldType.int) [((0 : Nat), (8 : Nat), (11 : Nat), (13 : Nat))]) ∈ lw_all := lw_g (lw_at lw_m7 93 rfl) rfl
theorem q1597 : (Jvm.Cond.methodLink "TreeDifferLaw" (32 : Nat) ({ cls := "TreeDiffer", name := "writeScript", desc := "()I" } : Jvm.MethodName)) ∈ lw_all := lw_g (lw_at lw_m7 94 rfl) rfl
theorem q1627 : (Jvm.Cond.methodLink "TreeDifferLaw" (173 : Nat) ({ cls := "TreeDifferLaw", name := "charAt", desc := "(LTreeDiffer;I[J)I" } : Jvm.MethodName)) ∈ lw_all := lw_g (lw_at lw_m7 124 rfl) rfl
theorem q1628 : (Jvm.Cond.static ({ cls := "TreeDifferLaw", name := "charAt", desc := "(LTreeDiffer;I[J)I" } : Jvm.MethodName)) ∈ lw_all := lw_g (lw_at lw_m7 125 rfl) rfl
theorem q1629 : (Jvm.Cond.codeWith ({ cls := "TreeDifferLaw", name := "charAt", desc := "(LTreeDiffer;I[J)I" } : Jvm.MethodName) method_8_code (4 : Nat) (Option.some Jvm.ClassFile.FieldType.int) [((0 : Nat), (9 : Nat), (12 : Nat), (19 : Nat))]) ∈ lw_all := lw_g (lw_at lw_m7 126 rfl) rfl
theorem q1630 : (Jvm.Cond.methodLink "TreeDifferLaw" (35 : Nat) ({ cls := "TreeDiffer", name := "charAt", desc := "(I)C" } : Jvm.MethodName)) ∈ lw_all := lw_g (lw_at lw_m7 127 rfl) rfl
theorem q1635 : (Jvm.Cond.methodLink "TreeDifferLaw" (176 : Nat) ({ cls := "TreeDifferLaw", name := "addNode", desc := "(LTreeDiffer;IIIC[J)I" } : Jvm.MethodName)) ∈ lw_all := lw_g (lw_at lw_m7 132 rfl) rfl
theorem q1636 : (Jvm.Cond.static ({ cls := "TreeDifferLaw", name := "addNode", desc := "(LTreeDiffer;IIIC[J)I" } : Jvm.MethodName)) ∈ lw_all := lw_g (lw_at lw_m7 133 rfl) rfl
theorem q1637 : (Jvm.Cond.codeWith ({ cls := "TreeDifferLaw", name := "addNode", desc := "(LTreeDiffer;IIIC[J)I" } : Jvm.MethodName) method_9_code (7 : Nat) (Option.some Jvm.ClassFile.FieldType.int) [((0 : Nat), (14 : Nat), (17 : Nat), (19 : Nat)), ((0 : Nat), (14 : Nat), (21 : Nat), (21 : Nat)), ((0 : Nat), (14 : Nat), (25 : Nat), (13 : Nat))]) ∈ lw_all := lw_g (lw_at lw_m7 134 rfl) rfl
theorem q1638 : (Jvm.Cond.methodLink "TreeDifferLaw" (39 : Nat) ({ cls := "TreeDiffer", name := "addNode", desc := "(IIIC)I" } : Jvm.MethodName)) ∈ lw_all := lw_g (lw_at lw_m7 135 rfl) rfl
theorem q1654 : (Jvm.Cond.methodLink "TreeDifferLaw" (180 : Nat) ({ cls := "TreeDifferLaw", name := "removeNode", desc := "(LTreeDiffer;II[J)I" } : Jvm.MethodName)) ∈ lw_all := lw_g (lw_at lw_m7 151 rfl) rfl
theorem q1655 : (Jvm.Cond.static ({ cls := "TreeDifferLaw", name := "removeNode", desc := "(LTreeDiffer;II[J)I" } : Jvm.MethodName)) ∈ lw_all := lw_g (lw_at lw_m7 152 rfl) rfl
theorem q1656 : (Jvm.Cond.codeWith ({ cls := "TreeDifferLaw", name := "removeNode", desc := "(LTreeDiffer;II[J)I" } : Jvm.MethodName) method_10_code (5 : Nat) (Option.some Jvm.ClassFile.FieldType.int) [((0 : Nat), (10 : Nat), (13 : Nat), (19 : Nat)), ((0 : Nat), (10 : Nat), (17 : Nat), (47 : Nat))]) ∈ lw_all := lw_g (lw_at lw_m7 153 rfl) rfl
theorem q1657 : (Jvm.Cond.classLink "TreeDifferLaw" (47 : Nat) "java/lang/UnsupportedOperationException") ∈ lw_all := lw_g (lw_at lw_m7 154 rfl) rfl
theorem q1658 : (Jvm.Cond.methodLink "TreeDifferLaw" (43 : Nat) ({ cls := "TreeDiffer", name := "removeNode", desc := "(II)I" } : Jvm.MethodName)) ∈ lw_all := lw_g (lw_at lw_m7 155 rfl) rfl
theorem q1681 : (Jvm.Cond.methodLink "TreeDifferLaw" (184 : Nat) ({ cls := "TreeDifferLaw", name := "setLabel", desc := "(LTreeDiffer;IIC[J)I" } : Jvm.MethodName)) ∈ lw_all := lw_g (lw_at lw_m7 178 rfl) rfl
theorem q1682 : (Jvm.Cond.static ({ cls := "TreeDifferLaw", name := "setLabel", desc := "(LTreeDiffer;IIC[J)I" } : Jvm.MethodName)) ∈ lw_all := lw_g (lw_at lw_m7 179 rfl) rfl
theorem q1683 : (Jvm.Cond.codeWith ({ cls := "TreeDifferLaw", name := "setLabel", desc := "(LTreeDiffer;IIC[J)I" } : Jvm.MethodName) method_11_code (6 : Nat) (Option.some Jvm.ClassFile.FieldType.int) [((0 : Nat), (12 : Nat), (15 : Nat), (19 : Nat)), ((0 : Nat), (12 : Nat), (19 : Nat), (21 : Nat))]) ∈ lw_all := lw_g (lw_at lw_m7 180 rfl) rfl
theorem q1684 : (Jvm.Cond.methodLink "TreeDifferLaw" (49 : Nat) ({ cls := "TreeDiffer", name := "setLabel", desc := "(IIC)I" } : Jvm.MethodName)) ∈ lw_all := lw_g (lw_at lw_m7 181 rfl) rfl
theorem q1689 : (Jvm.Cond.methodLink "TreeDifferLaw" (188 : Nat) ({ cls := "TreeDifferLaw", name := "setKey", desc := "(LTreeDiffer;III[J)I" } : Jvm.MethodName)) ∈ lw_all := lw_g (lw_at lw_m7 186 rfl) rfl
theorem q1690 : (Jvm.Cond.static ({ cls := "TreeDifferLaw", name := "setKey", desc := "(LTreeDiffer;III[J)I" } : Jvm.MethodName)) ∈ lw_all := lw_g (lw_at lw_m7 187 rfl) rfl
theorem q1691 : (Jvm.Cond.codeWith ({ cls := "TreeDifferLaw", name := "setKey", desc := "(LTreeDiffer;III[J)I" } : Jvm.MethodName) method_12_code (6 : Nat) (Option.some Jvm.ClassFile.FieldType.int) [((0 : Nat), (12 : Nat), (15 : Nat), (19 : Nat)), ((0 : Nat), (12 : Nat), (19 : Nat), (21 : Nat)), ((0 : Nat), (12 : Nat), (23 : Nat), (47 : Nat)), ((0 : Nat), (12 : Nat), (27 : Nat), (13 : Nat))]) ∈ lw_all := lw_g (lw_at lw_m7 188 rfl) rfl
theorem q1692 : (Jvm.Cond.methodLink "TreeDifferLaw" (53 : Nat) ({ cls := "TreeDiffer", name := "setKey", desc := "(III)I" } : Jvm.MethodName)) ∈ lw_all := lw_g (lw_at lw_m7 189 rfl) rfl
theorem q1701 : (Jvm.Cond.methodLink "TreeDifferLaw" (192 : Nat) ({ cls := "TreeDifferLaw", name := "setValue", desc := "(LTreeDiffer;III[J)I" } : Jvm.MethodName)) ∈ lw_all := lw_g (lw_at lw_m7 198 rfl) rfl
theorem q1702 : (Jvm.Cond.static ({ cls := "TreeDifferLaw", name := "setValue", desc := "(LTreeDiffer;III[J)I" } : Jvm.MethodName)) ∈ lw_all := lw_g (lw_at lw_m7 199 rfl) rfl
theorem q1703 : (Jvm.Cond.codeWith ({ cls := "TreeDifferLaw", name := "setValue", desc := "(LTreeDiffer;III[J)I" } : Jvm.MethodName) method_13_code (6 : Nat) (Option.some Jvm.ClassFile.FieldType.int) [((0 : Nat), (12 : Nat), (15 : Nat), (19 : Nat)), ((0 : Nat), (12 : Nat), (19 : Nat), (21 : Nat))]) ∈ lw_all := lw_g (lw_at lw_m7 200 rfl) rfl
theorem q1704 : (Jvm.Cond.methodLink "TreeDifferLaw" (57 : Nat) ({ cls := "TreeDiffer", name := "setValue", desc := "(III)I" } : Jvm.MethodName)) ∈ lw_all := lw_g (lw_at lw_m7 201 rfl) rfl
theorem q1708 : (Jvm.Cond.methodLink "TreeDifferLaw" (195 : Nat) ({ cls := "TreeDifferLaw", name := "copyTree", desc := "(LTreeDiffer;II[J)I" } : Jvm.MethodName)) ∈ lw_all := lw_g (lw_at lw_m7 205 rfl) rfl
theorem q1709 : (Jvm.Cond.static ({ cls := "TreeDifferLaw", name := "copyTree", desc := "(LTreeDiffer;II[J)I" } : Jvm.MethodName)) ∈ lw_all := lw_g (lw_at lw_m7 206 rfl) rfl
theorem q1710 : (Jvm.Cond.codeWith ({ cls := "TreeDifferLaw", name := "copyTree", desc := "(LTreeDiffer;II[J)I" } : Jvm.MethodName) method_14_code (5 : Nat) (Option.some Jvm.ClassFile.FieldType.int) [((0 : Nat), (10 : Nat), (13 : Nat), (19 : Nat))]) ∈ lw_all := lw_g (lw_at lw_m7 207 rfl) rfl
theorem q1711 : (Jvm.Cond.methodLink "TreeDifferLaw" (60 : Nat) ({ cls := "TreeDiffer", name := "copyTree", desc := "(II)I" } : Jvm.MethodName)) ∈ lw_all := lw_g (lw_at lw_m7 208 rfl) rfl
theorem q1716 : (Jvm.Cond.methodLink "TreeDifferLaw" (198 : Nat) ({ cls := "TreeDifferLaw", name := "size", desc := "(LTreeDiffer;I[J)I" } : Jvm.MethodName)) ∈ lw_all := lw_g (lw_at lw_m7 213 rfl) rfl
theorem q1717 : (Jvm.Cond.static ({ cls := "TreeDifferLaw", name := "size", desc := "(LTreeDiffer;I[J)I" } : Jvm.MethodName)) ∈ lw_all := lw_g (lw_at lw_m7 214 rfl) rfl
theorem q1718 : (Jvm.Cond.codeWith ({ cls := "TreeDifferLaw", name := "size", desc := "(LTreeDiffer;I[J)I" } : Jvm.MethodName) method_15_code (4 : Nat) (Option.some Jvm.ClassFile.FieldType.int) [((0 : Nat), (9 : Nat), (12 : Nat), (19 : Nat))]) ∈ lw_all := lw_g (lw_at lw_m7 215 rfl) rfl
theorem q1719 : (Jvm.Cond.methodLink "TreeDifferLaw" (63 : Nat) ({ cls := "TreeDiffer", name := "size", desc := "(I)I" } : Jvm.MethodName)) ∈ lw_all := lw_g (lw_at lw_m7 216 rfl) rfl
theorem q1723 : (Jvm.Cond.methodLink "TreeDifferLaw" (201 : Nat) ({ cls := "TreeDifferLaw", name := "label", desc := "(LTreeDiffer;II[J)I" } : Jvm.MethodName)) ∈ lw_all := lw_g (lw_at lw_m7 220 rfl) rfl
theorem q1724 : (Jvm.Cond.static ({ cls := "TreeDifferLaw", name := "label", desc := "(LTreeDiffer;II[J)I" } : Jvm.MethodName)) ∈ lw_all := lw_g (lw_at lw_m7 221 rfl) rfl
theorem q1725 : (Jvm.Cond.codeWith ({ cls := "TreeDifferLaw", name := "label", desc := "(LTreeDiffer;II[J)I" } : Jvm.MethodName) method_16_code (5 : Nat) (Option.some Jvm.ClassFile.FieldType.int) [((0 : Nat), (10 : Nat), (13 : Nat), (19 : Nat))]) ∈ lw_all := lw_g (lw_at lw_m7 222 rfl) rfl
theorem q1726 : (Jvm.Cond.methodLink "TreeDifferLaw" (66 : Nat) ({ cls := "TreeDiffer", name := "label", desc := "(II)C" } : Jvm.MethodName)) ∈ lw_all := lw_g (lw_at lw_m7 223 rfl) rfl
theorem q1730 : (Jvm.Cond.methodLink "TreeDifferLaw" (204 : Nat) ({ cls := "TreeDifferLaw", name := "key", desc := "(LTreeDiffer;II[J)I" } : Jvm.MethodName)) ∈ lw_all := lw_g (lw_at lw_m7 227 rfl) rfl
theorem q1731 : (Jvm.Cond.static ({ cls := "TreeDifferLaw", name := "key", desc := "(LTreeDiffer;II[J)I" } : Jvm.MethodName)) ∈ lw_all := lw_g (lw_at lw_m7 228 rfl) rfl
theorem q1732 : (Jvm.Cond.codeWith ({ cls := "TreeDifferLaw", name := "key", desc := "(LTreeDiffer;II[J)I" } : Jvm.MethodName) method_17_code (5 : Nat) (Option.some Jvm.ClassFile.FieldType.int) [((0 : Nat), (10 : Nat), (13 : Nat), (19 : Nat))]) ∈ lw_all := lw_g (lw_at lw_m7 229 rfl) rfl
theorem q1733 : (Jvm.Cond.methodLink "TreeDifferLaw" (70 : Nat) ({ cls := "TreeDiffer", name := "key", desc := "(II)I" } : Jvm.MethodName)) ∈ lw_all := lw_g (lw_at lw_m7 230 rfl) rfl
theorem q1737 : (Jvm.Cond.methodLink "TreeDifferLaw" (207 : Nat) ({ cls := "TreeDifferLaw", name := "value", desc := "(LTreeDiffer;II[J)I" } : Jvm.MethodName)) ∈ lw_all := lw_g (lw_at lw_m7 234 rfl) rfl
theorem q1738 : (Jvm.Cond.static ({ cls := "TreeDifferLaw", name := "value", desc := "(LTreeDiffer;II[J)I" } : Jvm.MethodName)) ∈ lw_all := lw_g (lw_at lw_m7 235 rfl) rfl
theorem q1739 : (Jvm.Cond.codeWith ({ cls := "TreeDifferLaw", name := "value", desc := "(LTreeDiffer;II[J)I" } : Jvm.MethodName) method_18_code (5 : Nat) (Option.some Jvm.ClassFile.FieldType.int) [((0 : Nat), (10 : Nat), (13 : Nat), (19 : Nat))]) ∈ lw_all := lw_g (lw_at lw_m7 236 rfl) rfl
theorem q1740 : (Jvm.Cond.methodLink "TreeDifferLaw" (73 : Nat) ({ cls := "TreeDiffer", name := "value", desc := "(II)I" } : Jvm.MethodName)) ∈ lw_all := lw_g (lw_at lw_m7 237 rfl) rfl
theorem q1744 : (Jvm.Cond.methodLink "TreeDifferLaw" (210 : Nat) ({ cls := "TreeDifferLaw", name := "children", desc := "(LTreeDiffer;II[J)I" } : Jvm.MethodName)) ∈ lw_all := lw_g (lw_at lw_m8 1 rfl) rfl
theorem q1745 : (Jvm.Cond.static ({ cls := "TreeDifferLaw", name := "children", desc := "(LTreeDiffer;II[J)I" } : Jvm.MethodName)) ∈ lw_all := lw_g (lw_at lw_m8 2 rfl) rfl
theorem q1746 : (Jvm.Cond.codeWith ({ cls := "TreeDifferLaw", name := "children", desc := "(LTreeDiffer;II[J)I" } : Jvm.MethodName) method_19_code (5 : Nat) (Option.some Jvm.ClassFile.FieldType.int) [((0 : Nat), (10 : Nat), (13 : Nat), (19 : Nat))]) ∈ lw_all := lw_g (lw_at lw_m8 3 rfl) rfl
theorem q1747 : (Jvm.Cond.methodLink "TreeDifferLaw" (76 : Nat) ({ cls := "TreeDiffer", name := "children", desc := "(II)I" } : Jvm.MethodName)) ∈ lw_all := lw_g (lw_at lw_m8 4 rfl) rfl
theorem q1751 : (Jvm.Cond.methodLink "TreeDifferLaw" (213 : Nat) ({ cls := "TreeDifferLaw", name := "parent", desc := "(LTreeDiffer;II[J)I" } : Jvm.MethodName)) ∈ lw_all := lw_g (lw_at lw_m8 8 rfl) rfl
theorem q1752 : (Jvm.Cond.static ({ cls := "TreeDifferLaw", name := "parent", desc := "(LTreeDiffer;II[J)I" } : Jvm.MethodName)) ∈ lw_all := lw_g (lw_at lw_m8 9 rfl) rfl
theorem q1753 : (Jvm.Cond.codeWith ({ cls := "TreeDifferLaw", name := "parent", desc := "(LTreeDiffer;II[J)I" } : Jvm.MethodName) method_20_code (5 : Nat) (Option.some Jvm.ClassFile.FieldType.int) [((0 : Nat), (10 : Nat), (13 : Nat), (19 : Nat)), ((0 : Nat), (10 : Nat), (17 : Nat), (27 : Nat))]) ∈ lw_all := lw_g (lw_at lw_m8 10 rfl) rfl
theorem q1754 : (Jvm.Cond.methodLink "TreeDifferLaw" (79 : Nat) ({ cls := "TreeDiffer", name := "parent", desc := "(II)I" } : Jvm.MethodName)) ∈ lw_all := lw_g (lw_at lw_m8 11 rfl) rfl
theorem q1758 : (Jvm.Cond.methodLink "TreeDifferLaw" (216 : Nat) ({ cls := "TreeDifferLaw", name := "subtreeSize", desc := "(LTreeDiffer;II[J)I" } : Jvm.MethodName)) ∈ lw_all := lw_g (lw_at lw_m8 15 rfl) rfl
theorem q1759 : (Jvm.Cond.static ({ cls := "TreeDifferLaw", name := "subtreeSize", desc := "(LTreeDiffer;II[J)I" } : Jvm.MethodName)) ∈ lw_all := lw_g (lw_at lw_m8 16 rfl) rfl
theorem q1760 : (Jvm.Cond.codeWith ({ cls := "TreeDifferLaw", name := "subtreeSize", desc := "(LTreeDiffer;II[J)I" } : Jvm.MethodName) method_21_code (5 : Nat) (Option.some Jvm.ClassFile.FieldType.int) [((0 : Nat), (10 : Nat), (13 : Nat), (19 : Nat))]) ∈ lw_all := lw_g (lw_at lw_m8 17 rfl) rfl
theorem q1761 : (Jvm.Cond.methodLink "TreeDifferLaw" (82 : Nat) ({ cls := "TreeDiffer", name := "subtreeSize", desc := "(II)I" } : Jvm.MethodName)) ∈ lw_all := lw_g (lw_at lw_m8 18 rfl) rfl
theorem q1765 : (Jvm.Cond.methodLink "TreeDifferLaw" (219 : Nat) ({ cls := "TreeDifferLaw", name := "subtreeHash", desc := "(LTreeDiffer;II[J)I" } : Jvm.MethodName)) ∈ lw_all := lw_g (lw_at lw_m8 22 rfl) rfl
theorem q1766 : (Jvm.Cond.static ({ cls := "TreeDifferLaw", name := "subtreeHash", desc := "(LTreeDiffer;II[J)I" } : Jvm.MethodName)) ∈ lw_all := lw_g (lw_at lw_m8 23 rfl) rfl
theorem q1767 : (Jvm.Cond.codeWith ({ cls := "TreeDifferLaw", name := "subtreeHash", desc := "(LTreeDiffer;II[J)I" } : Jvm.MethodName) method_22_code (5 : Nat) (Option.some Jvm.ClassFile.FieldType.int) [((0 : Nat), (10 : Nat), (13 : Nat), (19 : Nat))]) ∈ lw_all := lw_g (lw_at lw_m8 24 rfl) rfl
theorem q1768 : (Jvm.Cond.methodLink "TreeDifferLaw" (85 : Nat) ({ cls := "TreeDiffer", name := "subtreeHash", desc := "(II)I" } : Jvm.MethodName)) ∈ lw_all := lw_g (lw_at lw_m8 25 rfl) rfl
theorem q1777 : (Jvm.Cond.methodLink "TreeDifferLaw" (222 : Nat) ({ cls := "TreeDifferLaw", name := "areEqual", desc := "(LTreeDiffer;IIII[J)I" } : Jvm.MethodName)) ∈ lw_all := lw_g (lw_at lw_m8 34 rfl) rfl
theorem q1778 : (Jvm.Cond.static ({ cls := "TreeDifferLaw", name := "areEqual", desc := "(LTreeDiffer;IIII[J)I" } : Jvm.MethodName)) ∈ lw_all := lw_g (lw_at lw_m8 35 rfl) rfl
theorem q1779 : (Jvm.Cond.codeWith ({ cls := "TreeDifferLaw", name := "areEqual", desc := "(LTreeDiffer;IIII[J)I" } : Jvm.MethodName) method_23_code (7 : Nat) (Option.some Jvm.ClassFile.FieldType.int) [((0 : Nat), (21 : Nat), (24 : Nat), (19 : Nat))]) ∈ lw_all := lw_g (lw_at lw_m8 36 rfl) rfl
theorem q1780 : (Jvm.Cond.methodLink "TreeDifferLaw" (88 : Nat) ({ cls := "TreeDiffer", name := "areEqual", desc := "(IIII)Z" } : Jvm.MethodName)) ∈ lw_all := lw_g (lw_at lw_m8 37 rfl) rfl
theorem q1784 : (Jvm.Cond.methodLink "TreeDifferLaw" (226 : Nat) ({ cls := "TreeDifferLaw", name := "twin", desc := "(LTreeDiffer;III[J)I" } : Jvm.MethodName)) ∈ lw_all := lw_g (lw_at lw_m8 41 rfl) rfl
theorem q1785 : (Jvm.Cond.static ({ cls := "TreeDifferLaw", name := "twin", desc := "(LTreeDiffer;III[J)I" } : Jvm.MethodName)) ∈ lw_all := lw_g (lw_at lw_m8 42 rfl) rfl
theorem q1786 : (Jvm.Cond.codeWith ({ cls := "TreeDifferLaw", name := "twin", desc := "(LTreeDiffer;III[J)I" } : Jvm.MethodName) method_24_code (6 : Nat) (Option.some Jvm.ClassFile.FieldType.int) [((0 : Nat), (12 : Nat), (15 : Nat), (19 : Nat)), ((0 : Nat), (12 : Nat), (19 : Nat), (27 : Nat))]) ∈ lw_all := lw_g (lw_at lw_m8 43 rfl) rfl
theorem q1787 : (Jvm.Cond.methodLink "TreeDifferLaw" (92 : Nat) ({ cls := "TreeDiffer", name := "twin", desc := "(III)I" } : Jvm.MethodName)) ∈ lw_all := lw_g (lw_at lw_m8 44 rfl) rfl
theorem q1791 : (Jvm.Cond.methodLink "TreeDifferLaw" (229 : Nat) ({ cls := "TreeDifferLaw", name := "shapeTwin", desc := "(LTreeDiffer;III[J)I" } : Jvm.MethodName)) ∈ lw_all := lw_g (lw_at lw_m8 48 rfl) rfl
theorem q1792 : (Jvm.Cond.static ({ cls := "TreeDifferLaw", name := "shapeTwin", desc := "(LTreeDiffer;III[J)I" } : Jvm.MethodName)) ∈ lw_all := lw_g (lw_at lw_m8 49 rfl) rfl
theorem q1793 : (Jvm.Cond.codeWith ({ cls := "TreeDifferLaw", name := "shapeTwin", desc := "(LTreeDiffer;III[J)I" } : Jvm.MethodName) method_25_code (6 : Nat) (Option.some Jvm.ClassFile.FieldType.int) [((0 : Nat), (12 : Nat), (15 : Nat), (19 : Nat)), ((0 : Nat), (12 : Nat), (19 : Nat), (27 : Nat))]) ∈ lw_all := lw_g (lw_at lw_m8 50 rfl) rfl
theorem q1794 : (Jvm.Cond.methodLink "TreeDifferLaw" (95 : Nat) ({ cls := "TreeDiffer", name := "shapeTwin", desc := "(III)I" } : Jvm.MethodName)) ∈ lw_all := lw_g (lw_at lw_m8 51 rfl) rfl
theorem q1798 : (Jvm.Cond.methodLink "TreeDifferLaw" (232 : Nat) ({ cls := "TreeDifferLaw", name := "distance", desc := "(LTreeDiffer;II[J)I" } : Jvm.MethodName)) ∈ lw_all := lw_g (lw_at lw_m8 55 rfl) rfl
theorem q1799 : (Jvm.Cond.static ({ cls := "TreeDifferLaw", name := "distance", desc := "(LTreeDiffer;II[J)I" } : Jvm.MethodName)) ∈ lw_all := lw_g (lw_at lw_m8 56 rfl) rfl
theorem q1800 : (Jvm.Cond.codeWith ({ cls := "TreeDifferLaw", name := "distance", desc := "(LTreeDiffer;II[J)I" } : Jvm.MethodName) method_26_code (5 : Nat) (Option.some Jvm.ClassFile.FieldType.int) [((0 : Nat), (10 : Nat), (13 : Nat), (19 : Nat))]) ∈ lw_all := lw_g (lw_at lw_m8 57 rfl) rfl
theorem q1801 : (Jvm.Cond.methodLink "TreeDifferLaw" (98 : Nat) ({ cls := "TreeDiffer", name := "distance", desc := "(II)I" } : Jvm.MethodName)) ∈ lw_all := lw_g (lw_at lw_m8 58 rfl) rfl
theorem q1805 : (Jvm.Cond.methodLink "TreeDifferLaw" (235 : Nat) ({ cls := "TreeDifferLaw", name := "distanceByMatchings", desc := "(LTreeDiffer;II[J)I" } : Jvm.MethodName)) ∈ lw_all := lw_g (lw_at lw_m8 62 rfl) rfl
theorem q1806 : (Jvm.Cond.static ({ cls := "TreeDifferLaw", name := "distanceByMatchings", desc := "(LTreeDiffer;II[J)I" } : Jvm.MethodName)) ∈ lw_all := lw_g (lw_at lw_m8 63 rfl) rfl
theorem q1807 : (Jvm.Cond.codeWith ({ cls := "TreeDifferLaw", name := "distanceByMatchings", desc := "(LTreeDiffer;II[J)I" } : Jvm.MethodName) method_27_code (5 : Nat) (Option.some Jvm.ClassFile.FieldType.int) [((0 : Nat), (10 : Nat), (13 : Nat), (19 : Nat)), ((0 : Nat), (10 : Nat), (17 : Nat), (47 : Nat))]) ∈ lw_all := lw_g (lw_at lw_m8 64 rfl) rfl
theorem q1808 : (Jvm.Cond.methodLink "TreeDifferLaw" (101 : Nat) ({ cls := "TreeDiffer", name := "distanceByMatchings", desc := "(II)I" } : Jvm.MethodName)) ∈ lw_all := lw_g (lw_at lw_m8 65 rfl) rfl
theorem q1812 : (Jvm.Cond.methodLink "TreeDifferLaw" (238 : Nat) ({ cls := "TreeDifferLaw", name := "similarity", desc := "(LTreeDiffer;II[D)I" } : Jvm.MethodName)) ∈ lw_all := lw_g (lw_at lw_m8 69 rfl) rfl
theorem q1813 : (Jvm.Cond.static ({ cls := "TreeDifferLaw", name := "similarity", desc := "(LTreeDiffer;II[D)I" } : Jvm.MethodName)) ∈ lw_all := lw_g (lw_at lw_m8 70 rfl) rfl
theorem q1814 : (Jvm.Cond.codeWith ({ cls := "TreeDifferLaw", name := "similarity", desc := "(LTreeDiffer;II[D)I" } : Jvm.MethodName) method_28_code (5 : Nat) (Option.some Jvm.ClassFile.FieldType.int) [((0 : Nat), (9 : Nat), (12 : Nat), (19 : Nat))]) ∈ lw_all := lw_g (lw_at lw_m8 71 rfl) rfl
theorem q1815 : (Jvm.Cond.methodLink "TreeDifferLaw" (104 : Nat) ({ cls := "TreeDiffer", name := "similarity", desc := "(II)D" } : Jvm.MethodName)) ∈ lw_all := lw_g (lw_at lw_m8 72 rfl) rfl
theorem q1819 : (Jvm.Cond.methodLink "TreeDifferLaw" (242 : Nat) ({ cls := "TreeDifferLaw", name := "diff", desc := "(LTreeDiffer;II[J)I" } : Jvm.MethodName)) ∈ lw_all := lw_g (lw_at lw_m8 76 rfl) rfl
theorem q1820 : (Jvm.Cond.static ({ cls := "TreeDifferLaw", name := "diff", desc := "(LTreeDiffer;II[J)I" } : Jvm.MethodName)) ∈ lw_all := lw_g (lw_at lw_m8 77 rfl) rfl
theorem q1821 : (Jvm.Cond.codeWith ({ cls := "TreeDifferLaw", name := "diff", desc := "(LTreeDiffer;II[J)I" } : Jvm.MethodName) method_29_code (5 : Nat) (Option.some Jvm.ClassFile.FieldType.int) [((0 : Nat), (10 : Nat), (13 : Nat), (19 : Nat))]) ∈ lw_all := lw_g (lw_at lw_m8 78 rfl) rfl
theorem q1822 : (Jvm.Cond.methodLink "TreeDifferLaw" (108 : Nat) ({ cls := "TreeDiffer", name := "diff", desc := "(II)I" } : Jvm.MethodName)) ∈ lw_all := lw_g (lw_at lw_m8 79 rfl) rfl
theorem q1907 : (Jvm.Cond.methodLink "TreeDifferLaw" (245 : Nat) ({ cls := "TreeDifferLaw", name := "operations", desc := "(LTreeDiffer;[J)I" } : Jvm.MethodName)) ∈ lw_all := lw_g (lw_at lw_m8 164 rfl) rfl
theorem q1908 : (Jvm.Cond.static ({ cls := "TreeDifferLaw", name := "operations", desc := "(LTreeDiffer;[J)I" } : Jvm.MethodName)) ∈ lw_all := lw_g (lw_at lw_m8 165 rfl) rfl
theorem q1909 : (Jvm.Cond.codeWith ({ cls := "TreeDifferLaw", name := "operations", desc := "(LTreeDiffer;[J)I" } : Jvm.MethodName) method_30_code (3 : Nat) (Option.some Jvm.ClassFile.FieldType.int) [((0 : Nat), (8 : Nat), (11 : Nat), (13 : Nat))]) ∈ lw_all := lw_g (lw_at lw_m8 166 rfl) rfl
theorem q1910 : (Jvm.Cond.methodLink "TreeDifferLaw" (111 : Nat) ({ cls := "TreeDiffer", name := "operations", desc := "()I" } : Jvm.MethodName)) ∈ lw_all := lw_g (lw_at lw_m8 167 rfl) rfl
theorem q1914 : (Jvm.Cond.methodLink "TreeDifferLaw" (248 : Nat) ({ cls := "TreeDifferLaw", name := "opKind", desc := "(LTreeDiffer;I[J)I" } : Jvm.MethodName)) ∈ lw_all := lw_g (lw_at lw_m8 171 rfl) rfl
theorem q1915 : (Jvm.Cond.static ({ cls := "TreeDifferLaw", name := "opKind", desc := "(LTreeDiffer;I[J)I" } : Jvm.MethodName)) ∈ lw_all := lw_g (lw_at lw_m8 172 rfl) rfl
theorem q1916 : (Jvm.Cond.codeWith ({ cls := "TreeDifferLaw", name := "opKind", desc := "(LTreeDiffer;I[J)I" } : Jvm.MethodName) method_31_code (4 : Nat) (Option.some Jvm.ClassFile.FieldType.int) [((0 : Nat), (9 : Nat), (12 : Nat), (13 : Nat)), ((0 : Nat), (9 : Nat), (15 : Nat), (19 : Nat))]) ∈ lw_all := lw_g (lw_at lw_m8 173 rfl) rfl
theorem q1917 : (Jvm.Cond.methodLink "TreeDifferLaw" (114 : Nat) ({ cls := "TreeDiffer", name := "opKind", desc := "(I)C" } : Jvm.MethodName)) ∈ lw_all := lw_g (lw_at lw_m8 174 rfl) rfl
theorem q1925 : (Jvm.Cond.methodLink "TreeDifferLaw" (251 : Nat) ({ cls := "TreeDifferLaw", name := "opNode", desc := "(LTreeDiffer;I[J)I" } : Jvm.MethodName)) ∈ lw_all := lw_g (lw_at lw_m8 182 rfl) rfl
theorem q1926 : (Jvm.Cond.static ({ cls := "TreeDifferLaw", name := "opNode", desc := "(LTreeDiffer;I[J)I" } : Jvm.MethodName)) ∈ lw_all := lw_g (lw_at lw_m8 183 rfl) rfl
theorem q1927 : (Jvm.Cond.codeWith ({ cls := "TreeDifferLaw", name := "opNode", desc := "(LTreeDiffer;I[J)I" } : Jvm.MethodName) method_32_code (4 : Nat) (Option.some Jvm.ClassFile.FieldType.int) [((0 : Nat), (9 : Nat), (12 : Nat), (13 : Nat)), ((0 : Nat), (9 : Nat), (15 : Nat), (19 : Nat))]) ∈ lw_all := lw_g (lw_at lw_m8 184 rfl) rfl
theorem q1928 : (Jvm.Cond.methodLink "TreeDifferLaw" (117 : Nat) ({ cls := "TreeDiffer", name := "opNode", desc := "(I)I" } : Jvm.MethodName)) ∈ lw_all := lw_g (lw_at lw_m8 185 rfl) rfl
theorem q1932 : (Jvm.Cond.methodLink "TreeDifferLaw" (254 : Nat) ({ cls := "TreeDifferLaw", name := "opTarget", desc := "(LTreeDiffer;I[J)I" } : Jvm.MethodName)) ∈ lw_all := lw_g (lw_at lw_m8 189 rfl) rfl
theorem q1933 : (Jvm.Cond.static ({ cls := "TreeDifferLaw", name := "opTarget", desc := "(LTreeDiffer;I[J)I" } : Jvm.MethodName)) ∈ lw_all := lw_g (lw_at lw_m8 190 rfl) rfl
theorem q1934 : (Jvm.Cond.codeWith ({ cls := "TreeDifferLaw", name := "opTarget", desc := "(LTreeDiffer;I[J)I" } : Jvm.MethodName) method_33_code (4 : Nat) (Option.some Jvm.ClassFile.FieldType.int) [((0 : Nat), (9 : Nat), (12 : Nat), (13 : Nat)), ((0 : Nat), (9 : Nat), (15 : Nat), (19 : Nat)), ((0 : Nat), (9 : Nat), (18 : Nat), (27 : Nat))]) ∈ lw_all := lw_g (lw_at lw_m8 191 rfl) rfl
theorem q1935 : (Jvm.Cond.methodLink "TreeDifferLaw" (120 : Nat) ({ cls := "TreeDiffer", name := "opTarget", desc := "(I)I" } : Jvm.MethodName)) ∈ lw_all := lw_g (lw_at lw_m8 192 rfl) rfl
theorem q1939 : (Jvm.Cond.methodLink "TreeDifferLaw" (257 : Nat) ({ cls := "TreeDifferLaw", name := "partner", desc := "(LTreeDiffer;I[J)I" } : Jvm.MethodName)) ∈ lw_all := lw_g (lw_at lw_m8 196 rfl) rfl
theorem q1940 : (Jvm.Cond.static ({ cls := "TreeDifferLaw", name := "partner", desc := "(LTreeDiffer;I[J)I" } : Jvm.MethodName)) ∈ lw_all := lw_g (lw_at lw_m8 197 rfl) rfl
theorem q1941 : (Jvm.Cond.codeWith ({ cls := "TreeDifferLaw", name := "partner", desc := "(LTreeDiffer;I[J)I" } : Jvm.MethodName) method_34_code (4 : Nat) (Option.some Jvm.ClassFile.FieldType.int) [((0 : Nat), (9 : Nat), (12 : Nat), (13 : Nat)), ((0 : Nat), (9 : Nat), (15 : Nat), (19 : Nat)), ((0 : Nat), (9 : Nat), (18 : Nat), (27 : Nat))]) ∈ lw_all := lw_g (lw_at lw_m8 198 rfl) rfl
theorem q1942 : (Jvm.Cond.methodLink "TreeDifferLaw" (123 : Nat) ({ cls := "TreeDiffer", name := "partner", desc := "(I)I" } : Jvm.MethodName)) ∈ lw_all := lw_g (lw_at lw_m8 199 rfl) rfl
theorem q1946 : (Jvm.Cond.methodLink "TreeDifferLaw" (260 : Nat) ({ cls := "TreeDifferLaw", name := "moves", desc := "(LTreeDiffer;[J)I" } : Jvm.MethodName)) ∈ lw_all := lw_g (lw_at lw_m8 203 rfl) rfl
theorem q1947 : (Jvm.Cond.static ({ cls := "TreeDifferLaw", name := "moves", desc := "(LTreeDiffer;[J)I" } : Jvm.MethodName)) ∈ lw_all := lw_g (lw_at lw_m8 204 rfl) rfl
theorem q1948 : (Jvm.Cond.codeWith ({ cls := "TreeDifferLaw", name := "moves", desc := "(LTreeDiffer;[J)I" } : Jvm.MethodName) method_35_code (3 : Nat) (Option.some Jvm.ClassFile.FieldType.int) [((0 : Nat), (8 : Nat), (11 : Nat), (13 : Nat))]) ∈ lw_all := lw_g (lw_at lw_m8 205 rfl) rfl
theorem q1949 : (Jvm.Cond.methodLink "TreeDifferLaw" (126 : Nat) ({ cls := "TreeDiffer", name := "moves", desc := "()I" } : Jvm.MethodName)) ∈ lw_all := lw_g (lw_at lw_m8 206 rfl) rfl
theorem q1953 : (Jvm.Cond.methodLink "TreeDifferLaw" (263 : Nat) ({ cls := "TreeDifferLaw", name := "scriptCost", desc := "(LTreeDiffer;[J)I" } : Jvm.MethodName)) ∈ lw_all := lw_g (lw_at lw_m8 210 rfl) rfl
theorem q1954 : (Jvm.Cond.static ({ cls := "TreeDifferLaw", name := "scriptCost", desc := "(LTreeDiffer;[J)I" } : Jvm.MethodName)) ∈ lw_all := lw_g (lw_at lw_m8 211 rfl) rfl
theorem q1955 : (Jvm.Cond.codeWith ({ cls := "TreeDifferLaw", name := "scriptCost", desc := "(LTreeDiffer;[J)I" } : Jvm.MethodName) method_36_code (3 : Nat) (Option.some Jvm.ClassFile.FieldType.int) [((0 : Nat), (8 : Nat), (11 : Nat), (13 : Nat))]) ∈ lw_all := lw_g (lw_at lw_m8 212 rfl) rfl
theorem q1956 : (Jvm.Cond.methodLink "TreeDifferLaw" (129 : Nat) ({ cls := "TreeDiffer", name := "scriptCost", desc := "()I" } : Jvm.MethodName)) ∈ lw_all := lw_g (lw_at lw_m8 213 rfl) rfl
theorem q1960 : (Jvm.Cond.methodLink "TreeDifferLaw" (266 : Nat) ({ cls := "TreeDifferLaw", name := "givesTarget", desc := "(LTreeDiffer;[J)I" } : Jvm.MethodName)) ∈ lw_all := lw_g (lw_at lw_m8 217 rfl) rfl
theorem q1961 : (Jvm.Cond.static ({ cls := "TreeDifferLaw", name := "givesTarget", desc := "(LTreeDiffer;[J)I" } : Jvm.MethodName)) ∈ lw_all := lw_g (lw_at lw_m8 218 rfl) rfl
theorem q1962 : (Jvm.Cond.codeWith ({ cls := "TreeDifferLaw", name := "givesTarget", desc := "(LTreeDiffer;[J)I" } : Jvm.MethodName) method_37_code (3 : Nat) (Option.some Jvm.ClassFile.FieldType.int) [((0 : Nat), (15 : Nat), (18 : Nat), (13 : Nat))]) ∈ lw_all := lw_g (lw_at lw_m8 219 rfl) rfl
theorem q1963 : (Jvm.Cond.methodLink "TreeDifferLaw" (132 : Nat) ({ cls := "TreeDiffer", name := "givesTarget", desc := "()Z" } : Jvm.MethodName)) ∈ lw_all := lw_g (lw_at lw_m8 220 rfl) rfl
theorem q1967 : (Jvm.Cond.methodLink "TreeDifferLaw" (269 : Nat) ({ cls := "TreeDifferLaw", name := "patch", desc := "(LTreeDiffer;I[J)I" } : Jvm.MethodName)) ∈ lw_all := lw_g (lw_at lw_m8 224 rfl) rfl
theorem q1968 : (Jvm.Cond.static ({ cls := "TreeDifferLaw", name := "patch", desc := "(LTreeDiffer;I[J)I" } : Jvm.MethodName)) ∈ lw_all := lw_g (lw_at lw_m8 225 rfl) rfl
theorem q1969 : (Jvm.Cond.codeWith ({ cls := "TreeDifferLaw", name := "patch", desc := "(LTreeDiffer;I[J)I" } : Jvm.MethodName) method_38_code (4 : Nat) (Option.some Jvm.ClassFile.FieldType.int) [((0 : Nat), (9 : Nat), (12 : Nat), (19 : Nat)), ((0 : Nat), (9 : Nat), (15 : Nat), (13 : Nat)), ((0 : Nat), (9 : Nat), (18 : Nat), (47 : Nat))]) ∈ lw_all := lw_g (lw_at lw_m8 226 rfl) rfl
theorem q1970 : (Jvm.Cond.methodLink "TreeDifferLaw" (136 : Nat) ({ cls := "TreeDiffer", name := "patch", desc := "(I)I" } : Jvm.MethodName)) ∈ lw_all := lw_g (lw_at lw_m8 227 rfl) rfl
theorem q1978 : (Jvm.Cond.methodLink "TreeDifferLaw" (272 : Nat) ({ cls := "TreeDifferLaw", name := "conflictOperation", desc := "(LTreeDiffer;[J)I" } : Jvm.MethodName)) ∈ lw_all := lw_g (lw_at lw_m8 235 rfl) rfl
theorem q1979 : (Jvm.Cond.static ({ cls := "TreeDifferLaw", name := "conflictOperation", desc := "(LTreeDiffer;[J)I" } : Jvm.MethodName)) ∈ lw_all := lw_g (lw_at lw_m8 236 rfl) rfl
theorem q1980 : (Jvm.Cond.codeWith ({ cls := "TreeDifferLaw", name := "conflictOperation", desc := "(LTreeDiffer;[J)I" } : Jvm.MethodName) method_39_code (3 : Nat) (Option.some Jvm.ClassFile.FieldType.int) [((0 : Nat), (8 : Nat), (11 : Nat), (27 : Nat))]) ∈ lw_all := lw_g (lw_at lw_m8 237 rfl) rfl
theorem q1981 : (Jvm.Cond.methodLink "TreeDifferLaw" (139 : Nat) ({ cls := "TreeDiffer", name := "conflictOperation", desc := "()I" } : Jvm.MethodName)) ∈ lw_all := lw_g (lw_at lw_m8 238 rfl) rfl
theorem q1985 : (Jvm.Cond.methodLink "TreeDifferLaw" (275 : Nat) ({ cls := "TreeDifferLaw", name := "conflictReason", desc := "(LTreeDiffer;[J)I" } : Jvm.MethodName)) ∈ lw_all := lw_g (lw_at lw_m9 2 rfl) rfl
theorem q1986 : (Jvm.Cond.static ({ cls := "TreeDifferLaw", name := "conflictReason", desc := "(LTreeDiffer;[J)I" } : Jvm.MethodName)) ∈ lw_all := lw_g (lw_at lw_m9 3 rfl) rfl
theorem q1987 : (Jvm.Cond.codeWith ({ cls := "TreeDifferLaw", name := "conflictReason", desc := "(LTreeDiffer;[J)I" } : Jvm.MethodName) method_40_code (3 : Nat) (Option.some Jvm.ClassFile.FieldType.int) [((0 : Nat), (8 : Nat), (11 : Nat), (27 : Nat))]) ∈ lw_all := lw_g (lw_at lw_m9 4 rfl) rfl
theorem q1988 : (Jvm.Cond.methodLink "TreeDifferLaw" (142 : Nat) ({ cls := "TreeDiffer", name := "conflictReason", desc := "()C" } : Jvm.MethodName)) ∈ lw_all := lw_g (lw_at lw_m9 5 rfl) rfl
theorem q2005 : (Jvm.Cond.classLink "TreeDifferLaw" (147 : Nat) "TreeDifferModel") ∈ lw_all := lw_g (lw_at lw_m9 22 rfl) rfl
theorem q2007 : (Jvm.Cond.methodLink "TreeDifferLaw" (149 : Nat) ({ cls := "TreeDifferModel", name := "<init>", desc := "()V" } : Jvm.MethodName)) ∈ lw_all := lw_g (lw_at lw_m9 24 rfl) rfl
theorem q2147 : (Jvm.Cond.methodLink "TreeDifferLaw" (156 : Nat) ({ cls := "TreeDifferModel", name := "thrown", desc := "()I" } : Jvm.MethodName)) ∈ lw_all := lw_g (lw_at lw_m9 164 rfl) rfl
theorem q2151 : (Jvm.Cond.methodLink "TreeDifferLaw" (155 : Nat) ({ cls := "TreeDifferModel", name := "type", desc := "(C)I" } : Jvm.MethodName)) ∈ lw_all := lw_g (lw_at lw_m9 168 rfl) rfl
theorem q2159 : (Jvm.Cond.methodLink "TreeDifferLaw" (162 : Nat) ({ cls := "TreeDifferModel", name := "read", desc := "(I)I" } : Jvm.MethodName)) ∈ lw_all := lw_g (lw_at lw_m9 176 rfl) rfl
theorem q2197 : (Jvm.Cond.methodLink "TreeDifferLaw" (166 : Nat) ({ cls := "TreeDifferModel", name := "errorPosition", desc := "()I" } : Jvm.MethodName)) ∈ lw_all := lw_g (lw_at lw_m9 214 rfl) rfl
theorem q2201 : (Jvm.Cond.methodLink "TreeDifferLaw" (169 : Nat) ({ cls := "TreeDifferModel", name := "writeTree", desc := "(I)I" } : Jvm.MethodName)) ∈ lw_all := lw_g (lw_at lw_m9 218 rfl) rfl
theorem q2224 : (Jvm.Cond.methodLink "TreeDifferLaw" (172 : Nat) ({ cls := "TreeDifferModel", name := "writeScript", desc := "()I" } : Jvm.MethodName)) ∈ lw_all := lw_g (lw_at lw_m10 1 rfl) rfl
theorem q2228 : (Jvm.Cond.methodLink "TreeDifferLaw" (175 : Nat) ({ cls := "TreeDifferModel", name := "charAt", desc := "(I)C" } : Jvm.MethodName)) ∈ lw_all := lw_g (lw_at lw_m10 5 rfl) rfl
theorem q2247 : (Jvm.Cond.methodLink "TreeDifferLaw" (179 : Nat) ({ cls := "TreeDifferModel", name := "addNode", desc := "(IIIC)I" } : Jvm.MethodName)) ∈ lw_all := lw_g (lw_at lw_m10 24 rfl) rfl
theorem q2271 : (Jvm.Cond.methodLink "TreeDifferLaw" (183 : Nat) ({ cls := "TreeDifferModel", name := "removeNode", desc := "(II)I" } : Jvm.MethodName)) ∈ lw_all := lw_g (lw_at lw_m10 48 rfl) rfl
theorem q2275 : (Jvm.Cond.methodLink "TreeDifferLaw" (187 : Nat) ({ cls := "TreeDifferModel", name := "setLabel", desc := "(IIC)I" } : Jvm.MethodName)) ∈ lw_all := lw_g (lw_at lw_m10 52 rfl) rfl
theorem q2279 : (Jvm.Cond.methodLink "TreeDifferLaw" (191 : Nat) ({ cls := "TreeDifferModel", name := "setKey", desc := "(III)I" } : Jvm.MethodName)) ∈ lw_all := lw_g (lw_at lw_m10 56 rfl) rfl
theorem q2283 : (Jvm.Cond.methodLink "TreeDifferLaw" (194 : Nat) ({ cls := "TreeDifferModel", name := "setValue", desc := "(III)I" } : Jvm.MethodName)) ∈ lw_all := lw_g (lw_at lw_m10 60 rfl) rfl
theorem q2287 : (Jvm.Cond.methodLink "TreeDifferLaw" (197 : Nat) ({ cls := "TreeDifferModel", name := "copyTree", desc := "(II)I" } : Jvm.MethodName)) ∈ lw_all := lw_g (lw_at lw_m10 64 rfl) rfl
theorem q2295 : (Jvm.Cond.methodLink "TreeDifferLaw" (200 : Nat) ({ cls := "TreeDifferModel", name := "size", desc := "(I)I" } : Jvm.MethodName)) ∈ lw_all := lw_g (lw_at lw_m10 72 rfl) rfl
theorem q2299 : (Jvm.Cond.methodLink "TreeDifferLaw" (203 : Nat) ({ cls := "TreeDifferModel", name := "label", desc := "(II)C" } : Jvm.MethodName)) ∈ lw_all := lw_g (lw_at lw_m10 76 rfl) rfl
theorem q2303 : (Jvm.Cond.methodLink "TreeDifferLaw" (206 : Nat) ({ cls := "TreeDifferModel", name := "key", desc := "(II)I" } : Jvm.MethodName)) ∈ lw_all := lw_g (lw_at lw_m10 80 rfl) rfl
theorem q2307 : (Jvm.Cond.methodLink "TreeDifferLaw" (209 : Nat) ({ cls := "TreeDifferModel", name := "value", desc := "(II)I" } : Jvm.MethodName)) ∈ lw_all := lw_g (lw_at lw_m10 84 rfl) rfl
theorem q2311 : (Jvm.Cond.methodLink "TreeDifferLaw" (212 : Nat) ({ cls := "TreeDifferModel", name := "children", desc := "(II)I" } : Jvm.MethodName)) ∈ lw_all := lw_g (lw_at lw_m10 88 rfl) rfl
theorem q2315 : (Jvm.Cond.methodLink "TreeDifferLaw" (215 : Nat) ({ cls := "TreeDifferModel", name := "parent", desc := "(II)I" } : Jvm.MethodName)) ∈ lw_all := lw_g (lw_at lw_m10 92 rfl) rfl
theorem q2319 : (Jvm.Cond.methodLink "TreeDifferLaw" (218 : Nat) ({ cls := "TreeDifferModel", name := "subtreeSize", desc := "(II)I" } : Jvm.MethodName)) ∈ lw_all := lw_g (lw_at lw_m10 96 rfl) rfl
theorem q2323 : (Jvm.Cond.methodLink "TreeDifferLaw" (221 : Nat) ({ cls := "TreeDifferModel", name := "subtreeHash", desc := "(II)I" } : Jvm.MethodName)) ∈ lw_all := lw_g (lw_at lw_m10 100 rfl) rfl
theorem q2333 : (Jvm.Cond.methodLink "TreeDifferLaw" (225 : Nat) ({ cls := "TreeDifferModel", name := "areEqual", desc := "(IIII)Z" } : Jvm.MethodName)) ∈ lw_all := lw_g (lw_at lw_m10 110 rfl) rfl
theorem q2340 : (Jvm.Cond.methodLink "TreeDifferLaw" (228 : Nat) ({ cls := "TreeDifferModel", name := "twin", desc := "(III)I" } : Jvm.MethodName)) ∈ lw_all := lw_g (lw_at lw_m10 117 rfl) rfl
theorem q2348 : (Jvm.Cond.methodLink "TreeDifferLaw" (231 : Nat) ({ cls := "TreeDifferModel", name := "shapeTwin", desc := "(III)I" } : Jvm.MethodName)) ∈ lw_all := lw_g (lw_at lw_m10 125 rfl) rfl
theorem q2352 : (Jvm.Cond.methodLink "TreeDifferLaw" (234 : Nat) ({ cls := "TreeDifferModel", name := "distance", desc := "(II)I" } : Jvm.MethodName)) ∈ lw_all := lw_g (lw_at lw_m10 129 rfl) rfl
theorem q2366 : (Jvm.Cond.methodLink "TreeDifferLaw" (237 : Nat) ({ cls := "TreeDifferModel", name := "distanceByMatchings", desc := "(II)I" } : Jvm.MethodName)) ∈ lw_all := lw_g (lw_at lw_m10 143 rfl) rfl
theorem q2370 : (Jvm.Cond.methodLink "TreeDifferLaw" (241 : Nat) ({ cls := "TreeDifferModel", name := "similarity", desc := "(II)D" } : Jvm.MethodName)) ∈ lw_all := lw_g (lw_at lw_m10 147 rfl) rfl
theorem q2374 : (Jvm.Cond.methodLink "TreeDifferLaw" (244 : Nat) ({ cls := "TreeDifferModel", name := "diff", desc := "(II)I" } : Jvm.MethodName)) ∈ lw_all := lw_g (lw_at lw_m10 151 rfl) rfl
theorem q2394 : (Jvm.Cond.methodLink "TreeDifferLaw" (247 : Nat) ({ cls := "TreeDifferModel", name := "operations", desc := "()I" } : Jvm.MethodName)) ∈ lw_all := lw_g (lw_at lw_m10 171 rfl) rfl
theorem q2402 : (Jvm.Cond.methodLink "TreeDifferLaw" (250 : Nat) ({ cls := "TreeDifferModel", name := "opKind", desc := "(I)C" } : Jvm.MethodName)) ∈ lw_all := lw_g (lw_at lw_m10 179 rfl) rfl
theorem q2410 : (Jvm.Cond.methodLink "TreeDifferLaw" (253 : Nat) ({ cls := "TreeDifferModel", name := "opNode", desc := "(I)I" } : Jvm.MethodName)) ∈ lw_all := lw_g (lw_at lw_m10 187 rfl) rfl
theorem q2414 : (Jvm.Cond.methodLink "TreeDifferLaw" (256 : Nat) ({ cls := "TreeDifferModel", name := "opTarget", desc := "(I)I" } : Jvm.MethodName)) ∈ lw_all := lw_g (lw_at lw_m10 191 rfl) rfl
theorem q2418 : (Jvm.Cond.methodLink "TreeDifferLaw" (259 : Nat) ({ cls := "TreeDifferModel", name := "partner", desc := "(I)I" } : Jvm.MethodName)) ∈ lw_all := lw_g (lw_at lw_m10 195 rfl) rfl
theorem q2422 : (Jvm.Cond.methodLink "TreeDifferLaw" (262 : Nat) ({ cls := "TreeDifferModel", name := "moves", desc := "()I" } : Jvm.MethodName)) ∈ lw_all := lw_g (lw_at lw_m10 199 rfl) rfl
theorem q2426 : (Jvm.Cond.methodLink "TreeDifferLaw" (265 : Nat) ({ cls := "TreeDifferModel", name := "scriptCost", desc := "()I" } : Jvm.MethodName)) ∈ lw_all := lw_g (lw_at lw_m10 203 rfl) rfl
theorem q2434 : (Jvm.Cond.methodLink "TreeDifferLaw" (268 : Nat) ({ cls := "TreeDifferModel", name := "givesTarget", desc := "()Z" } : Jvm.MethodName)) ∈ lw_all := lw_g (lw_at lw_m10 211 rfl) rfl
theorem q2519 : (Jvm.Cond.methodLink "TreeDifferLaw" (271 : Nat) ({ cls := "TreeDifferModel", name := "patch", desc := "(I)I" } : Jvm.MethodName)) ∈ lw_all := lw_g (lw_at lw_m11 56 rfl) rfl
theorem q2523 : (Jvm.Cond.methodLink "TreeDifferLaw" (274 : Nat) ({ cls := "TreeDifferModel", name := "conflictOperation", desc := "()I" } : Jvm.MethodName)) ∈ lw_all := lw_g (lw_at lw_m11 60 rfl) rfl
theorem q2527 : (Jvm.Cond.methodLink "TreeDifferLaw" (277 : Nat) ({ cls := "TreeDifferModel", name := "conflictReason", desc := "()C" } : Jvm.MethodName)) ∈ lw_all := lw_g (lw_at lw_m11 64 rfl) rfl
theorem q2531 : (Jvm.Cond.methodLink "TreeDifferLaw" (281 : Nat) ({ cls := "TreeDifferModel", name := "isConsistent", desc := "()Z" } : Jvm.MethodName)) ∈ lw_all := lw_g (lw_at lw_m11 68 rfl) rfl

/-! the law's own entry -/
set_option maxRecDepth 100000
abbrev cL_law : ByteArray := code
def dkwL_law_108 : List UInt8 := [159, 0, 5, 3, 172, 132, 5, 5, 167, 245, 191, 4, 172]
abbrev dktL_law_108 : List UInt8 := dkwL_law_108 ++ []
def dkwL_law_107 : List UInt8 := [45, 3, 47, 21, 7, 133, 148, 153, 0, 5, 3, 172, 167, 0, 16, 43, 182, 1, 22, 44, 182, 1, 25]
abbrev dktL_law_107 : List UInt8 := dkwL_law_107 ++ dktL_law_108
def dkwL_law_106 : List UInt8 := [54, 6, 44, 182, 1, 21, 54, 7, 44, 182, 0, 156, 21, 6, 159, 0, 5, 3, 172, 21, 6, 154, 0, 15]
abbrev dktL_law_106 : List UInt8 := dkwL_law_106 ++ dktL_law_107
def dkwL_law_105 : List UInt8 := [154, 0, 15, 45, 3, 47, 21, 7, 133, 148, 153, 0, 5, 3, 172, 167, 0, 60, 43, 45, 184, 1, 19]
abbrev dktL_law_105 : List UInt8 := dkwL_law_105 ++ dktL_law_106
def dkwL_law_104 : List UInt8 := [184, 1, 16, 54, 6, 44, 182, 1, 18, 54, 7, 44, 182, 0, 156, 21, 6, 159, 0, 5, 3, 172, 21, 6]
abbrev dktL_law_104 : List UInt8 := dkwL_law_104 ++ dktL_law_105
def dkwL_law_103 : List UInt8 := [172, 21, 6, 154, 0, 15, 45, 3, 47, 21, 7, 133, 148, 153, 0, 5, 3, 172, 167, 0, 104, 43, 45]
abbrev dktL_law_103 : List UInt8 := dkwL_law_103 ++ dktL_law_104
def dkwL_law_102 : List UInt8 := [54, 6, 44, 42, 21, 5, 4, 96, 46, 182, 1, 15, 54, 7, 44, 182, 0, 156, 21, 6, 159, 0, 5, 3]
abbrev dktL_law_102 : List UInt8 := dkwL_law_102 ++ dktL_law_103
def dkwL_law_101 : List UInt8 := [167, 0, 4, 9, 148, 153, 0, 5, 3, 172, 167, 0, 160, 43, 42, 21, 5, 4, 96, 46, 45, 184, 1, 13]
abbrev dktL_law_101 : List UInt8 := dkwL_law_101 ++ dktL_law_102
def dkwL_law_100 : List UInt8 := [182, 0, 156, 21, 6, 159, 0, 5, 3, 172, 21, 6, 154, 0, 22, 45, 3, 47, 21, 7, 153, 0, 7, 10]
abbrev dktL_law_100 : List UInt8 := dkwL_law_100 ++ dktL_law_101
def dkwL_law_99 : List UInt8 := [153, 0, 5, 3, 172, 167, 0, 211, 43, 45, 184, 1, 10, 54, 6, 44, 182, 1, 12, 54, 7, 44]
abbrev dktL_law_99 : List UInt8 := dkwL_law_99 ++ dktL_law_100
def dkwL_law_98 : List UInt8 := [182, 0, 156, 21, 6, 159, 0, 5, 3, 172, 21, 6, 154, 0, 15, 45, 3, 47, 21, 7, 133, 148]
abbrev dktL_law_98 : List UInt8 := dkwL_law_98 ++ dktL_law_99
def dkwL_law_97 : List UInt8 := [153, 0, 5, 3, 172, 167, 0, 255, 43, 45, 184, 1, 7, 54, 6, 44, 182, 1, 9, 54, 7, 44]
abbrev dktL_law_97 : List UInt8 := dkwL_law_97 ++ dktL_law_98
def dkwL_law_96 : List UInt8 := [182, 0, 156, 21, 6, 159, 0, 5, 3, 172, 21, 6, 154, 0, 15, 45, 3, 47, 21, 7, 133, 148]
abbrev dktL_law_96 : List UInt8 := dkwL_law_96 ++ dktL_law_97
def dkwL_law_95 : List UInt8 := [153, 0, 5, 3, 172, 167, 1, 43, 43, 45, 184, 1, 4, 54, 6, 44, 182, 1, 6, 54, 7, 44]
abbrev dktL_law_95 : List UInt8 := dkwL_law_95 ++ dktL_law_96
def dkwL_law_94 : List UInt8 := [182, 0, 156, 21, 6, 159, 0, 5, 3, 172, 21, 6, 154, 0, 15, 45, 3, 47, 21, 7, 133, 148]
abbrev dktL_law_94 : List UInt8 := dkwL_law_94 ++ dktL_law_95
def dkwL_law_93 : List UInt8 := [21, 5, 4, 96, 46, 45, 184, 1, 1, 54, 6, 44, 42, 21, 5, 4, 96, 46, 182, 1, 3, 54, 7, 44]
abbrev dktL_law_93 : List UInt8 := dkwL_law_93 ++ dktL_law_94
def dkwL_law_92 : List UInt8 := [172, 21, 6, 154, 0, 15, 45, 3, 47, 21, 7, 133, 148, 153, 0, 5, 3, 172, 167, 1, 99, 43, 42]
abbrev dktL_law_92 : List UInt8 := dkwL_law_92 ++ dktL_law_93
def dkwL_law_91 : List UInt8 := [54, 6, 44, 42, 21, 5, 4, 96, 46, 182, 1, 0, 54, 7, 44, 182, 0, 156, 21, 6, 159, 0, 5, 3]
abbrev dktL_law_91 : List UInt8 := dkwL_law_91 ++ dktL_law_92
def dkwL_law_90 : List UInt8 := [21, 7, 133, 148, 153, 0, 5, 3, 172, 167, 1, 155, 43, 42, 21, 5, 4, 96, 46, 45, 184, 0, 254]
abbrev dktL_law_90 : List UInt8 := dkwL_law_90 ++ dktL_law_91
def dkwL_law_89 : List UInt8 := [182, 0, 253, 54, 7, 44, 182, 0, 156, 21, 6, 159, 0, 5, 3, 172, 21, 6, 154, 0, 15, 45, 3, 47]
abbrev dktL_law_89 : List UInt8 := dkwL_law_89 ++ dktL_law_90
def dkwL_law_88 : List UInt8 := [167, 1, 211, 43, 42, 21, 5, 4, 96, 46, 45, 184, 0, 251, 54, 6, 44, 42, 21, 5, 4, 96, 46]
abbrev dktL_law_88 : List UInt8 := dkwL_law_88 ++ dktL_law_89
def dkwL_law_87 : List UInt8 := [159, 0, 5, 3, 172, 21, 6, 154, 0, 15, 45, 3, 47, 21, 7, 133, 148, 153, 0, 5, 3, 172]
abbrev dktL_law_87 : List UInt8 := dkwL_law_87 ++ dktL_law_88
def dkwL_law_86 : List UInt8 := [184, 0, 248, 54, 6, 44, 42, 21, 5, 4, 96, 46, 182, 0, 250, 54, 7, 44, 182, 0, 156, 21, 6]
abbrev dktL_law_86 : List UInt8 := dkwL_law_86 ++ dktL_law_87
def dkwL_law_85 : List UInt8 := [45, 3, 47, 21, 7, 133, 148, 153, 0, 5, 3, 172, 167, 2, 11, 43, 42, 21, 5, 4, 96, 46, 45]
abbrev dktL_law_85 : List UInt8 := dkwL_law_85 ++ dktL_law_86
def dkwL_law_84 : List UInt8 := [54, 6, 44, 182, 0, 247, 54, 7, 44, 182, 0, 156, 21, 6, 159, 0, 5, 3, 172, 21, 6, 154, 0, 15]
abbrev dktL_law_84 : List UInt8 := dkwL_law_84 ++ dktL_law_85
def dkwL_law_83 : List UInt8 := [154, 0, 15, 45, 3, 47, 21, 7, 133, 148, 153, 0, 5, 3, 172, 167, 2, 55, 43, 45, 184, 0, 245]
abbrev dktL_law_83 : List UInt8 := dkwL_law_83 ++ dktL_law_84
def dkwL_law_82 : List UInt8 := [42, 21, 5, 5, 96, 46, 182, 0, 244, 54, 7, 44, 182, 0, 156, 21, 6, 159, 0, 5, 3, 172, 21, 6]
abbrev dktL_law_82 : List UInt8 := dkwL_law_82 ++ dktL_law_83
def dkwL_law_81 : List UInt8 := [21, 5, 4, 96, 46, 42, 21, 5, 5, 96, 46, 45, 184, 0, 242, 54, 6, 44, 42, 21, 5, 4, 96, 46]
abbrev dktL_law_81 : List UInt8 := dkwL_law_81 ++ dktL_law_82
def dkwL_law_80 : List UInt8 := [25, 4, 3, 49, 151, 153, 0, 11, 24, 7, 24, 7, 151, 154, 0, 5, 3, 172, 167, 2, 123, 43, 42]
abbrev dktL_law_80 : List UInt8 := dkwL_law_80 ++ dktL_law_81
def dkwL_law_79 : List UInt8 := [159, 0, 5, 3, 172, 21, 6, 154, 0, 35, 25, 4, 3, 49, 24, 7, 151, 153, 0, 25, 25, 4, 3, 49]
abbrev dktL_law_79 : List UInt8 := dkwL_law_79 ++ dktL_law_80
def dkwL_law_78 : List UInt8 := [42, 21, 5, 4, 96, 46, 42, 21, 5, 5, 96, 46, 182, 0, 241, 57, 7, 44, 182, 0, 156, 21, 6]
abbrev dktL_law_78 : List UInt8 := dkwL_law_78 ++ dktL_law_79
def dkwL_law_77 : List UInt8 := [167, 2, 212, 43, 42, 21, 5, 4, 96, 46, 42, 21, 5, 5, 96, 46, 25, 4, 184, 0, 238, 54, 6, 44]
abbrev dktL_law_77 : List UInt8 := dkwL_law_77 ++ dktL_law_78
def dkwL_law_76 : List UInt8 := [159, 0, 5, 3, 172, 21, 6, 154, 0, 15, 45, 3, 47, 21, 7, 133, 148, 153, 0, 5, 3, 172]
abbrev dktL_law_76 : List UInt8 := dkwL_law_76 ++ dktL_law_77
def dkwL_law_75 : List UInt8 := [21, 5, 4, 96, 46, 42, 21, 5, 5, 96, 46, 182, 0, 237, 54, 7, 44, 182, 0, 156, 21, 6]
abbrev dktL_law_75 : List UInt8 := dkwL_law_75 ++ dktL_law_76
def dkwL_law_74 : List UInt8 := [167, 3, 24, 43, 42, 21, 5, 4, 96, 46, 42, 21, 5, 5, 96, 46, 45, 184, 0, 235, 54, 6, 44, 42]
abbrev dktL_law_74 : List UInt8 := dkwL_law_74 ++ dktL_law_75
def dkwL_law_73 : List UInt8 := [159, 0, 5, 3, 172, 21, 6, 154, 0, 15, 45, 3, 47, 21, 7, 133, 148, 153, 0, 5, 3, 172]
abbrev dktL_law_73 : List UInt8 := dkwL_law_73 ++ dktL_law_74
def dkwL_law_72 : List UInt8 := [21, 5, 4, 96, 46, 42, 21, 5, 5, 96, 46, 182, 0, 234, 54, 7, 44, 182, 0, 156, 21, 6]
abbrev dktL_law_72 : List UInt8 := dkwL_law_72 ++ dktL_law_73
def dkwL_law_71 : List UInt8 := [167, 3, 92, 43, 42, 21, 5, 4, 96, 46, 42, 21, 5, 5, 96, 46, 45, 184, 0, 232, 54, 6, 44, 42]
abbrev dktL_law_71 : List UInt8 := dkwL_law_71 ++ dktL_law_72
def dkwL_law_70 : List UInt8 := [21, 6, 159, 0, 5, 3, 172, 21, 6, 154, 0, 15, 45, 3, 47, 21, 7, 133, 148, 153, 0, 5, 3, 172]
abbrev dktL_law_70 : List UInt8 := dkwL_law_70 ++ dktL_law_71
def dkwL_law_69 : List UInt8 := [96, 46, 42, 21, 5, 5, 96, 46, 42, 21, 5, 6, 96, 46, 182, 0, 231, 54, 7, 44, 182, 0, 156]
abbrev dktL_law_69 : List UInt8 := dkwL_law_69 ++ dktL_law_70
def dkwL_law_68 : List UInt8 := [46, 42, 21, 5, 5, 96, 46, 42, 21, 5, 6, 96, 46, 45, 184, 0, 229, 54, 6, 44, 42, 21, 5, 4]
abbrev dktL_law_68 : List UInt8 := dkwL_law_68 ++ dktL_law_69
def dkwL_law_67 : List UInt8 := [154, 0, 15, 45, 3, 47, 21, 7, 133, 148, 153, 0, 5, 3, 172, 167, 3, 172, 43, 42, 21, 5, 4, 96]
abbrev dktL_law_67 : List UInt8 := dkwL_law_67 ++ dktL_law_68
def dkwL_law_66 : List UInt8 := [21, 5, 6, 96, 46, 182, 0, 228, 54, 7, 44, 182, 0, 156, 21, 6, 159, 0, 5, 3, 172, 21, 6]
abbrev dktL_law_66 : List UInt8 := dkwL_law_66 ++ dktL_law_67
def dkwL_law_65 : List UInt8 := [6, 96, 46, 45, 184, 0, 226, 54, 6, 44, 42, 21, 5, 4, 96, 46, 42, 21, 5, 5, 96, 46, 42]
abbrev dktL_law_65 : List UInt8 := dkwL_law_65 ++ dktL_law_66
def dkwL_law_64 : List UInt8 := [153, 0, 5, 3, 172, 167, 3, 252, 43, 42, 21, 5, 4, 96, 46, 42, 21, 5, 5, 96, 46, 42, 21, 5]
abbrev dktL_law_64 : List UInt8 := dkwL_law_64 ++ dktL_law_65
def dkwL_law_63 : List UInt8 := [159, 0, 5, 3, 172, 21, 6, 154, 0, 22, 45, 3, 47, 21, 7, 153, 0, 7, 10, 167, 0, 4, 9, 148]
abbrev dktL_law_63 : List UInt8 := dkwL_law_63 ++ dktL_law_64
def dkwL_law_62 : List UInt8 := [42, 21, 5, 6, 96, 46, 42, 21, 5, 7, 96, 46, 182, 0, 225, 54, 7, 44, 182, 0, 156, 21, 6]
abbrev dktL_law_62 : List UInt8 := dkwL_law_62 ++ dktL_law_63
def dkwL_law_61 : List UInt8 := [21, 5, 7, 96, 46, 45, 184, 0, 222, 54, 6, 44, 42, 21, 5, 4, 96, 46, 42, 21, 5, 5, 96, 46]
abbrev dktL_law_61 : List UInt8 := dkwL_law_61 ++ dktL_law_62
def dkwL_law_60 : List UInt8 := [167, 4, 95, 43, 42, 21, 5, 4, 96, 46, 42, 21, 5, 5, 96, 46, 42, 21, 5, 6, 96, 46, 42]
abbrev dktL_law_60 : List UInt8 := dkwL_law_60 ++ dktL_law_61
def dkwL_law_59 : List UInt8 := [159, 0, 5, 3, 172, 21, 6, 154, 0, 15, 45, 3, 47, 21, 7, 133, 148, 153, 0, 5, 3, 172]
abbrev dktL_law_59 : List UInt8 := dkwL_law_59 ++ dktL_law_60
def dkwL_law_58 : List UInt8 := [21, 5, 4, 96, 46, 42, 21, 5, 5, 96, 46, 182, 0, 221, 54, 7, 44, 182, 0, 156, 21, 6]
abbrev dktL_law_58 : List UInt8 := dkwL_law_58 ++ dktL_law_59
def dkwL_law_57 : List UInt8 := [167, 4, 163, 43, 42, 21, 5, 4, 96, 46, 42, 21, 5, 5, 96, 46, 45, 184, 0, 219, 54, 6, 44, 42]
abbrev dktL_law_57 : List UInt8 := dkwL_law_57 ++ dktL_law_58
def dkwL_law_56 : List UInt8 := [159, 0, 5, 3, 172, 21, 6, 154, 0, 15, 45, 3, 47, 21, 7, 133, 148, 153, 0, 5, 3, 172]
abbrev dktL_law_56 : List UInt8 := dkwL_law_56 ++ dktL_law_57
def dkwL_law_55 : List UInt8 := [21, 5, 4, 96, 46, 42, 21, 5, 5, 96, 46, 182, 0, 218, 54, 7, 44, 182, 0, 156, 21, 6]
abbrev dktL_law_55 : List UInt8 := dkwL_law_55 ++ dktL_law_56
def dkwL_law_54 : List UInt8 := [167, 4, 231, 43, 42, 21, 5, 4, 96, 46, 42, 21, 5, 5, 96, 46, 45, 184, 0, 216, 54, 6, 44, 42]
abbrev dktL_law_54 : List UInt8 := dkwL_law_54 ++ dktL_law_55
def dkwL_law_53 : List UInt8 := [159, 0, 5, 3, 172, 21, 6, 154, 0, 15, 45, 3, 47, 21, 7, 133, 148, 153, 0, 5, 3, 172]
abbrev dktL_law_53 : List UInt8 := dkwL_law_53 ++ dktL_law_54
def dkwL_law_52 : List UInt8 := [21, 5, 4, 96, 46, 42, 21, 5, 5, 96, 46, 182, 0, 215, 54, 7, 44, 182, 0, 156, 21, 6]
abbrev dktL_law_52 : List UInt8 := dkwL_law_52 ++ dktL_law_53
def dkwL_law_51 : List UInt8 := [167, 5, 43, 43, 42, 21, 5, 4, 96, 46, 42, 21, 5, 5, 96, 46, 45, 184, 0, 213, 54, 6, 44, 42]
abbrev dktL_law_51 : List UInt8 := dkwL_law_51 ++ dktL_law_52
def dkwL_law_50 : List UInt8 := [159, 0, 5, 3, 172, 21, 6, 154, 0, 15, 45, 3, 47, 21, 7, 133, 148, 153, 0, 5, 3, 172]
abbrev dktL_law_50 : List UInt8 := dkwL_law_50 ++ dktL_law_51
def dkwL_law_49 : List UInt8 := [21, 5, 4, 96, 46, 42, 21, 5, 5, 96, 46, 182, 0, 212, 54, 7, 44, 182, 0, 156, 21, 6]
abbrev dktL_law_49 : List UInt8 := dkwL_law_49 ++ dktL_law_50
def dkwL_law_48 : List UInt8 := [167, 5, 111, 43, 42, 21, 5, 4, 96, 46, 42, 21, 5, 5, 96, 46, 45, 184, 0, 210, 54, 6, 44, 42]
abbrev dktL_law_48 : List UInt8 := dkwL_law_48 ++ dktL_law_49
def dkwL_law_47 : List UInt8 := [159, 0, 5, 3, 172, 21, 6, 154, 0, 15, 45, 3, 47, 21, 7, 133, 148, 153, 0, 5, 3, 172]
abbrev dktL_law_47 : List UInt8 := dkwL_law_47 ++ dktL_law_48
def dkwL_law_46 : List UInt8 := [21, 5, 4, 96, 46, 42, 21, 5, 5, 96, 46, 182, 0, 209, 54, 7, 44, 182, 0, 156, 21, 6]
abbrev dktL_law_46 : List UInt8 := dkwL_law_46 ++ dktL_law_47
def dkwL_law_45 : List UInt8 := [167, 5, 179, 43, 42, 21, 5, 4, 96, 46, 42, 21, 5, 5, 96, 46, 45, 184, 0, 207, 54, 6, 44, 42]
abbrev dktL_law_45 : List UInt8 := dkwL_law_45 ++ dktL_law_46
def dkwL_law_44 : List UInt8 := [159, 0, 5, 3, 172, 21, 6, 154, 0, 15, 45, 3, 47, 21, 7, 133, 148, 153, 0, 5, 3, 172]
abbrev dktL_law_44 : List UInt8 := dkwL_law_44 ++ dktL_law_45
def dkwL_law_43 : List UInt8 := [21, 5, 4, 96, 46, 42, 21, 5, 5, 96, 46, 182, 0, 206, 54, 7, 44, 182, 0, 156, 21, 6]
abbrev dktL_law_43 : List UInt8 := dkwL_law_43 ++ dktL_law_44
def dkwL_law_42 : List UInt8 := [167, 5, 247, 43, 42, 21, 5, 4, 96, 46, 42, 21, 5, 5, 96, 46, 45, 184, 0, 204, 54, 6, 44, 42]
abbrev dktL_law_42 : List UInt8 := dkwL_law_42 ++ dktL_law_43
def dkwL_law_41 : List UInt8 := [159, 0, 5, 3, 172, 21, 6, 154, 0, 15, 45, 3, 47, 21, 7, 133, 148, 153, 0, 5, 3, 172]
abbrev dktL_law_41 : List UInt8 := dkwL_law_41 ++ dktL_law_42
def dkwL_law_40 : List UInt8 := [21, 5, 4, 96, 46, 42, 21, 5, 5, 96, 46, 182, 0, 203, 54, 7, 44, 182, 0, 156, 21, 6]
abbrev dktL_law_40 : List UInt8 := dkwL_law_40 ++ dktL_law_41
def dkwL_law_39 : List UInt8 := [167, 6, 59, 43, 42, 21, 5, 4, 96, 46, 42, 21, 5, 5, 96, 46, 45, 184, 0, 201, 54, 6, 44, 42]
abbrev dktL_law_39 : List UInt8 := dkwL_law_39 ++ dktL_law_40
def dkwL_law_38 : List UInt8 := [159, 0, 5, 3, 172, 21, 6, 154, 0, 15, 45, 3, 47, 21, 7, 133, 148, 153, 0, 5, 3, 172]
abbrev dktL_law_38 : List UInt8 := dkwL_law_38 ++ dktL_law_39
def dkwL_law_37 : List UInt8 := [184, 0, 198, 54, 6, 44, 42, 21, 5, 4, 96, 46, 182, 0, 200, 54, 7, 44, 182, 0, 156, 21, 6]
abbrev dktL_law_37 : List UInt8 := dkwL_law_37 ++ dktL_law_38
def dkwL_law_36 : List UInt8 := [3, 47, 21, 7, 133, 148, 153, 0, 5, 3, 172, 167, 6, 115, 43, 42, 21, 5, 4, 96, 46, 45]
abbrev dktL_law_36 : List UInt8 := dkwL_law_36 ++ dktL_law_37
def dkwL_law_35 : List UInt8 := [96, 46, 182, 0, 197, 54, 7, 44, 182, 0, 156, 21, 6, 159, 0, 5, 3, 172, 21, 6, 154, 0, 15, 45]
abbrev dktL_law_35 : List UInt8 := dkwL_law_35 ++ dktL_law_36
def dkwL_law_34 : List UInt8 := [46, 42, 21, 5, 5, 96, 46, 45, 184, 0, 195, 54, 6, 44, 42, 21, 5, 4, 96, 46, 42, 21, 5, 5]
abbrev dktL_law_34 : List UInt8 := dkwL_law_34 ++ dktL_law_35
def dkwL_law_33 : List UInt8 := [154, 0, 15, 45, 3, 47, 21, 7, 133, 148, 153, 0, 5, 3, 172, 167, 6, 183, 43, 42, 21, 5, 4, 96]
abbrev dktL_law_33 : List UInt8 := dkwL_law_33 ++ dktL_law_34
def dkwL_law_32 : List UInt8 := [21, 5, 6, 96, 46, 182, 0, 194, 54, 7, 44, 182, 0, 156, 21, 6, 159, 0, 5, 3, 172, 21, 6]
abbrev dktL_law_32 : List UInt8 := dkwL_law_32 ++ dktL_law_33
def dkwL_law_31 : List UInt8 := [6, 96, 46, 45, 184, 0, 192, 54, 6, 44, 42, 21, 5, 4, 96, 46, 42, 21, 5, 5, 96, 46, 42]
abbrev dktL_law_31 : List UInt8 := dkwL_law_31 ++ dktL_law_32
def dkwL_law_30 : List UInt8 := [153, 0, 5, 3, 172, 167, 7, 7, 43, 42, 21, 5, 4, 96, 46, 42, 21, 5, 5, 96, 46, 42, 21, 5]
abbrev dktL_law_30 : List UInt8 := dkwL_law_30 ++ dktL_law_31
def dkwL_law_29 : List UInt8 := [182, 0, 156, 21, 6, 159, 0, 5, 3, 172, 21, 6, 154, 0, 15, 45, 3, 47, 21, 7, 133, 148]
abbrev dktL_law_29 : List UInt8 := dkwL_law_29 ++ dktL_law_30
def dkwL_law_28 : List UInt8 := [21, 5, 4, 96, 46, 42, 21, 5, 5, 96, 46, 42, 21, 5, 6, 96, 46, 182, 0, 191, 54, 7, 44]
abbrev dktL_law_28 : List UInt8 := dkwL_law_28 ++ dktL_law_29
def dkwL_law_27 : List UInt8 := [4, 96, 46, 42, 21, 5, 5, 96, 46, 42, 21, 5, 6, 96, 46, 45, 184, 0, 188, 54, 6, 44, 42]
abbrev dktL_law_27 : List UInt8 := dkwL_law_27 ++ dktL_law_28
def dkwL_law_26 : List UInt8 := [21, 6, 154, 0, 15, 45, 3, 47, 21, 7, 133, 148, 153, 0, 5, 3, 172, 167, 7, 87, 43, 42, 21, 5]
abbrev dktL_law_26 : List UInt8 := dkwL_law_26 ++ dktL_law_27
def dkwL_law_25 : List UInt8 := [46, 42, 21, 5, 6, 96, 46, 146, 182, 0, 187, 54, 7, 44, 182, 0, 156, 21, 6, 159, 0, 5, 3, 172]
abbrev dktL_law_25 : List UInt8 := dkwL_law_25 ++ dktL_law_26
def dkwL_law_24 : List UInt8 := [21, 5, 6, 96, 46, 146, 45, 184, 0, 184, 54, 6, 44, 42, 21, 5, 4, 96, 46, 42, 21, 5, 5, 96]
abbrev dktL_law_24 : List UInt8 := dkwL_law_24 ++ dktL_law_25
def dkwL_law_23 : List UInt8 := [148, 153, 0, 5, 3, 172, 167, 7, 169, 43, 42, 21, 5, 4, 96, 46, 42, 21, 5, 5, 96, 46, 42]
abbrev dktL_law_23 : List UInt8 := dkwL_law_23 ++ dktL_law_24
def dkwL_law_22 : List UInt8 := [54, 7, 44, 182, 0, 156, 21, 6, 159, 0, 5, 3, 172, 21, 6, 154, 0, 15, 45, 3, 47, 21, 7, 133]
abbrev dktL_law_22 : List UInt8 := dkwL_law_22 ++ dktL_law_23
def dkwL_law_21 : List UInt8 := [46, 45, 184, 0, 180, 54, 6, 44, 42, 21, 5, 4, 96, 46, 42, 21, 5, 5, 96, 46, 182, 0, 183]
abbrev dktL_law_21 : List UInt8 := dkwL_law_21 ++ dktL_law_22
def dkwL_law_20 : List UInt8 := [21, 7, 133, 148, 153, 0, 5, 3, 172, 167, 7, 237, 43, 42, 21, 5, 4, 96, 46, 42, 21, 5, 5, 96]
abbrev dktL_law_20 : List UInt8 := dkwL_law_20 ++ dktL_law_21
def dkwL_law_19 : List UInt8 := [182, 0, 179, 54, 7, 44, 182, 0, 156, 21, 6, 159, 0, 5, 3, 172, 21, 6, 154, 0, 15, 45, 3, 47]
abbrev dktL_law_19 : List UInt8 := dkwL_law_19 ++ dktL_law_20
def dkwL_law_18 : List UInt8 := [4, 96, 46, 42, 21, 5, 5, 96, 46, 42, 21, 5, 6, 96, 46, 42, 21, 5, 7, 96, 46, 146]
abbrev dktL_law_18 : List UInt8 := dkwL_law_18 ++ dktL_law_19
def dkwL_law_17 : List UInt8 := [46, 42, 21, 5, 6, 96, 46, 42, 21, 5, 7, 96, 46, 146, 45, 184, 0, 176, 54, 6, 44, 42, 21, 5]
abbrev dktL_law_17 : List UInt8 := dkwL_law_17 ++ dktL_law_18
def dkwL_law_16 : List UInt8 := [21, 7, 133, 148, 153, 0, 5, 3, 172, 167, 8, 75, 43, 42, 21, 5, 4, 96, 46, 42, 21, 5, 5, 96]
abbrev dktL_law_16 : List UInt8 := dkwL_law_16 ++ dktL_law_17
def dkwL_law_15 : List UInt8 := [182, 0, 175, 54, 7, 44, 182, 0, 156, 21, 6, 159, 0, 5, 3, 172, 21, 6, 154, 0, 15, 45, 3, 47]
abbrev dktL_law_15 : List UInt8 := dkwL_law_15 ++ dktL_law_16
def dkwL_law_14 : List UInt8 := [167, 8, 131, 43, 42, 21, 5, 4, 96, 46, 45, 184, 0, 173, 54, 6, 44, 42, 21, 5, 4, 96, 46]
abbrev dktL_law_14 : List UInt8 := dkwL_law_14 ++ dktL_law_15
def dkwL_law_13 : List UInt8 := [159, 0, 5, 3, 172, 21, 6, 154, 0, 15, 45, 3, 47, 21, 7, 133, 148, 153, 0, 5, 3, 172]
abbrev dktL_law_13 : List UInt8 := dkwL_law_13 ++ dktL_law_14
def dkwL_law_12 : List UInt8 := [167, 8, 175, 43, 45, 184, 0, 170, 54, 6, 44, 182, 0, 172, 54, 7, 44, 182, 0, 156, 21, 6]
abbrev dktL_law_12 : List UInt8 := dkwL_law_12 ++ dktL_law_13
def dkwL_law_11 : List UInt8 := [21, 6, 159, 0, 5, 3, 172, 21, 6, 154, 0, 15, 45, 3, 47, 21, 7, 133, 148, 153, 0, 5, 3, 172]
abbrev dktL_law_11 : List UInt8 := dkwL_law_11 ++ dktL_law_12
def dkwL_law_10 : List UInt8 := [46, 45, 184, 0, 167, 54, 6, 44, 42, 21, 5, 4, 96, 46, 182, 0, 169, 54, 7, 44, 182, 0, 156]
abbrev dktL_law_10 : List UInt8 := dkwL_law_10 ++ dktL_law_11
def dkwL_law_9 : List UInt8 := [154, 0, 15, 45, 3, 47, 21, 7, 133, 148, 153, 0, 5, 3, 172, 167, 8, 231, 43, 42, 21, 5, 4, 96]
abbrev dktL_law_9 : List UInt8 := dkwL_law_9 ++ dktL_law_10
def dkwL_law_8 : List UInt8 := [184, 0, 163, 54, 6, 44, 182, 0, 166, 54, 7, 44, 182, 0, 156, 21, 6, 159, 0, 5, 3, 172, 21, 6]
abbrev dktL_law_8 : List UInt8 := dkwL_law_8 ++ dktL_law_9
def dkwL_law_7 : List UInt8 := [172, 21, 6, 154, 0, 15, 45, 3, 47, 21, 7, 133, 148, 153, 0, 5, 3, 172, 167, 9, 19, 43, 45]
abbrev dktL_law_7 : List UInt8 := dkwL_law_7 ++ dktL_law_8
def dkwL_law_6 : List UInt8 := [54, 6, 44, 42, 21, 5, 4, 96, 46, 182, 0, 162, 54, 7, 44, 182, 0, 156, 21, 6, 159, 0, 5, 3]
abbrev dktL_law_6 : List UInt8 := dkwL_law_6 ++ dktL_law_7
def dkwL_law_5 : List UInt8 := [21, 7, 133, 148, 153, 0, 5, 3, 172, 167, 9, 75, 43, 42, 21, 5, 4, 96, 46, 45, 184, 0, 159]
abbrev dktL_law_5 : List UInt8 := dkwL_law_5 ++ dktL_law_6
def dkwL_law_4 : List UInt8 := [182, 0, 155, 54, 7, 44, 182, 0, 156, 21, 6, 159, 0, 5, 3, 172, 21, 6, 154, 0, 15, 45, 3, 47]
abbrev dktL_law_4 : List UInt8 := dkwL_law_4 ++ dktL_law_5
def dkwL_law_3 : List UInt8 := [43, 42, 21, 5, 4, 96, 46, 146, 45, 184, 0, 150, 54, 6, 44, 42, 21, 5, 4, 96, 46, 146]
abbrev dktL_law_3 : List UInt8 := dkwL_law_3 ++ dktL_law_4
def dkwL_law_2 : List UInt8 := [170, 0, 0, 0, 0, 0, 10, 46, 0, 0, 0, 0, 0, 0, 0, 38, 0, 0, 0, 172, 0, 0, 0, 230, 0, 0, 1, 30, 0, 0, 1, 74, 0, 0, 1, 130, 0, 0, 1, 174, 0, 0, 1, 230, 0, 0, 2, 68, 0, 0, 2, 136, 0, 0, 2, 218, 0, 0, 3, 42, 0, 0, 3, 122, 0, 0, 3, 190, 0, 0, 3, 246, 0, 0, 4, 58, 0, 0, 4, 126, 0, 0, 4, 194, 0, 0, 5, 6, 0, 0, 5, 74, 0, 0, 5, 142, 0, 0, 5, 210, 0, 0, 6, 53, 0, 0, 6, 133, 0, 0, 6, 213, 0, 0, 7, 25, 0, 0, 7, 93, 0, 0, 7, 182, 0, 0, 7, 250, 0, 0, 8, 38, 0, 0, 8, 94, 0, 0, 8, 150, 0, 0, 8, 206, 0, 0, 9, 6, 0, 0, 9, 50, 0, 0, 9, 94, 0, 0, 9, 145, 0, 0, 9, 201, 0, 0, 9, 245, 0, 0, 10, 33]
abbrev dktL_law_2 : List UInt8 := dkwL_law_2 ++ dktL_law_3
def dkwL_law_1 : List UInt8 := [58, 4, 3, 54, 5, 21, 5, 42, 190, 8, 100, 163, 10, 62, 42, 21, 5, 46, 16, 63, 126]
abbrev dktL_law_1 : List UInt8 := dkwL_law_1 ++ dktL_law_2
def dkwL_law_0 : List UInt8 := [187, 0, 8, 89, 183, 0, 146, 76, 187, 0, 147, 89, 183, 0, 149, 77, 4, 188, 11, 78, 4, 188, 7]
abbrev dktL_law_0 : List UInt8 := dkwL_law_0 ++ dktL_law_1
theorem dksL_law_0 : cL_law.data.toList.drop 0 = dktL_law_0 := by decide +kernel
theorem dksL_law_1 : cL_law.data.toList.drop 23 = dktL_law_1 := dk_seg dksL_law_0 23 rfl rfl
theorem dksL_law_2 : cL_law.data.toList.drop 44 = dktL_law_2 := dk_seg dksL_law_1 21 rfl rfl
theorem dksL_law_3 : cL_law.data.toList.drop 216 = dktL_law_3 := dk_seg dksL_law_2 172 rfl rfl
theorem dksL_law_4 : cL_law.data.toList.drop 238 = dktL_law_4 := dk_seg dksL_law_3 22 rfl rfl
theorem dksL_law_5 : cL_law.data.toList.drop 262 = dktL_law_5 := dk_seg dksL_law_4 24 rfl rfl
theorem dksL_law_6 : cL_law.data.toList.drop 285 = dktL_law_6 := dk_seg dksL_law_5 23 rfl rfl
theorem dksL_law_7 : cL_law.data.toList.drop 309 = dktL_law_7 := dk_seg dksL_law_6 24 rfl rfl
theorem dksL_law_8 : cL_law.data.toList.drop 332 = dktL_law_8 := dk_seg dksL_law_7 23 rfl rfl
theorem dksL_law_9 : cL_law.data.toList.drop 356 = dktL_law_9 := dk_seg dksL_law_8 24 rfl rfl
theorem dksL_law_10 : cL_law.data.toList.drop 380 = dktL_law_10 := dk_seg dksL_law_9 24 rfl rfl
theorem dksL_law_11 : cL_law.data.toList.drop 403 = dktL_law_11 := dk_seg dksL_law_10 23 rfl rfl
theorem dksL_law_12 : cL_law.data.toList.drop 427 = dktL_law_12 := dk_seg dksL_law_11 24 rfl rfl
theorem dksL_law_13 : cL_law.data.toList.drop 449 = dktL_law_13 := dk_seg dksL_law_12 22 rfl rfl
theorem dksL_law_14 : cL_law.data.toList.drop 471 = dktL_law_14 := dk_seg dksL_law_13 22 rfl rfl
theorem dksL_law_15 : cL_law.data.toList.drop 494 = dktL_law_15 := dk_seg dksL_law_14 23 rfl rfl
theorem dksL_law_16 : cL_law.data.toList.drop 518 = dktL_law_16 := dk_seg dksL_law_15 24 rfl rfl
theorem dksL_law_17 : cL_law.data.toList.drop 542 = dktL_law_17 := dk_seg dksL_law_16 24 rfl rfl
theorem dksL_law_18 : cL_law.data.toList.drop 566 = dktL_law_18 := dk_seg dksL_law_17 24 rfl rfl
theorem dksL_law_19 : cL_law.data.toList.drop 588 = dktL_law_19 := dk_seg dksL_law_18 22 rfl rfl
theorem dksL_law_20 : cL_law.data.toList.drop 612 = dktL_law_20 := dk_seg dksL_law_19 24 rfl rfl
theorem dksL_law_21 : cL_law.data.toList.drop 636 = dktL_law_21 := dk_seg dksL_law_20 24 rfl rfl
theorem dksL_law_22 : cL_law.data.toList.drop 659 = dktL_law_22 := dk_seg dksL_law_21 23 rfl rfl
theorem dksL_law_23 : cL_law.data.toList.drop 683 = dktL_law_23 := dk_seg dksL_law_22 24 rfl rfl
theorem dksL_law_24 : cL_law.data.toList.drop 706 = dktL_law_24 := dk_seg dksL_law_23 23 rfl rfl
theorem dksL_law_25 : cL_law.data.toList.drop 730 = dktL_law_25 := dk_seg dksL_law_24 24 rfl rfl
theorem dksL_law_26 : cL_law.data.toList.drop 754 = dktL_law_26 := dk_seg dksL_law_25 24 rfl rfl
theorem dksL_law_27 : cL_law.data.toList.drop 778 = dktL_law_27 := dk_seg dksL_law_26 24 rfl rfl
theorem dksL_law_28 : cL_law.data.toList.drop 801 = dktL_law_28 := dk_seg dksL_law_27 23 rfl rfl
theorem dksL_law_29 : cL_law.data.toList.drop 824 = dktL_law_29 := dk_seg dksL_law_28 23 rfl rfl
theorem dksL_law_30 : cL_law.data.toList.drop 846 = dktL_law_30 := dk_seg dksL_law_29 22 rfl rfl
theorem dksL_law_31 : cL_law.data.toList.drop 870 = dktL_law_31 := dk_seg dksL_law_30 24 rfl rfl
theorem dksL_law_32 : cL_law.data.toList.drop 893 = dktL_law_32 := dk_seg dksL_law_31 23 rfl rfl
theorem dksL_law_33 : cL_law.data.toList.drop 916 = dktL_law_33 := dk_seg dksL_law_32 23 rfl rfl
theorem dksL_law_34 : cL_law.data.toList.drop 940 = dktL_law_34 := dk_seg dksL_law_33 24 rfl rfl
theorem dksL_law_35 : cL_law.data.toList.drop 964 = dktL_law_35 := dk_seg dksL_law_34 24 rfl rfl
theorem dksL_law_36 : cL_law.data.toList.drop 988 = dktL_law_36 := dk_seg dksL_law_35 24 rfl rfl
theorem dksL_law_37 : cL_law.data.toList.drop 1010 = dktL_law_37 := dk_seg dksL_law_36 22 rfl rfl
theorem dksL_law_38 : cL_law.data.toList.drop 1033 = dktL_law_38 := dk_seg dksL_law_37 23 rfl rfl
theorem dksL_law_39 : cL_law.data.toList.drop 1055 = dktL_law_39 := dk_seg dksL_law_38 22 rfl rfl
theorem dksL_law_40 : cL_law.data.toList.drop 1079 = dktL_law_40 := dk_seg dksL_law_39 24 rfl rfl
theorem dksL_law_41 : cL_law.data.toList.drop 1101 = dktL_law_41 := dk_seg dksL_law_40 22 rfl rfl
theorem dksL_law_42 : cL_law.data.toList.drop 1123 = dktL_law_42 := dk_seg dksL_law_41 22 rfl rfl
theorem dksL_law_43 : cL_law.data.toList.drop 1147 = dktL_law_43 := dk_seg dksL_law_42 24 rfl rfl
theorem dksL_law_44 : cL_law.data.toList.drop 1169 = dktL_law_44 := dk_seg dksL_law_43 22 rfl rfl
theorem dksL_law_45 : cL_law.data.toList.drop 1191 = dktL_law_45 := dk_seg dksL_law_44 22 rfl rfl
theorem dksL_law_46 : cL_law.data.toList.drop 1215 = dktL_law_46 := dk_seg dksL_law_45 24 rfl rfl
theorem dksL_law_47 : cL_law.data.toList.drop 1237 = dktL_law_47 := dk_seg dksL_law_46 22 rfl rfl
theorem dksL_law_48 : cL_law.data.toList.drop 1259 = dktL_law_48 := dk_seg dksL_law_47 22 rfl rfl
theorem dksL_law_49 : cL_law.data.toList.drop 1283 = dktL_law_49 := dk_seg dksL_law_48 24 rfl rfl
theorem dksL_law_50 : cL_law.data.toList.drop 1305 = dktL_law_50 := dk_seg dksL_law_49 22 rfl rfl
theorem dksL_law_51 : cL_law.data.toList.drop 1327 = dktL_law_51 := dk_seg dksL_law_50 22 rfl rfl
theorem dksL_law_52 : cL_law.data.toList.drop 1351 = dktL_law_52 := dk_seg dksL_law_51 24 rfl rfl
theorem dksL_law_53 : cL_law.data.toList.drop 1373 = dktL_law_53 := dk_seg dksL_law_52 22 rfl rfl
theorem dksL_law_54 : cL_law.data.toList.drop 1395 = dktL_law_54 := dk_seg dksL_law_53 22 rfl rfl
theorem dksL_law_55 : cL_law.data.toList.drop 1419 = dktL_law_55 := dk_seg dksL_law_54 24 rfl rfl
theorem dksL_law_56 : cL_law.data.toList.drop 1441 = dktL_law_56 := dk_seg dksL_law_55 22 rfl rfl
theorem dksL_law_57 : cL_law.data.toList.drop 1463 = dktL_law_57 := dk_seg dksL_law_56 22 rfl rfl
theorem dksL_law_58 : cL_law.data.toList.drop 1487 = dktL_law_58 := dk_seg dksL_law_57 24 rfl rfl
theorem dksL_law_59 : cL_law.data.toList.drop 1509 = dktL_law_59 := dk_seg dksL_law_58 22 rfl rfl
theorem dksL_law_60 : cL_law.data.toList.drop 1531 = dktL_law_60 := dk_seg dksL_law_59 22 rfl rfl
theorem dksL_law_61 : cL_law.data.toList.drop 1554 = dktL_law_61 := dk_seg dksL_law_60 23 rfl rfl
theorem dksL_law_62 : cL_law.data.toList.drop 1578 = dktL_law_62 := dk_seg dksL_law_61 24 rfl rfl
theorem dksL_law_63 : cL_law.data.toList.drop 1601 = dktL_law_63 := dk_seg dksL_law_62 23 rfl rfl
theorem dksL_law_64 : cL_law.data.toList.drop 1625 = dktL_law_64 := dk_seg dksL_law_63 24 rfl rfl
theorem dksL_law_65 : cL_law.data.toList.drop 1649 = dktL_law_65 := dk_seg dksL_law_64 24 rfl rfl
theorem dksL_law_66 : cL_law.data.toList.drop 1672 = dktL_law_66 := dk_seg dksL_law_65 23 rfl rfl
theorem dksL_law_67 : cL_law.data.toList.drop 1695 = dktL_law_67 := dk_seg dksL_law_66 23 rfl rfl
theorem dksL_law_68 : cL_law.data.toList.drop 1719 = dktL_law_68 := dk_seg dksL_law_67 24 rfl rfl
theorem dksL_law_69 : cL_law.data.toList.drop 1743 = dktL_law_69 := dk_seg dksL_law_68 24 rfl rfl
theorem dksL_law_70 : cL_law.data.toList.drop 1766 = dktL_law_70 := dk_seg dksL_law_69 23 rfl rfl
theorem dksL_law_71 : cL_law.data.toList.drop 1790 = dktL_law_71 := dk_seg dksL_law_70 24 rfl rfl
theorem dksL_law_72 : cL_law.data.toList.drop 1814 = dktL_law_72 := dk_seg dksL_law_71 24 rfl rfl
theorem dksL_law_73 : cL_law.data.toList.drop 1836 = dktL_law_73 := dk_seg dksL_law_72 22 rfl rfl
theorem dksL_law_74 : cL_law.data.toList.drop 1858 = dktL_law_74 := dk_seg dksL_law_73 22 rfl rfl
theorem dksL_law_75 : cL_law.data.toList.drop 1882 = dktL_law_75 := dk_seg dksL_law_74 24 rfl rfl
theorem dksL_law_76 : cL_law.data.toList.drop 1904 = dktL_law_76 := dk_seg dksL_law_75 22 rfl rfl
theorem dksL_law_77 : cL_law.data.toList.drop 1926 = dktL_law_77 := dk_seg dksL_law_76 22 rfl rfl
theorem dksL_law_78 : cL_law.data.toList.drop 1950 = dktL_law_78 := dk_seg dksL_law_77 24 rfl rfl
theorem dksL_law_79 : cL_law.data.toList.drop 1973 = dktL_law_79 := dk_seg dksL_law_78 23 rfl rfl
theorem dksL_law_80 : cL_law.data.toList.drop 1997 = dktL_law_80 := dk_seg dksL_law_79 24 rfl rfl
theorem dksL_law_81 : cL_law.data.toList.drop 2020 = dktL_law_81 := dk_seg dksL_law_80 23 rfl rfl
theorem dksL_law_82 : cL_law.data.toList.drop 2044 = dktL_law_82 := dk_seg dksL_law_81 24 rfl rfl
theorem dksL_law_83 : cL_law.data.toList.drop 2068 = dktL_law_83 := dk_seg dksL_law_82 24 rfl rfl
theorem dksL_law_84 : cL_law.data.toList.drop 2091 = dktL_law_84 := dk_seg dksL_law_83 23 rfl rfl
theorem dksL_law_85 : cL_law.data.toList.drop 2115 = dktL_law_85 := dk_seg dksL_law_84 24 rfl rfl
theorem dksL_law_86 : cL_law.data.toList.drop 2138 = dktL_law_86 := dk_seg dksL_law_85 23 rfl rfl
theorem dksL_law_87 : cL_law.data.toList.drop 2161 = dktL_law_87 := dk_seg dksL_law_86 23 rfl rfl
theorem dksL_law_88 : cL_law.data.toList.drop 2183 = dktL_law_88 := dk_seg dksL_law_87 22 rfl rfl
theorem dksL_law_89 : cL_law.data.toList.drop 2206 = dktL_law_89 := dk_seg dksL_law_88 23 rfl rfl
theorem dksL_law_90 : cL_law.data.toList.drop 2230 = dktL_law_90 := dk_seg dksL_law_89 24 rfl rfl
theorem dksL_law_91 : cL_law.data.toList.drop 2253 = dktL_law_91 := dk_seg dksL_law_90 23 rfl rfl
theorem dksL_law_92 : cL_law.data.toList.drop 2277 = dktL_law_92 := dk_seg dksL_law_91 24 rfl rfl
theorem dksL_law_93 : cL_law.data.toList.drop 2300 = dktL_law_93 := dk_seg dksL_law_92 23 rfl rfl
theorem dksL_law_94 : cL_law.data.toList.drop 2324 = dktL_law_94 := dk_seg dksL_law_93 24 rfl rfl
theorem dksL_law_95 : cL_law.data.toList.drop 2346 = dktL_law_95 := dk_seg dksL_law_94 22 rfl rfl
theorem dksL_law_96 : cL_law.data.toList.drop 2368 = dktL_law_96 := dk_seg dksL_law_95 22 rfl rfl
theorem dksL_law_97 : cL_law.data.toList.drop 2390 = dktL_law_97 := dk_seg dksL_law_96 22 rfl rfl
theorem dksL_law_98 : cL_law.data.toList.drop 2412 = dktL_law_98 := dk_seg dksL_law_97 22 rfl rfl
theorem dksL_law_99 : cL_law.data.toList.drop 2434 = dktL_law_99 := dk_seg dksL_law_98 22 rfl rfl
theorem dksL_law_100 : cL_law.data.toList.drop 2456 = dktL_law_100 := dk_seg dksL_law_99 22 rfl rfl
theorem dksL_law_101 : cL_law.data.toList.drop 2480 = dktL_law_101 := dk_seg dksL_law_100 24 rfl rfl
theorem dksL_law_102 : cL_law.data.toList.drop 2504 = dktL_law_102 := dk_seg dksL_law_101 24 rfl rfl
theorem dksL_law_103 : cL_law.data.toList.drop 2528 = dktL_law_103 := dk_seg dksL_law_102 24 rfl rfl
theorem dksL_law_104 : cL_law.data.toList.drop 2551 = dktL_law_104 := dk_seg dksL_law_103 23 rfl rfl
theorem dksL_law_105 : cL_law.data.toList.drop 2575 = dktL_law_105 := dk_seg dksL_law_104 24 rfl rfl
theorem dksL_law_106 : cL_law.data.toList.drop 2598 = dktL_law_106 := dk_seg dksL_law_105 23 rfl rfl
theorem dksL_law_107 : cL_law.data.toList.drop 2622 = dktL_law_107 := dk_seg dksL_law_106 24 rfl rfl
theorem dksL_law_108 : cL_law.data.toList.drop 2645 = dktL_law_108 := dk_seg dksL_law_107 23 rfl rfl
theorem dL_law_0 : decode cL_law 0 = .ok (.new 8, 3) := dk_187 0 8 (dk_at dksL_law_0 0 rfl rfl)
theorem dL_law_3 : decode cL_law 3 = .ok (.dup, 1) := dk_89 (dk_at dksL_law_0 3 rfl rfl)
theorem dL_law_4 : decode cL_law 4 = .ok (.invokespecial 146, 3) := dk_183 0 146 (dk_at dksL_law_0 4 rfl rfl)
theorem dL_law_7 : decode cL_law 7 = .ok (.astore_n 1, 1) := dk_76 (dk_at dksL_law_0 7 rfl rfl)
theorem dL_law_8 : decode cL_law 8 = .ok (.new 147, 3) := dk_187 0 147 (dk_at dksL_law_0 8 rfl rfl)
theorem dL_law_11 : decode cL_law 11 = .ok (.dup, 1) := dk_89 (dk_at dksL_law_0 11 rfl rfl)
theorem dL_law_12 : decode cL_law 12 = .ok (.invokespecial 149, 3) := dk_183 0 149 (dk_at dksL_law_0 12 rfl rfl)
theorem dL_law_15 : decode cL_law 15 = .ok (.astore_n 2, 1) := dk_77 (dk_at dksL_law_0 15 rfl rfl)
theorem dL_law_16 : decode cL_law 16 = .ok (.iconst 1, 1) := dk_4 (dk_at dksL_law_0 16 rfl rfl)
theorem dL_law_17 : decode cL_law 17 = .ok (.newarray .long, 2) := dk_188_11 (dk_at dksL_law_0 17 rfl rfl)
theorem dL_law_19 : decode cL_law 19 = .ok (.astore_n 3, 1) := dk_78 (dk_at dksL_law_0 19 rfl rfl)
theorem dL_law_20 : decode cL_law 20 = .ok (.iconst 1, 1) := dk_4 (dk_at dksL_law_0 20 rfl rfl)
theorem dL_law_21 : decode cL_law 21 = .ok (.newarray .double, 2) := dk_188_7 (dk_at dksL_law_0 21 rfl rfl)
theorem dL_law_23 : decode cL_law 23 = .ok (.astore 4, 2) := dk_58 4 (dk_at dksL_law_1 0 rfl rfl)
theorem dL_law_25 : decode cL_law 25 = .ok (.iconst 0, 1) := dk_3 (dk_at dksL_law_1 2 rfl rfl)
theorem dL_law_26 : decode cL_law 26 = .ok (.istore 5, 2) := dk_54 5 (dk_at dksL_law_1 3 rfl rfl)
theorem dL_law_28 : decode cL_law 28 = .ok (.iload 5, 2) := dk_21 5 (dk_at dksL_law_1 5 rfl rfl)
theorem dL_law_30 : decode cL_law 30 = .ok (.aload_n 0, 1) := dk_42 (dk_at dksL_law_1 7 rfl rfl)
theorem dL_law_31 : decode cL_law 31 = .ok (.arraylength, 1) := dk_190 (dk_at dksL_law_1 8 rfl rfl)
theorem dL_law_32 : decode cL_law 32 = .ok (.iconst 5, 1) := dk_8 (dk_at dksL_law_1 9 rfl rfl)
theorem dL_law_33 : decode cL_law 33 = .ok (.isub, 1) := dk_100 (dk_at dksL_law_1 10 rfl rfl)
theorem dL_law_34 : decode cL_law 34 = .ok (.if_icmp .gt 2622, 3) := dk_163 10 62 (dk_at dksL_law_1 11 rfl rfl)
theorem dL_law_37 : decode cL_law 37 = .ok (.aload_n 0, 1) := dk_42 (dk_at dksL_law_1 14 rfl rfl)
theorem dL_law_38 : decode cL_law 38 = .ok (.iload 5, 2) := dk_21 5 (dk_at dksL_law_1 15 rfl rfl)
theorem dL_law_40 : decode cL_law 40 = .ok (.iaload, 1) := dk_46 (dk_at dksL_law_1 17 rfl rfl)
theorem dL_law_41 : decode cL_law 41 = .ok (.bipush 63, 2) := dk_16 63 (dk_at dksL_law_1 18 rfl rfl)
theorem dL_law_43 : decode cL_law 43 = .ok (.iand, 1) := dk_126 (dk_at dksL_law_1 20 rfl rfl)
theorem dL_law_44 : decode cL_law 44 = .ok (.tableswitch 2606 0 38 #[172, 230, 286, 330, 386, 430, 486, 580, 648, 730, 810, 890, 958, 1014, 1082, 1150, 1218, 1286, 1354, 1422, 1490, 1589, 1669, 1749, 1817, 1885, 1974, 2042, 2086, 2142, 2198, 2254, 2310, 2354, 2398, 2449, 2505, 2549, 2593], 172) := by decide +kernel
theorem dL_law_216 : decode cL_law 216 = .ok (.aload_n 1, 1) := dk_43 (dk_at dksL_law_3 0 rfl rfl)
theorem dL_law_217 : decode cL_law 217 = .ok (.aload_n 0, 1) := dk_42 (dk_at dksL_law_3 1 rfl rfl)
theorem dL_law_218 : decode cL_law 218 = .ok (.iload 5, 2) := dk_21 5 (dk_at dksL_law_3 2 rfl rfl)
theorem dL_law_220 : decode cL_law 220 = .ok (.iconst 1, 1) := dk_4 (dk_at dksL_law_3 4 rfl rfl)
theorem dL_law_221 : decode cL_law 221 = .ok (.iadd, 1) := dk_96 (dk_at dksL_law_3 5 rfl rfl)
theorem dL_law_222 : decode cL_law 222 = .ok (.iaload, 1) := dk_46 (dk_at dksL_law_3 6 rfl rfl)
theorem dL_law_223 : decode cL_law 223 = .ok (.i2c, 1) := dk_146 (dk_at dksL_law_3 7 rfl rfl)
theorem dL_law_224 : decode cL_law 224 = .ok (.aload_n 3, 1) := dk_45 (dk_at dksL_law_3 8 rfl rfl)
theorem dL_law_225 : decode cL_law 225 = .ok (.invokestatic 150, 3) := dk_184 0 150 (dk_at dksL_law_3 9 rfl rfl)
theorem dL_law_228 : decode cL_law 228 = .ok (.istore 6, 2) := dk_54 6 (dk_at dksL_law_3 12 rfl rfl)
theorem dL_law_230 : decode cL_law 230 = .ok (.aload_n 2, 1) := dk_44 (dk_at dksL_law_3 14 rfl rfl)
theorem dL_law_231 : decode cL_law 231 = .ok (.aload_n 0, 1) := dk_42 (dk_at dksL_law_3 15 rfl rfl)
theorem dL_law_232 : decode cL_law 232 = .ok (.iload 5, 2) := dk_21 5 (dk_at dksL_law_3 16 rfl rfl)
theorem dL_law_234 : decode cL_law 234 = .ok (.iconst 1, 1) := dk_4 (dk_at dksL_law_3 18 rfl rfl)
theorem dL_law_235 : decode cL_law 235 = .ok (.iadd, 1) := dk_96 (dk_at dksL_law_3 19 rfl rfl)
theorem dL_law_236 : decode cL_law 236 = .ok (.iaload, 1) := dk_46 (dk_at dksL_law_3 20 rfl rfl)
theorem dL_law_237 : decode cL_law 237 = .ok (.i2c, 1) := dk_146 (dk_at dksL_law_3 21 rfl rfl)
theorem dL_law_238 : decode cL_law 238 = .ok (.invokevirtual 155, 3) := dk_182 0 155 (dk_at dksL_law_4 0 rfl rfl)
theorem dL_law_241 : decode cL_law 241 = .ok (.istore 7, 2) := dk_54 7 (dk_at dksL_law_4 3 rfl rfl)
theorem dL_law_243 : decode cL_law 243 = .ok (.aload_n 2, 1) := dk_44 (dk_at dksL_law_4 5 rfl rfl)
theorem dL_law_244 : decode cL_law 244 = .ok (.invokevirtual 156, 3) := dk_182 0 156 (dk_at dksL_law_4 6 rfl rfl)
theorem dL_law_247 : decode cL_law 247 = .ok (.iload 6, 2) := dk_21 6 (dk_at dksL_law_4 9 rfl rfl)
theorem dL_law_249 : decode cL_law 249 = .ok (.if_icmp .eq 5, 3) := dk_159 0 5 (dk_at dksL_law_4 11 rfl rfl)
theorem dL_law_252 : decode cL_law 252 = .ok (.iconst 0, 1) := dk_3 (dk_at dksL_law_4 14 rfl rfl)
theorem dL_law_253 : decode cL_law 253 = .ok (.ireturn, 1) := dk_172 (dk_at dksL_law_4 15 rfl rfl)
theorem dL_law_254 : decode cL_law 254 = .ok (.iload 6, 2) := dk_21 6 (dk_at dksL_law_4 16 rfl rfl)
theorem dL_law_256 : decode cL_law 256 = .ok (.ifCond .ne 15, 3) := dk_154 0 15 (dk_at dksL_law_4 18 rfl rfl)
theorem dL_law_259 : decode cL_law 259 = .ok (.aload_n 3, 1) := dk_45 (dk_at dksL_law_4 21 rfl rfl)
theorem dL_law_260 : decode cL_law 260 = .ok (.iconst 0, 1) := dk_3 (dk_at dksL_law_4 22 rfl rfl)
theorem dL_law_261 : decode cL_law 261 = .ok (.laload, 1) := dk_47 (dk_at dksL_law_4 23 rfl rfl)
theorem dL_law_262 : decode cL_law 262 = .ok (.iload 7, 2) := dk_21 7 (dk_at dksL_law_5 0 rfl rfl)
theorem dL_law_264 : decode cL_law 264 = .ok (.i2l, 1) := dk_133 (dk_at dksL_law_5 2 rfl rfl)
theorem dL_law_265 : decode cL_law 265 = .ok (.lcmp, 1) := dk_148 (dk_at dksL_law_5 3 rfl rfl)
theorem dL_law_266 : decode cL_law 266 = .ok (.ifCond .eq 5, 3) := dk_153 0 5 (dk_at dksL_law_5 4 rfl rfl)
theorem dL_law_269 : decode cL_law 269 = .ok (.iconst 0, 1) := dk_3 (dk_at dksL_law_5 7 rfl rfl)
theorem dL_law_270 : decode cL_law 270 = .ok (.ireturn, 1) := dk_172 (dk_at dksL_law_5 8 rfl rfl)
theorem dL_law_271 : decode cL_law 271 = .ok (.goto 2379, 3) := dk_167 9 75 (dk_at dksL_law_5 9 rfl rfl)
theorem dL_law_274 : decode cL_law 274 = .ok (.aload_n 1, 1) := dk_43 (dk_at dksL_law_5 12 rfl rfl)
theorem dL_law_275 : decode cL_law 275 = .ok (.aload_n 0, 1) := dk_42 (dk_at dksL_law_5 13 rfl rfl)
theorem dL_law_276 : decode cL_law 276 = .ok (.iload 5, 2) := dk_21 5 (dk_at dksL_law_5 14 rfl rfl)
theorem dL_law_278 : decode cL_law 278 = .ok (.iconst 1, 1) := dk_4 (dk_at dksL_law_5 16 rfl rfl)
theorem dL_law_279 : decode cL_law 279 = .ok (.iadd, 1) := dk_96 (dk_at dksL_law_5 17 rfl rfl)
theorem dL_law_280 : decode cL_law 280 = .ok (.iaload, 1) := dk_46 (dk_at dksL_law_5 18 rfl rfl)
theorem dL_law_281 : decode cL_law 281 = .ok (.aload_n 3, 1) := dk_45 (dk_at dksL_law_5 19 rfl rfl)
theorem dL_law_282 : decode cL_law 282 = .ok (.invokestatic 159, 3) := dk_184 0 159 (dk_at dksL_law_5 20 rfl rfl)
theorem dL_law_285 : decode cL_law 285 = .ok (.istore 6, 2) := dk_54 6 (dk_at dksL_law_6 0 rfl rfl)
theorem dL_law_287 : decode cL_law 287 = .ok (.aload_n 2, 1) := dk_44 (dk_at dksL_law_6 2 rfl rfl)
theorem dL_law_288 : decode cL_law 288 = .ok (.aload_n 0, 1) := dk_42 (dk_at dksL_law_6 3 rfl rfl)
theorem dL_law_289 : decode cL_law 289 = .ok (.iload 5, 2) := dk_21 5 (dk_at dksL_law_6 4 rfl rfl)
theorem dL_law_291 : decode cL_law 291 = .ok (.iconst 1, 1) := dk_4 (dk_at dksL_law_6 6 rfl rfl)
theorem dL_law_292 : decode cL_law 292 = .ok (.iadd, 1) := dk_96 (dk_at dksL_law_6 7 rfl rfl)
theorem dL_law_293 : decode cL_law 293 = .ok (.iaload, 1) := dk_46 (dk_at dksL_law_6 8 rfl rfl)
theorem dL_law_294 : decode cL_law 294 = .ok (.invokevirtual 162, 3) := dk_182 0 162 (dk_at dksL_law_6 9 rfl rfl)
theorem dL_law_297 : decode cL_law 297 = .ok (.istore 7, 2) := dk_54 7 (dk_at dksL_law_6 12 rfl rfl)
theorem dL_law_299 : decode cL_law 299 = .ok (.aload_n 2, 1) := dk_44 (dk_at dksL_law_6 14 rfl rfl)
theorem dL_law_300 : decode cL_law 300 = .ok (.invokevirtual 156, 3) := dk_182 0 156 (dk_at dksL_law_6 15 rfl rfl)
theorem dL_law_303 : decode cL_law 303 = .ok (.iload 6, 2) := dk_21 6 (dk_at dksL_law_6 18 rfl rfl)
theorem dL_law_305 : decode cL_law 305 = .ok (.if_icmp .eq 5, 3) := dk_159 0 5 (dk_at dksL_law_6 20 rfl rfl)
theorem dL_law_308 : decode cL_law 308 = .ok (.iconst 0, 1) := dk_3 (dk_at dksL_law_6 23 rfl rfl)
theorem dL_law_309 : decode cL_law 309 = .ok (.ireturn, 1) := dk_172 (dk_at dksL_law_7 0 rfl rfl)
theorem dL_law_310 : decode cL_law 310 = .ok (.iload 6, 2) := dk_21 6 (dk_at dksL_law_7 1 rfl rfl)
theorem dL_law_312 : decode cL_law 312 = .ok (.ifCond .ne 15, 3) := dk_154 0 15 (dk_at dksL_law_7 3 rfl rfl)
theorem dL_law_315 : decode cL_law 315 = .ok (.aload_n 3, 1) := dk_45 (dk_at dksL_law_7 6 rfl rfl)
theorem dL_law_316 : decode cL_law 316 = .ok (.iconst 0, 1) := dk_3 (dk_at dksL_law_7 7 rfl rfl)
theorem dL_law_317 : decode cL_law 317 = .ok (.laload, 1) := dk_47 (dk_at dksL_law_7 8 rfl rfl)
theorem dL_law_318 : decode cL_law 318 = .ok (.iload 7, 2) := dk_21 7 (dk_at dksL_law_7 9 rfl rfl)
theorem dL_law_320 : decode cL_law 320 = .ok (.i2l, 1) := dk_133 (dk_at dksL_law_7 11 rfl rfl)
theorem dL_law_321 : decode cL_law 321 = .ok (.lcmp, 1) := dk_148 (dk_at dksL_law_7 12 rfl rfl)
theorem dL_law_322 : decode cL_law 322 = .ok (.ifCond .eq 5, 3) := dk_153 0 5 (dk_at dksL_law_7 13 rfl rfl)
theorem dL_law_325 : decode cL_law 325 = .ok (.iconst 0, 1) := dk_3 (dk_at dksL_law_7 16 rfl rfl)
theorem dL_law_326 : decode cL_law 326 = .ok (.ireturn, 1) := dk_172 (dk_at dksL_law_7 17 rfl rfl)
theorem dL_law_327 : decode cL_law 327 = .ok (.goto 2323, 3) := dk_167 9 19 (dk_at dksL_law_7 18 rfl rfl)
theorem dL_law_330 : decode cL_law 330 = .ok (.aload_n 1, 1) := dk_43 (dk_at dksL_law_7 21 rfl rfl)
theorem dL_law_331 : decode cL_law 331 = .ok (.aload_n 3, 1) := dk_45 (dk_at dksL_law_7 22 rfl rfl)
theorem dL_law_332 : decode cL_law 332 = .ok (.invokestatic 163, 3) := dk_184 0 163 (dk_at dksL_law_8 0 rfl rfl)
theorem dL_law_335 : decode cL_law 335 = .ok (.istore 6, 2) := dk_54 6 (dk_at dksL_law_8 3 rfl rfl)
theorem dL_law_337 : decode cL_law 337 = .ok (.aload_n 2, 1) := dk_44 (dk_at dksL_law_8 5 rfl rfl)
theorem dL_law_338 : decode cL_law 338 = .ok (.invokevirtual 166, 3) := dk_182 0 166 (dk_at dksL_law_8 6 rfl rfl)
theorem dL_law_341 : decode cL_law 341 = .ok (.istore 7, 2) := dk_54 7 (dk_at dksL_law_8 9 rfl rfl)
theorem dL_law_343 : decode cL_law 343 = .ok (.aload_n 2, 1) := dk_44 (dk_at dksL_law_8 11 rfl rfl)
theorem dL_law_344 : decode cL_law 344 = .ok (.invokevirtual 156, 3) := dk_182 0 156 (dk_at dksL_law_8 12 rfl rfl)
theorem dL_law_347 : decode cL_law 347 = .ok (.iload 6, 2) := dk_21 6 (dk_at dksL_law_8 15 rfl rfl)
theorem dL_law_349 : decode cL_law 349 = .ok (.if_icmp .eq 5, 3) := dk_159 0 5 (dk_at dksL_law_8 17 rfl rfl)
theorem dL_law_352 : decode cL_law 352 = .ok (.iconst 0, 1) := dk_3 (dk_at dksL_law_8 20 rfl rfl)
theorem dL_law_353 : decode cL_law 353 = .ok (.ireturn, 1) := dk_172 (dk_at dksL_law_8 21 rfl rfl)
theorem dL_law_354 : decode cL_law 354 = .ok (.iload 6, 2) := dk_21 6 (dk_at dksL_law_8 22 rfl rfl)
theorem dL_law_356 : decode cL_law 356 = .ok (.ifCond .ne 15, 3) := dk_154 0 15 (dk_at dksL_law_9 0 rfl rfl)
theorem dL_law_359 : decode cL_law 359 = .ok (.aload_n 3, 1) := dk_45 (dk_at dksL_law_9 3 rfl rfl)
theorem dL_law_360 : decode cL_law 360 = .ok (.iconst 0, 1) := dk_3 (dk_at dksL_law_9 4 rfl rfl)
theorem dL_law_361 : decode cL_law 361 = .ok (.laload, 1) := dk_47 (dk_at dksL_law_9 5 rfl rfl)
theorem dL_law_362 : decode cL_law 362 = .ok (.iload 7, 2) := dk_21 7 (dk_at dksL_law_9 6 rfl rfl)
theorem dL_law_364 : decode cL_law 364 = .ok (.i2l, 1) := dk_133 (dk_at dksL_law_9 8 rfl rfl)
theorem dL_law_365 : decode cL_law 365 = .ok (.lcmp, 1) := dk_148 (dk_at dksL_law_9 9 rfl rfl)
theorem dL_law_366 : decode cL_law 366 = .ok (.ifCond .eq 5, 3) := dk_153 0 5 (dk_at dksL_law_9 10 rfl rfl)
theorem dL_law_369 : decode cL_law 369 = .ok (.iconst 0, 1) := dk_3 (dk_at dksL_law_9 13 rfl rfl)
theorem dL_law_370 : decode cL_law 370 = .ok (.ireturn, 1) := dk_172 (dk_at dksL_law_9 14 rfl rfl)
theorem dL_law_371 : decode cL_law 371 = .ok (.goto 2279, 3) := dk_167 8 231 (dk_at dksL_law_9 15 rfl rfl)
theorem dL_law_374 : decode cL_law 374 = .ok (.aload_n 1, 1) := dk_43 (dk_at dksL_law_9 18 rfl rfl)
theorem dL_law_375 : decode cL_law 375 = .ok (.aload_n 0, 1) := dk_42 (dk_at dksL_law_9 19 rfl rfl)
theorem dL_law_376 : decode cL_law 376 = .ok (.iload 5, 2) := dk_21 5 (dk_at dksL_law_9 20 rfl rfl)
theorem dL_law_378 : decode cL_law 378 = .ok (.iconst 1, 1) := dk_4 (dk_at dksL_law_9 22 rfl rfl)
theorem dL_law_379 : decode cL_law 379 = .ok (.iadd, 1) := dk_96 (dk_at dksL_law_9 23 rfl rfl)
theorem dL_law_380 : decode cL_law 380 = .ok (.iaload, 1) := dk_46 (dk_at dksL_law_10 0 rfl rfl)
theorem dL_law_381 : decode cL_law 381 = .ok (.aload_n 3, 1) := dk_45 (dk_at dksL_law_10 1 rfl rfl)
theorem dL_law_382 : decode cL_law 382 = .ok (.invokestatic 167, 3) := dk_184 0 167 (dk_at dksL_law_10 2 rfl rfl)
theorem dL_law_385 : decode cL_law 385 = .ok (.istore 6, 2) := dk_54 6 (dk_at dksL_law_10 5 rfl rfl)
theorem dL_law_387 : decode cL_law 387 = .ok (.aload_n 2, 1) := dk_44 (dk_at dksL_law_10 7 rfl rfl)
theorem dL_law_388 : decode cL_law 388 = .ok (.aload_n 0, 1) := dk_42 (dk_at dksL_law_10 8 rfl rfl)
theorem dL_law_389 : decode cL_law 389 = .ok (.iload 5, 2) := dk_21 5 (dk_at dksL_law_10 9 rfl rfl)
theorem dL_law_391 : decode cL_law 391 = .ok (.iconst 1, 1) := dk_4 (dk_at dksL_law_10 11 rfl rfl)
theorem dL_law_392 : decode cL_law 392 = .ok (.iadd, 1) := dk_96 (dk_at dksL_law_10 12 rfl rfl)
theorem dL_law_393 : decode cL_law 393 = .ok (.iaload, 1) := dk_46 (dk_at dksL_law_10 13 rfl rfl)
theorem dL_law_394 : decode cL_law 394 = .ok (.invokevirtual 169, 3) := dk_182 0 169 (dk_at dksL_law_10 14 rfl rfl)
theorem dL_law_397 : decode cL_law 397 = .ok (.istore 7, 2) := dk_54 7 (dk_at dksL_law_10 17 rfl rfl)
theorem dL_law_399 : decode cL_law 399 = .ok (.aload_n 2, 1) := dk_44 (dk_at dksL_law_10 19 rfl rfl)
theorem dL_law_400 : decode cL_law 400 = .ok (.invokevirtual 156, 3) := dk_182 0 156 (dk_at dksL_law_10 20 rfl rfl)
theorem dL_law_403 : decode cL_law 403 = .ok (.iload 6, 2) := dk_21 6 (dk_at dksL_law_11 0 rfl rfl)
theorem dL_law_405 : decode cL_law 405 = .ok (.if_icmp .eq 5, 3) := dk_159 0 5 (dk_at dksL_law_11 2 rfl rfl)
theorem dL_law_408 : decode cL_law 408 = .ok (.iconst 0, 1) := dk_3 (dk_at dksL_law_11 5 rfl rfl)
theorem dL_law_409 : decode cL_law 409 = .ok (.ireturn, 1) := dk_172 (dk_at dksL_law_11 6 rfl rfl)
theorem dL_law_410 : decode cL_law 410 = .ok (.iload 6, 2) := dk_21 6 (dk_at dksL_law_11 7 rfl rfl)
theorem dL_law_412 : decode cL_law 412 = .ok (.ifCond .ne 15, 3) := dk_154 0 15 (dk_at dksL_law_11 9 rfl rfl)
theorem dL_law_415 : decode cL_law 415 = .ok (.aload_n 3, 1) := dk_45 (dk_at dksL_law_11 12 rfl rfl)
theorem dL_law_416 : decode cL_law 416 = .ok (.iconst 0, 1) := dk_3 (dk_at dksL_law_11 13 rfl rfl)
theorem dL_law_417 : decode cL_law 417 = .ok (.laload, 1) := dk_47 (dk_at dksL_law_11 14 rfl rfl)
theorem dL_law_418 : decode cL_law 418 = .ok (.iload 7, 2) := dk_21 7 (dk_at dksL_law_11 15 rfl rfl)
theorem dL_law_420 : decode cL_law 420 = .ok (.i2l, 1) := dk_133 (dk_at dksL_law_11 17 rfl rfl)
theorem dL_law_421 : decode cL_law 421 = .ok (.lcmp, 1) := dk_148 (dk_at dksL_law_11 18 rfl rfl)
theorem dL_law_422 : decode cL_law 422 = .ok (.ifCond .eq 5, 3) := dk_153 0 5 (dk_at dksL_law_11 19 rfl rfl)
theorem dL_law_425 : decode cL_law 425 = .ok (.iconst 0, 1) := dk_3 (dk_at dksL_law_11 22 rfl rfl)
theorem dL_law_426 : decode cL_law 426 = .ok (.ireturn, 1) := dk_172 (dk_at dksL_law_11 23 rfl rfl)
theorem dL_law_427 : decode cL_law 427 = .ok (.goto 2223, 3) := dk_167 8 175 (dk_at dksL_law_12 0 rfl rfl)
theorem dL_law_430 : decode cL_law 430 = .ok (.aload_n 1, 1) := dk_43 (dk_at dksL_law_12 3 rfl rfl)
theorem dL_law_431 : decode cL_law 431 = .ok (.aload_n 3, 1) := dk_45 (dk_at dksL_law_12 4 rfl rfl)
theorem dL_law_432 : decode cL_law 432 = .ok (.invokestatic 170, 3) := dk_184 0 170 (dk_at dksL_law_12 5 rfl rfl)
theorem dL_law_435 : decode cL_law 435 = .ok (.istore 6, 2) := dk_54 6 (dk_at dksL_law_12 8 rfl rfl)
theorem dL_law_437 : decode cL_law 437 = .ok (.aload_n 2, 1) := dk_44 (dk_at dksL_law_12 10 rfl rfl)
theorem dL_law_438 : decode cL_law 438 = .ok (.invokevirtual 172, 3) := dk_182 0 172 (dk_at dksL_law_12 11 rfl rfl)
theorem dL_law_441 : decode cL_law 441 = .ok (.istore 7, 2) := dk_54 7 (dk_at dksL_law_12 14 rfl rfl)
theorem dL_law_443 : decode cL_law 443 = .ok (.aload_n 2, 1) := dk_44 (dk_at dksL_law_12 16 rfl rfl)
theorem dL_law_444 : decode cL_law 444 = .ok (.invokevirtual 156, 3) := dk_182 0 156 (dk_at dksL_law_12 17 rfl rfl)
theorem dL_law_447 : decode cL_law 447 = .ok (.iload 6, 2) := dk_21 6 (dk_at dksL_law_12 20 rfl rfl)
theorem dL_law_449 : decode cL_law 449 = .ok (.if_icmp .eq 5, 3) := dk_159 0 5 (dk_at dksL_law_13 0 rfl rfl)
theorem dL_law_452 : decode cL_law 452 = .ok (.iconst 0, 1) := dk_3 (dk_at dksL_law_13 3 rfl rfl)
theorem dL_law_453 : decode cL_law 453 = .ok (.ireturn, 1) := dk_172 (dk_at dksL_law_13 4 rfl rfl)
theorem dL_law_454 : decode cL_law 454 = .ok (.iload 6, 2) := dk_21 6 (dk_at dksL_law_13 5 rfl rfl)
theorem dL_law_456 : decode cL_law 456 = .ok (.ifCond .ne 15, 3) := dk_154 0 15 (dk_at dksL_law_13 7 rfl rfl)
theorem dL_law_459 : decode cL_law 459 = .ok (.aload_n 3, 1) := dk_45 (dk_at dksL_law_13 10 rfl rfl)
theorem dL_law_460 : decode cL_law 460 = .ok (.iconst 0, 1) := dk_3 (dk_at dksL_law_13 11 rfl rfl)
theorem dL_law_461 : decode cL_law 461 = .ok (.laload, 1) := dk_47 (dk_at dksL_law_13 12 rfl rfl)
theorem dL_law_462 : decode cL_law 462 = .ok (.iload 7, 2) := dk_21 7 (dk_at dksL_law_13 13 rfl rfl)
theorem dL_law_464 : decode cL_law 464 = .ok (.i2l, 1) := dk_133 (dk_at dksL_law_13 15 rfl rfl)
theorem dL_law_465 : decode cL_law 465 = .ok (.lcmp, 1) := dk_148 (dk_at dksL_law_13 16 rfl rfl)
theorem dL_law_466 : decode cL_law 466 = .ok (.ifCond .eq 5, 3) := dk_153 0 5 (dk_at dksL_law_13 17 rfl rfl)
theorem dL_law_469 : decode cL_law 469 = .ok (.iconst 0, 1) := dk_3 (dk_at dksL_law_13 20 rfl rfl)
theorem dL_law_470 : decode cL_law 470 = .ok (.ireturn, 1) := dk_172 (dk_at dksL_law_13 21 rfl rfl)
theorem dL_law_471 : decode cL_law 471 = .ok (.goto 2179, 3) := dk_167 8 131 (dk_at dksL_law_14 0 rfl rfl)
theorem dL_law_474 : decode cL_law 474 = .ok (.aload_n 1, 1) := dk_43 (dk_at dksL_law_14 3 rfl rfl)
theorem dL_law_475 : decode cL_law 475 = .ok (.aload_n 0, 1) := dk_42 (dk_at dksL_law_14 4 rfl rfl)
theorem dL_law_476 : decode cL_law 476 = .ok (.iload 5, 2) := dk_21 5 (dk_at dksL_law_14 5 rfl rfl)
theorem dL_law_478 : decode cL_law 478 = .ok (.iconst 1, 1) := dk_4 (dk_at dksL_law_14 7 rfl rfl)
theorem dL_law_479 : decode cL_law 479 = .ok (.iadd, 1) := dk_96 (dk_at dksL_law_14 8 rfl rfl)
theorem dL_law_480 : decode cL_law 480 = .ok (.iaload, 1) := dk_46 (dk_at dksL_law_14 9 rfl rfl)
theorem dL_law_481 : decode cL_law 481 = .ok (.aload_n 3, 1) := dk_45 (dk_at dksL_law_14 10 rfl rfl)
theorem dL_law_482 : decode cL_law 482 = .ok (.invokestatic 173, 3) := dk_184 0 173 (dk_at dksL_law_14 11 rfl rfl)
theorem dL_law_485 : decode cL_law 485 = .ok (.istore 6, 2) := dk_54 6 (dk_at dksL_law_14 14 rfl rfl)
theorem dL_law_487 : decode cL_law 487 = .ok (.aload_n 2, 1) := dk_44 (dk_at dksL_law_14 16 rfl rfl)
theorem dL_law_488 : decode cL_law 488 = .ok (.aload_n 0, 1) := dk_42 (dk_at dksL_law_14 17 rfl rfl)
theorem dL_law_489 : decode cL_law 489 = .ok (.iload 5, 2) := dk_21 5 (dk_at dksL_law_14 18 rfl rfl)
theorem dL_law_491 : decode cL_law 491 = .ok (.iconst 1, 1) := dk_4 (dk_at dksL_law_14 20 rfl rfl)
theorem dL_law_492 : decode cL_law 492 = .ok (.iadd, 1) := dk_96 (dk_at dksL_law_14 21 rfl rfl)
theorem dL_law_493 : decode cL_law 493 = .ok (.iaload, 1) := dk_46 (dk_at dksL_law_14 22 rfl rfl)
theorem dL_law_494 : decode cL_law 494 = .ok (.invokevirtual 175, 3) := dk_182 0 175 (dk_at dksL_law_15 0 rfl rfl)
theorem dL_law_497 : decode cL_law 497 = .ok (.istore 7, 2) := dk_54 7 (dk_at dksL_law_15 3 rfl rfl)
theorem dL_law_499 : decode cL_law 499 = .ok (.aload_n 2, 1) := dk_44 (dk_at dksL_law_15 5 rfl rfl)
theorem dL_law_500 : decode cL_law 500 = .ok (.invokevirtual 156, 3) := dk_182 0 156 (dk_at dksL_law_15 6 rfl rfl)
theorem dL_law_503 : decode cL_law 503 = .ok (.iload 6, 2) := dk_21 6 (dk_at dksL_law_15 9 rfl rfl)
theorem dL_law_505 : decode cL_law 505 = .ok (.if_icmp .eq 5, 3) := dk_159 0 5 (dk_at dksL_law_15 11 rfl rfl)
theorem dL_law_508 : decode cL_law 508 = .ok (.iconst 0, 1) := dk_3 (dk_at dksL_law_15 14 rfl rfl)
theorem dL_law_509 : decode cL_law 509 = .ok (.ireturn, 1) := dk_172 (dk_at dksL_law_15 15 rfl rfl)
theorem dL_law_510 : decode cL_law 510 = .ok (.iload 6, 2) := dk_21 6 (dk_at dksL_law_15 16 rfl rfl)
theorem dL_law_512 : decode cL_law 512 = .ok (.ifCond .ne 15, 3) := dk_154 0 15 (dk_at dksL_law_15 18 rfl rfl)
theorem dL_law_515 : decode cL_law 515 = .ok (.aload_n 3, 1) := dk_45 (dk_at dksL_law_15 21 rfl rfl)
theorem dL_law_516 : decode cL_law 516 = .ok (.iconst 0, 1) := dk_3 (dk_at dksL_law_15 22 rfl rfl)
theorem dL_law_517 : decode cL_law 517 = .ok (.laload, 1) := dk_47 (dk_at dksL_law_15 23 rfl rfl)
theorem dL_law_518 : decode cL_law 518 = .ok (.iload 7, 2) := dk_21 7 (dk_at dksL_law_16 0 rfl rfl)
theorem dL_law_520 : decode cL_law 520 = .ok (.i2l, 1) := dk_133 (dk_at dksL_law_16 2 rfl rfl)
theorem dL_law_521 : decode cL_law 521 = .ok (.lcmp, 1) := dk_148 (dk_at dksL_law_16 3 rfl rfl)
theorem dL_law_522 : decode cL_law 522 = .ok (.ifCond .eq 5, 3) := dk_153 0 5 (dk_at dksL_law_16 4 rfl rfl)
theorem dL_law_525 : decode cL_law 525 = .ok (.iconst 0, 1) := dk_3 (dk_at dksL_law_16 7 rfl rfl)
theorem dL_law_526 : decode cL_law 526 = .ok (.ireturn, 1) := dk_172 (dk_at dksL_law_16 8 rfl rfl)
theorem dL_law_527 : decode cL_law 527 = .ok (.goto 2123, 3) := dk_167 8 75 (dk_at dksL_law_16 9 rfl rfl)
theorem dL_law_530 : decode cL_law 530 = .ok (.aload_n 1, 1) := dk_43 (dk_at dksL_law_16 12 rfl rfl)
theorem dL_law_531 : decode cL_law 531 = .ok (.aload_n 0, 1) := dk_42 (dk_at dksL_law_16 13 rfl rfl)
theorem dL_law_532 : decode cL_law 532 = .ok (.iload 5, 2) := dk_21 5 (dk_at dksL_law_16 14 rfl rfl)
theorem dL_law_534 : decode cL_law 534 = .ok (.iconst 1, 1) := dk_4 (dk_at dksL_law_16 16 rfl rfl)
theorem dL_law_535 : decode cL_law 535 = .ok (.iadd, 1) := dk_96 (dk_at dksL_law_16 17 rfl rfl)
theorem dL_law_536 : decode cL_law 536 = .ok (.iaload, 1) := dk_46 (dk_at dksL_law_16 18 rfl rfl)
theorem dL_law_537 : decode cL_law 537 = .ok (.aload_n 0, 1) := dk_42 (dk_at dksL_law_16 19 rfl rfl)
theorem dL_law_538 : decode cL_law 538 = .ok (.iload 5, 2) := dk_21 5 (dk_at dksL_law_16 20 rfl rfl)
theorem dL_law_540 : decode cL_law 540 = .ok (.iconst 2, 1) := dk_5 (dk_at dksL_law_16 22 rfl rfl)
theorem dL_law_541 : decode cL_law 541 = .ok (.iadd, 1) := dk_96 (dk_at dksL_law_16 23 rfl rfl)
theorem dL_law_542 : decode cL_law 542 = .ok (.iaload, 1) := dk_46 (dk_at dksL_law_17 0 rfl rfl)
theorem dL_law_543 : decode cL_law 543 = .ok (.aload_n 0, 1) := dk_42 (dk_at dksL_law_17 1 rfl rfl)
theorem dL_law_544 : decode cL_law 544 = .ok (.iload 5, 2) := dk_21 5 (dk_at dksL_law_17 2 rfl rfl)
theorem dL_law_546 : decode cL_law 546 = .ok (.iconst 3, 1) := dk_6 (dk_at dksL_law_17 4 rfl rfl)
theorem dL_law_547 : decode cL_law 547 = .ok (.iadd, 1) := dk_96 (dk_at dksL_law_17 5 rfl rfl)
theorem dL_law_548 : decode cL_law 548 = .ok (.iaload, 1) := dk_46 (dk_at dksL_law_17 6 rfl rfl)
theorem dL_law_549 : decode cL_law 549 = .ok (.aload_n 0, 1) := dk_42 (dk_at dksL_law_17 7 rfl rfl)
theorem dL_law_550 : decode cL_law 550 = .ok (.iload 5, 2) := dk_21 5 (dk_at dksL_law_17 8 rfl rfl)
theorem dL_law_552 : decode cL_law 552 = .ok (.iconst 4, 1) := dk_7 (dk_at dksL_law_17 10 rfl rfl)
theorem dL_law_553 : decode cL_law 553 = .ok (.iadd, 1) := dk_96 (dk_at dksL_law_17 11 rfl rfl)
theorem dL_law_554 : decode cL_law 554 = .ok (.iaload, 1) := dk_46 (dk_at dksL_law_17 12 rfl rfl)
theorem dL_law_555 : decode cL_law 555 = .ok (.i2c, 1) := dk_146 (dk_at dksL_law_17 13 rfl rfl)
theorem dL_law_556 : decode cL_law 556 = .ok (.aload_n 3, 1) := dk_45 (dk_at dksL_law_17 14 rfl rfl)
theorem dL_law_557 : decode cL_law 557 = .ok (.invokestatic 176, 3) := dk_184 0 176 (dk_at dksL_law_17 15 rfl rfl)
theorem dL_law_560 : decode cL_law 560 = .ok (.istore 6, 2) := dk_54 6 (dk_at dksL_law_17 18 rfl rfl)
theorem dL_law_562 : decode cL_law 562 = .ok (.aload_n 2, 1) := dk_44 (dk_at dksL_law_17 20 rfl rfl)
theorem dL_law_563 : decode cL_law 563 = .ok (.aload_n 0, 1) := dk_42 (dk_at dksL_law_17 21 rfl rfl)
theorem dL_law_564 : decode cL_law 564 = .ok (.iload 5, 2) := dk_21 5 (dk_at dksL_law_17 22 rfl rfl)
theorem dL_law_566 : decode cL_law 566 = .ok (.iconst 1, 1) := dk_4 (dk_at dksL_law_18 0 rfl rfl)
theorem dL_law_567 : decode cL_law 567 = .ok (.iadd, 1) := dk_96 (dk_at dksL_law_18 1 rfl rfl)
theorem dL_law_568 : decode cL_law 568 = .ok (.iaload, 1) := dk_46 (dk_at dksL_law_18 2 rfl rfl)
theorem dL_law_569 : decode cL_law 569 = .ok (.aload_n 0, 1) := dk_42 (dk_at dksL_law_18 3 rfl rfl)
theorem dL_law_570 : decode cL_law 570 = .ok (.iload 5, 2) := dk_21 5 (dk_at dksL_law_18 4 rfl rfl)
theorem dL_law_572 : decode cL_law 572 = .ok (.iconst 2, 1) := dk_5 (dk_at dksL_law_18 6 rfl rfl)
theorem dL_law_573 : decode cL_law 573 = .ok (.iadd, 1) := dk_96 (dk_at dksL_law_18 7 rfl rfl)
theorem dL_law_574 : decode cL_law 574 = .ok (.iaload, 1) := dk_46 (dk_at dksL_law_18 8 rfl rfl)
theorem dL_law_575 : decode cL_law 575 = .ok (.aload_n 0, 1) := dk_42 (dk_at dksL_law_18 9 rfl rfl)
theorem dL_law_576 : decode cL_law 576 = .ok (.iload 5, 2) := dk_21 5 (dk_at dksL_law_18 10 rfl rfl)
theorem dL_law_578 : decode cL_law 578 = .ok (.iconst 3, 1) := dk_6 (dk_at dksL_law_18 12 rfl rfl)
theorem dL_law_579 : decode cL_law 579 = .ok (.iadd, 1) := dk_96 (dk_at dksL_law_18 13 rfl rfl)
theorem dL_law_580 : decode cL_law 580 = .ok (.iaload, 1) := dk_46 (dk_at dksL_law_18 14 rfl rfl)
theorem dL_law_581 : decode cL_law 581 = .ok (.aload_n 0, 1) := dk_42 (dk_at dksL_law_18 15 rfl rfl)
theorem dL_law_582 : decode cL_law 582 = .ok (.iload 5, 2) := dk_21 5 (dk_at dksL_law_18 16 rfl rfl)
theorem dL_law_584 : decode cL_law 584 = .ok (.iconst 4, 1) := dk_7 (dk_at dksL_law_18 18 rfl rfl)
theorem dL_law_585 : decode cL_law 585 = .ok (.iadd, 1) := dk_96 (dk_at dksL_law_18 19 rfl rfl)
theorem dL_law_586 : decode cL_law 586 = .ok (.iaload, 1) := dk_46 (dk_at dksL_law_18 20 rfl rfl)
theorem dL_law_587 : decode cL_law 587 = .ok (.i2c, 1) := dk_146 (dk_at dksL_law_18 21 rfl rfl)
theorem dL_law_588 : decode cL_law 588 = .ok (.invokevirtual 179, 3) := dk_182 0 179 (dk_at dksL_law_19 0 rfl rfl)
theorem dL_law_591 : decode cL_law 591 = .ok (.istore 7, 2) := dk_54 7 (dk_at dksL_law_19 3 rfl rfl)
theorem dL_law_593 : decode cL_law 593 = .ok (.aload_n 2, 1) := dk_44 (dk_at dksL_law_19 5 rfl rfl)
theorem dL_law_594 : decode cL_law 594 = .ok (.invokevirtual 156, 3) := dk_182 0 156 (dk_at dksL_law_19 6 rfl rfl)
theorem dL_law_597 : decode cL_law 597 = .ok (.iload 6, 2) := dk_21 6 (dk_at dksL_law_19 9 rfl rfl)
theorem dL_law_599 : decode cL_law 599 = .ok (.if_icmp .eq 5, 3) := dk_159 0 5 (dk_at dksL_law_19 11 rfl rfl)
theorem dL_law_602 : decode cL_law 602 = .ok (.iconst 0, 1) := dk_3 (dk_at dksL_law_19 14 rfl rfl)
theorem dL_law_603 : decode cL_law 603 = .ok (.ireturn, 1) := dk_172 (dk_at dksL_law_19 15 rfl rfl)
theorem dL_law_604 : decode cL_law 604 = .ok (.iload 6, 2) := dk_21 6 (dk_at dksL_law_19 16 rfl rfl)
theorem dL_law_606 : decode cL_law 606 = .ok (.ifCond .ne 15, 3) := dk_154 0 15 (dk_at dksL_law_19 18 rfl rfl)
theorem dL_law_609 : decode cL_law 609 = .ok (.aload_n 3, 1) := dk_45 (dk_at dksL_law_19 21 rfl rfl)
theorem dL_law_610 : decode cL_law 610 = .ok (.iconst 0, 1) := dk_3 (dk_at dksL_law_19 22 rfl rfl)
theorem dL_law_611 : decode cL_law 611 = .ok (.laload, 1) := dk_47 (dk_at dksL_law_19 23 rfl rfl)
theorem dL_law_612 : decode cL_law 612 = .ok (.iload 7, 2) := dk_21 7 (dk_at dksL_law_20 0 rfl rfl)
theorem dL_law_614 : decode cL_law 614 = .ok (.i2l, 1) := dk_133 (dk_at dksL_law_20 2 rfl rfl)
theorem dL_law_615 : decode cL_law 615 = .ok (.lcmp, 1) := dk_148 (dk_at dksL_law_20 3 rfl rfl)
theorem dL_law_616 : decode cL_law 616 = .ok (.ifCond .eq 5, 3) := dk_153 0 5 (dk_at dksL_law_20 4 rfl rfl)
theorem dL_law_619 : decode cL_law 619 = .ok (.iconst 0, 1) := dk_3 (dk_at dksL_law_20 7 rfl rfl)
theorem dL_law_620 : decode cL_law 620 = .ok (.ireturn, 1) := dk_172 (dk_at dksL_law_20 8 rfl rfl)
theorem dL_law_621 : decode cL_law 621 = .ok (.goto 2029, 3) := dk_167 7 237 (dk_at dksL_law_20 9 rfl rfl)
theorem dL_law_624 : decode cL_law 624 = .ok (.aload_n 1, 1) := dk_43 (dk_at dksL_law_20 12 rfl rfl)
theorem dL_law_625 : decode cL_law 625 = .ok (.aload_n 0, 1) := dk_42 (dk_at dksL_law_20 13 rfl rfl)
theorem dL_law_626 : decode cL_law 626 = .ok (.iload 5, 2) := dk_21 5 (dk_at dksL_law_20 14 rfl rfl)
theorem dL_law_628 : decode cL_law 628 = .ok (.iconst 1, 1) := dk_4 (dk_at dksL_law_20 16 rfl rfl)
theorem dL_law_629 : decode cL_law 629 = .ok (.iadd, 1) := dk_96 (dk_at dksL_law_20 17 rfl rfl)
theorem dL_law_630 : decode cL_law 630 = .ok (.iaload, 1) := dk_46 (dk_at dksL_law_20 18 rfl rfl)
theorem dL_law_631 : decode cL_law 631 = .ok (.aload_n 0, 1) := dk_42 (dk_at dksL_law_20 19 rfl rfl)
theorem dL_law_632 : decode cL_law 632 = .ok (.iload 5, 2) := dk_21 5 (dk_at dksL_law_20 20 rfl rfl)
theorem dL_law_634 : decode cL_law 634 = .ok (.iconst 2, 1) := dk_5 (dk_at dksL_law_20 22 rfl rfl)
theorem dL_law_635 : decode cL_law 635 = .ok (.iadd, 1) := dk_96 (dk_at dksL_law_20 23 rfl rfl)
theorem dL_law_636 : decode cL_law 636 = .ok (.iaload, 1) := dk_46 (dk_at dksL_law_21 0 rfl rfl)
theorem dL_law_637 : decode cL_law 637 = .ok (.aload_n 3, 1) := dk_45 (dk_at dksL_law_21 1 rfl rfl)
theorem dL_law_638 : decode cL_law 638 = .ok (.invokestatic 180, 3) := dk_184 0 180 (dk_at dksL_law_21 2 rfl rfl)
theorem dL_law_641 : decode cL_law 641 = .ok (.istore 6, 2) := dk_54 6 (dk_at dksL_law_21 5 rfl rfl)
theorem dL_law_643 : decode cL_law 643 = .ok (.aload_n 2, 1) := dk_44 (dk_at dksL_law_21 7 rfl rfl)
theorem dL_law_644 : decode cL_law 644 = .ok (.aload_n 0, 1) := dk_42 (dk_at dksL_law_21 8 rfl rfl)
theorem dL_law_645 : decode cL_law 645 = .ok (.iload 5, 2) := dk_21 5 (dk_at dksL_law_21 9 rfl rfl)
theorem dL_law_647 : decode cL_law 647 = .ok (.iconst 1, 1) := dk_4 (dk_at dksL_law_21 11 rfl rfl)
theorem dL_law_648 : decode cL_law 648 = .ok (.iadd, 1) := dk_96 (dk_at dksL_law_21 12 rfl rfl)
theorem dL_law_649 : decode cL_law 649 = .ok (.iaload, 1) := dk_46 (dk_at dksL_law_21 13 rfl rfl)
theorem dL_law_650 : decode cL_law 650 = .ok (.aload_n 0, 1) := dk_42 (dk_at dksL_law_21 14 rfl rfl)
theorem dL_law_651 : decode cL_law 651 = .ok (.iload 5, 2) := dk_21 5 (dk_at dksL_law_21 15 rfl rfl)
theorem dL_law_653 : decode cL_law 653 = .ok (.iconst 2, 1) := dk_5 (dk_at dksL_law_21 17 rfl rfl)
theorem dL_law_654 : decode cL_law 654 = .ok (.iadd, 1) := dk_96 (dk_at dksL_law_21 18 rfl rfl)
theorem dL_law_655 : decode cL_law 655 = .ok (.iaload, 1) := dk_46 (dk_at dksL_law_21 19 rfl rfl)
theorem dL_law_656 : decode cL_law 656 = .ok (.invokevirtual 183, 3) := dk_182 0 183 (dk_at dksL_law_21 20 rfl rfl)
theorem dL_law_659 : decode cL_law 659 = .ok (.istore 7, 2) := dk_54 7 (dk_at dksL_law_22 0 rfl rfl)
theorem dL_law_661 : decode cL_law 661 = .ok (.aload_n 2, 1) := dk_44 (dk_at dksL_law_22 2 rfl rfl)
theorem dL_law_662 : decode cL_law 662 = .ok (.invokevirtual 156, 3) := dk_182 0 156 (dk_at dksL_law_22 3 rfl rfl)
theorem dL_law_665 : decode cL_law 665 = .ok (.iload 6, 2) := dk_21 6 (dk_at dksL_law_22 6 rfl rfl)
theorem dL_law_667 : decode cL_law 667 = .ok (.if_icmp .eq 5, 3) := dk_159 0 5 (dk_at dksL_law_22 8 rfl rfl)
theorem dL_law_670 : decode cL_law 670 = .ok (.iconst 0, 1) := dk_3 (dk_at dksL_law_22 11 rfl rfl)
theorem dL_law_671 : decode cL_law 671 = .ok (.ireturn, 1) := dk_172 (dk_at dksL_law_22 12 rfl rfl)
theorem dL_law_672 : decode cL_law 672 = .ok (.iload 6, 2) := dk_21 6 (dk_at dksL_law_22 13 rfl rfl)
theorem dL_law_674 : decode cL_law 674 = .ok (.ifCond .ne 15, 3) := dk_154 0 15 (dk_at dksL_law_22 15 rfl rfl)
theorem dL_law_677 : decode cL_law 677 = .ok (.aload_n 3, 1) := dk_45 (dk_at dksL_law_22 18 rfl rfl)
theorem dL_law_678 : decode cL_law 678 = .ok (.iconst 0, 1) := dk_3 (dk_at dksL_law_22 19 rfl rfl)
theorem dL_law_679 : decode cL_law 679 = .ok (.laload, 1) := dk_47 (dk_at dksL_law_22 20 rfl rfl)
theorem dL_law_680 : decode cL_law 680 = .ok (.iload 7, 2) := dk_21 7 (dk_at dksL_law_22 21 rfl rfl)
theorem dL_law_682 : decode cL_law 682 = .ok (.i2l, 1) := dk_133 (dk_at dksL_law_22 23 rfl rfl)
theorem dL_law_683 : decode cL_law 683 = .ok (.lcmp, 1) := dk_148 (dk_at dksL_law_23 0 rfl rfl)
theorem dL_law_684 : decode cL_law 684 = .ok (.ifCond .eq 5, 3) := dk_153 0 5 (dk_at dksL_law_23 1 rfl rfl)
theorem dL_law_687 : decode cL_law 687 = .ok (.iconst 0, 1) := dk_3 (dk_at dksL_law_23 4 rfl rfl)
theorem dL_law_688 : decode cL_law 688 = .ok (.ireturn, 1) := dk_172 (dk_at dksL_law_23 5 rfl rfl)
theorem dL_law_689 : decode cL_law 689 = .ok (.goto 1961, 3) := dk_167 7 169 (dk_at dksL_law_23 6 rfl rfl)
theorem dL_law_692 : decode cL_law 692 = .ok (.aload_n 1, 1) := dk_43 (dk_at dksL_law_23 9 rfl rfl)
theorem dL_law_693 : decode cL_law 693 = .ok (.aload_n 0, 1) := dk_42 (dk_at dksL_law_23 10 rfl rfl)
theorem dL_law_694 : decode cL_law 694 = .ok (.iload 5, 2) := dk_21 5 (dk_at dksL_law_23 11 rfl rfl)
theorem dL_law_696 : decode cL_law 696 = .ok (.iconst 1, 1) := dk_4 (dk_at dksL_law_23 13 rfl rfl)
theorem dL_law_697 : decode cL_law 697 = .ok (.iadd, 1) := dk_96 (dk_at dksL_law_23 14 rfl rfl)
theorem dL_law_698 : decode cL_law 698 = .ok (.iaload, 1) := dk_46 (dk_at dksL_law_23 15 rfl rfl)
theorem dL_law_699 : decode cL_law 699 = .ok (.aload_n 0, 1) := dk_42 (dk_at dksL_law_23 16 rfl rfl)
theorem dL_law_700 : decode cL_law 700 = .ok (.iload 5, 2) := dk_21 5 (dk_at dksL_law_23 17 rfl rfl)
theorem dL_law_702 : decode cL_law 702 = .ok (.iconst 2, 1) := dk_5 (dk_at dksL_law_23 19 rfl rfl)
theorem dL_law_703 : decode cL_law 703 = .ok (.iadd, 1) := dk_96 (dk_at dksL_law_23 20 rfl rfl)
theorem dL_law_704 : decode cL_law 704 = .ok (.iaload, 1) := dk_46 (dk_at dksL_law_23 21 rfl rfl)
theorem dL_law_705 : decode cL_law 705 = .ok (.aload_n 0, 1) := dk_42 (dk_at dksL_law_23 22 rfl rfl)
theorem dL_law_706 : decode cL_law 706 = .ok (.iload 5, 2) := dk_21 5 (dk_at dksL_law_24 0 rfl rfl)
theorem dL_law_708 : decode cL_law 708 = .ok (.iconst 3, 1) := dk_6 (dk_at dksL_law_24 2 rfl rfl)
theorem dL_law_709 : decode cL_law 709 = .ok (.iadd, 1) := dk_96 (dk_at dksL_law_24 3 rfl rfl)
theorem dL_law_710 : decode cL_law 710 = .ok (.iaload, 1) := dk_46 (dk_at dksL_law_24 4 rfl rfl)
theorem dL_law_711 : decode cL_law 711 = .ok (.i2c, 1) := dk_146 (dk_at dksL_law_24 5 rfl rfl)
theorem dL_law_712 : decode cL_law 712 = .ok (.aload_n 3, 1) := dk_45 (dk_at dksL_law_24 6 rfl rfl)
theorem dL_law_713 : decode cL_law 713 = .ok (.invokestatic 184, 3) := dk_184 0 184 (dk_at dksL_law_24 7 rfl rfl)
theorem dL_law_716 : decode cL_law 716 = .ok (.istore 6, 2) := dk_54 6 (dk_at dksL_law_24 10 rfl rfl)
theorem dL_law_718 : decode cL_law 718 = .ok (.aload_n 2, 1) := dk_44 (dk_at dksL_law_24 12 rfl rfl)
theorem dL_law_719 : decode cL_law 719 = .ok (.aload_n 0, 1) := dk_42 (dk_at dksL_law_24 13 rfl rfl)
theorem dL_law_720 : decode cL_law 720 = .ok (.iload 5, 2) := dk_21 5 (dk_at dksL_law_24 14 rfl rfl)
theorem dL_law_722 : decode cL_law 722 = .ok (.iconst 1, 1) := dk_4 (dk_at dksL_law_24 16 rfl rfl)
theorem dL_law_723 : decode cL_law 723 = .ok (.iadd, 1) := dk_96 (dk_at dksL_law_24 17 rfl rfl)
theorem dL_law_724 : decode cL_law 724 = .ok (.iaload, 1) := dk_46 (dk_at dksL_law_24 18 rfl rfl)
theorem dL_law_725 : decode cL_law 725 = .ok (.aload_n 0, 1) := dk_42 (dk_at dksL_law_24 19 rfl rfl)
theorem dL_law_726 : decode cL_law 726 = .ok (.iload 5, 2) := dk_21 5 (dk_at dksL_law_24 20 rfl rfl)
theorem dL_law_728 : decode cL_law 728 = .ok (.iconst 2, 1) := dk_5 (dk_at dksL_law_24 22 rfl rfl)
theorem dL_law_729 : decode cL_law 729 = .ok (.iadd, 1) := dk_96 (dk_at dksL_law_24 23 rfl rfl)
theorem dL_law_730 : decode cL_law 730 = .ok (.iaload, 1) := dk_46 (dk_at dksL_law_25 0 rfl rfl)
theorem dL_law_731 : decode cL_law 731 = .ok (.aload_n 0, 1) := dk_42 (dk_at dksL_law_25 1 rfl rfl)
theorem dL_law_732 : decode cL_law 732 = .ok (.iload 5, 2) := dk_21 5 (dk_at dksL_law_25 2 rfl rfl)
theorem dL_law_734 : decode cL_law 734 = .ok (.iconst 3, 1) := dk_6 (dk_at dksL_law_25 4 rfl rfl)
theorem dL_law_735 : decode cL_law 735 = .ok (.iadd, 1) := dk_96 (dk_at dksL_law_25 5 rfl rfl)
theorem dL_law_736 : decode cL_law 736 = .ok (.iaload, 1) := dk_46 (dk_at dksL_law_25 6 rfl rfl)
theorem dL_law_737 : decode cL_law 737 = .ok (.i2c, 1) := dk_146 (dk_at dksL_law_25 7 rfl rfl)
theorem dL_law_738 : decode cL_law 738 = .ok (.invokevirtual 187, 3) := dk_182 0 187 (dk_at dksL_law_25 8 rfl rfl)
theorem dL_law_741 : decode cL_law 741 = .ok (.istore 7, 2) := dk_54 7 (dk_at dksL_law_25 11 rfl rfl)
theorem dL_law_743 : decode cL_law 743 = .ok (.aload_n 2, 1) := dk_44 (dk_at dksL_law_25 13 rfl rfl)
theorem dL_law_744 : decode cL_law 744 = .ok (.invokevirtual 156, 3) := dk_182 0 156 (dk_at dksL_law_25 14 rfl rfl)
theorem dL_law_747 : decode cL_law 747 = .ok (.iload 6, 2) := dk_21 6 (dk_at dksL_law_25 17 rfl rfl)
theorem dL_law_749 : decode cL_law 749 = .ok (.if_icmp .eq 5, 3) := dk_159 0 5 (dk_at dksL_law_25 19 rfl rfl)
theorem dL_law_752 : decode cL_law 752 = .ok (.iconst 0, 1) := dk_3 (dk_at dksL_law_25 22 rfl rfl)
theorem dL_law_753 : decode cL_law 753 = .ok (.ireturn, 1) := dk_172 (dk_at dksL_law_25 23 rfl rfl)
theorem dL_law_754 : decode cL_law 754 = .ok (.iload 6, 2) := dk_21 6 (dk_at dksL_law_26 0 rfl rfl)
theorem dL_law_756 : decode cL_law 756 = .ok (.ifCond .ne 15, 3) := dk_154 0 15 (dk_at dksL_law_26 2 rfl rfl)
theorem dL_law_759 : decode cL_law 759 = .ok (.aload_n 3, 1) := dk_45 (dk_at dksL_law_26 5 rfl rfl)
theorem dL_law_760 : decode cL_law 760 = .ok (.iconst 0, 1) := dk_3 (dk_at dksL_law_26 6 rfl rfl)
theorem dL_law_761 : decode cL_law 761 = .ok (.laload, 1) := dk_47 (dk_at dksL_law_26 7 rfl rfl)
theorem dL_law_762 : decode cL_law 762 = .ok (.iload 7, 2) := dk_21 7 (dk_at dksL_law_26 8 rfl rfl)
theorem dL_law_764 : decode cL_law 764 = .ok (.i2l, 1) := dk_133 (dk_at dksL_law_26 10 rfl rfl)
theorem dL_law_765 : decode cL_law 765 = .ok (.lcmp, 1) := dk_148 (dk_at dksL_law_26 11 rfl rfl)
theorem dL_law_766 : decode cL_law 766 = .ok (.ifCond .eq 5, 3) := dk_153 0 5 (dk_at dksL_law_26 12 rfl rfl)
theorem dL_law_769 : decode cL_law 769 = .ok (.iconst 0, 1) := dk_3 (dk_at dksL_law_26 15 rfl rfl)
theorem dL_law_770 : decode cL_law 770 = .ok (.ireturn, 1) := dk_172 (dk_at dksL_law_26 16 rfl rfl)
theorem dL_law_771 : decode cL_law 771 = .ok (.goto 1879, 3) := dk_167 7 87 (dk_at dksL_law_26 17 rfl rfl)
theorem dL_law_774 : decode cL_law 774 = .ok (.aload_n 1, 1) := dk_43 (dk_at dksL_law_26 20 rfl rfl)
theorem dL_law_775 : decode cL_law 775 = .ok (.aload_n 0, 1) := dk_42 (dk_at dksL_law_26 21 rfl rfl)
theorem dL_law_776 : decode cL_law 776 = .ok (.iload 5, 2) := dk_21 5 (dk_at dksL_law_26 22 rfl rfl)
theorem dL_law_778 : decode cL_law 778 = .ok (.iconst 1, 1) := dk_4 (dk_at dksL_law_27 0 rfl rfl)
theorem dL_law_779 : decode cL_law 779 = .ok (.iadd, 1) := dk_96 (dk_at dksL_law_27 1 rfl rfl)
theorem dL_law_780 : decode cL_law 780 = .ok (.iaload, 1) := dk_46 (dk_at dksL_law_27 2 rfl rfl)
theorem dL_law_781 : decode cL_law 781 = .ok (.aload_n 0, 1) := dk_42 (dk_at dksL_law_27 3 rfl rfl)
theorem dL_law_782 : decode cL_law 782 = .ok (.iload 5, 2) := dk_21 5 (dk_at dksL_law_27 4 rfl rfl)
theorem dL_law_784 : decode cL_law 784 = .ok (.iconst 2, 1) := dk_5 (dk_at dksL_law_27 6 rfl rfl)
theorem dL_law_785 : decode cL_law 785 = .ok (.iadd, 1) := dk_96 (dk_at dksL_law_27 7 rfl rfl)
theorem dL_law_786 : decode cL_law 786 = .ok (.iaload, 1) := dk_46 (dk_at dksL_law_27 8 rfl rfl)
theorem dL_law_787 : decode cL_law 787 = .ok (.aload_n 0, 1) := dk_42 (dk_at dksL_law_27 9 rfl rfl)
theorem dL_law_788 : decode cL_law 788 = .ok (.iload 5, 2) := dk_21 5 (dk_at dksL_law_27 10 rfl rfl)
theorem dL_law_790 : decode cL_law 790 = .ok (.iconst 3, 1) := dk_6 (dk_at dksL_law_27 12 rfl rfl)
theorem dL_law_791 : decode cL_law 791 = .ok (.iadd, 1) := dk_96 (dk_at dksL_law_27 13 rfl rfl)
theorem dL_law_792 : decode cL_law 792 = .ok (.iaload, 1) := dk_46 (dk_at dksL_law_27 14 rfl rfl)
theorem dL_law_793 : decode cL_law 793 = .ok (.aload_n 3, 1) := dk_45 (dk_at dksL_law_27 15 rfl rfl)
theorem dL_law_794 : decode cL_law 794 = .ok (.invokestatic 188, 3) := dk_184 0 188 (dk_at dksL_law_27 16 rfl rfl)
theorem dL_law_797 : decode cL_law 797 = .ok (.istore 6, 2) := dk_54 6 (dk_at dksL_law_27 19 rfl rfl)
theorem dL_law_799 : decode cL_law 799 = .ok (.aload_n 2, 1) := dk_44 (dk_at dksL_law_27 21 rfl rfl)
theorem dL_law_800 : decode cL_law 800 = .ok (.aload_n 0, 1) := dk_42 (dk_at dksL_law_27 22 rfl rfl)
theorem dL_law_801 : decode cL_law 801 = .ok (.iload 5, 2) := dk_21 5 (dk_at dksL_law_28 0 rfl rfl)
theorem dL_law_803 : decode cL_law 803 = .ok (.iconst 1, 1) := dk_4 (dk_at dksL_law_28 2 rfl rfl)
theorem dL_law_804 : decode cL_law 804 = .ok (.iadd, 1) := dk_96 (dk_at dksL_law_28 3 rfl rfl)
theorem dL_law_805 : decode cL_law 805 = .ok (.iaload, 1) := dk_46 (dk_at dksL_law_28 4 rfl rfl)
theorem dL_law_806 : decode cL_law 806 = .ok (.aload_n 0, 1) := dk_42 (dk_at dksL_law_28 5 rfl rfl)
theorem dL_law_807 : decode cL_law 807 = .ok (.iload 5, 2) := dk_21 5 (dk_at dksL_law_28 6 rfl rfl)
theorem dL_law_809 : decode cL_law 809 = .ok (.iconst 2, 1) := dk_5 (dk_at dksL_law_28 8 rfl rfl)
theorem dL_law_810 : decode cL_law 810 = .ok (.iadd, 1) := dk_96 (dk_at dksL_law_28 9 rfl rfl)
theorem dL_law_811 : decode cL_law 811 = .ok (.iaload, 1) := dk_46 (dk_at dksL_law_28 10 rfl rfl)
theorem dL_law_812 : decode cL_law 812 = .ok (.aload_n 0, 1) := dk_42 (dk_at dksL_law_28 11 rfl rfl)
theorem dL_law_813 : decode cL_law 813 = .ok (.iload 5, 2) := dk_21 5 (dk_at dksL_law_28 12 rfl rfl)
theorem dL_law_815 : decode cL_law 815 = .ok (.iconst 3, 1) := dk_6 (dk_at dksL_law_28 14 rfl rfl)
theorem dL_law_816 : decode cL_law 816 = .ok (.iadd, 1) := dk_96 (dk_at dksL_law_28 15 rfl rfl)
theorem dL_law_817 : decode cL_law 817 = .ok (.iaload, 1) := dk_46 (dk_at dksL_law_28 16 rfl rfl)
theorem dL_law_818 : decode cL_law 818 = .ok (.invokevirtual 191, 3) := dk_182 0 191 (dk_at dksL_law_28 17 rfl rfl)
theorem dL_law_821 : decode cL_law 821 = .ok (.istore 7, 2) := dk_54 7 (dk_at dksL_law_28 20 rfl rfl)
theorem dL_law_823 : decode cL_law 823 = .ok (.aload_n 2, 1) := dk_44 (dk_at dksL_law_28 22 rfl rfl)
theorem dL_law_824 : decode cL_law 824 = .ok (.invokevirtual 156, 3) := dk_182 0 156 (dk_at dksL_law_29 0 rfl rfl)
theorem dL_law_827 : decode cL_law 827 = .ok (.iload 6, 2) := dk_21 6 (dk_at dksL_law_29 3 rfl rfl)
theorem dL_law_829 : decode cL_law 829 = .ok (.if_icmp .eq 5, 3) := dk_159 0 5 (dk_at dksL_law_29 5 rfl rfl)
theorem dL_law_832 : decode cL_law 832 = .ok (.iconst 0, 1) := dk_3 (dk_at dksL_law_29 8 rfl rfl)
theorem dL_law_833 : decode cL_law 833 = .ok (.ireturn, 1) := dk_172 (dk_at dksL_law_29 9 rfl rfl)
theorem dL_law_834 : decode cL_law 834 = .ok (.iload 6, 2) := dk_21 6 (dk_at dksL_law_29 10 rfl rfl)
theorem dL_law_836 : decode cL_law 836 = .ok (.ifCond .ne 15, 3) := dk_154 0 15 (dk_at dksL_law_29 12 rfl rfl)
theorem dL_law_839 : decode cL_law 839 = .ok (.aload_n 3, 1) := dk_45 (dk_at dksL_law_29 15 rfl rfl)
theorem dL_law_840 : decode cL_law 840 = .ok (.iconst 0, 1) := dk_3 (dk_at dksL_law_29 16 rfl rfl)
theorem dL_law_841 : decode cL_law 841 = .ok (.laload, 1) := dk_47 (dk_at dksL_law_29 17 rfl rfl)
theorem dL_law_842 : decode cL_law 842 = .ok (.iload 7, 2) := dk_21 7 (dk_at dksL_law_29 18 rfl rfl)
theorem dL_law_844 : decode cL_law 844 = .ok (.i2l, 1) := dk_133 (dk_at dksL_law_29 20 rfl rfl)
theorem dL_law_845 : decode cL_law 845 = .ok (.lcmp, 1) := dk_148 (dk_at dksL_law_29 21 rfl rfl)
theorem dL_law_846 : decode cL_law 846 = .ok (.ifCond .eq 5, 3) := dk_153 0 5 (dk_at dksL_law_30 0 rfl rfl)
theorem dL_law_849 : decode cL_law 849 = .ok (.iconst 0, 1) := dk_3 (dk_at dksL_law_30 3 rfl rfl)
theorem dL_law_850 : decode cL_law 850 = .ok (.ireturn, 1) := dk_172 (dk_at dksL_law_30 4 rfl rfl)
theorem dL_law_851 : decode cL_law 851 = .ok (.goto 1799, 3) := dk_167 7 7 (dk_at dksL_law_30 5 rfl rfl)
theorem dL_law_854 : decode cL_law 854 = .ok (.aload_n 1, 1) := dk_43 (dk_at dksL_law_30 8 rfl rfl)
theorem dL_law_855 : decode cL_law 855 = .ok (.aload_n 0, 1) := dk_42 (dk_at dksL_law_30 9 rfl rfl)
theorem dL_law_856 : decode cL_law 856 = .ok (.iload 5, 2) := dk_21 5 (dk_at dksL_law_30 10 rfl rfl)
theorem dL_law_858 : decode cL_law 858 = .ok (.iconst 1, 1) := dk_4 (dk_at dksL_law_30 12 rfl rfl)
theorem dL_law_859 : decode cL_law 859 = .ok (.iadd, 1) := dk_96 (dk_at dksL_law_30 13 rfl rfl)
theorem dL_law_860 : decode cL_law 860 = .ok (.iaload, 1) := dk_46 (dk_at dksL_law_30 14 rfl rfl)
theorem dL_law_861 : decode cL_law 861 = .ok (.aload_n 0, 1) := dk_42 (dk_at dksL_law_30 15 rfl rfl)
theorem dL_law_862 : decode cL_law 862 = .ok (.iload 5, 2) := dk_21 5 (dk_at dksL_law_30 16 rfl rfl)
theorem dL_law_864 : decode cL_law 864 = .ok (.iconst 2, 1) := dk_5 (dk_at dksL_law_30 18 rfl rfl)
theorem dL_law_865 : decode cL_law 865 = .ok (.iadd, 1) := dk_96 (dk_at dksL_law_30 19 rfl rfl)
theorem dL_law_866 : decode cL_law 866 = .ok (.iaload, 1) := dk_46 (dk_at dksL_law_30 20 rfl rfl)
theorem dL_law_867 : decode cL_law 867 = .ok (.aload_n 0, 1) := dk_42 (dk_at dksL_law_30 21 rfl rfl)
theorem dL_law_868 : decode cL_law 868 = .ok (.iload 5, 2) := dk_21 5 (dk_at dksL_law_30 22 rfl rfl)
theorem dL_law_870 : decode cL_law 870 = .ok (.iconst 3, 1) := dk_6 (dk_at dksL_law_31 0 rfl rfl)
theorem dL_law_871 : decode cL_law 871 = .ok (.iadd, 1) := dk_96 (dk_at dksL_law_31 1 rfl rfl)
theorem dL_law_872 : decode cL_law 872 = .ok (.iaload, 1) := dk_46 (dk_at dksL_law_31 2 rfl rfl)
theorem dL_law_873 : decode cL_law 873 = .ok (.aload_n 3, 1) := dk_45 (dk_at dksL_law_31 3 rfl rfl)
theorem dL_law_874 : decode cL_law 874 = .ok (.invokestatic 192, 3) := dk_184 0 192 (dk_at dksL_law_31 4 rfl rfl)
theorem dL_law_877 : decode cL_law 877 = .ok (.istore 6, 2) := dk_54 6 (dk_at dksL_law_31 7 rfl rfl)
theorem dL_law_879 : decode cL_law 879 = .ok (.aload_n 2, 1) := dk_44 (dk_at dksL_law_31 9 rfl rfl)
theorem dL_law_880 : decode cL_law 880 = .ok (.aload_n 0, 1) := dk_42 (dk_at dksL_law_31 10 rfl rfl)
theorem dL_law_881 : decode cL_law 881 = .ok (.iload 5, 2) := dk_21 5 (dk_at dksL_law_31 11 rfl rfl)
theorem dL_law_883 : decode cL_law 883 = .ok (.iconst 1, 1) := dk_4 (dk_at dksL_law_31 13 rfl rfl)
theorem dL_law_884 : decode cL_law 884 = .ok (.iadd, 1) := dk_96 (dk_at dksL_law_31 14 rfl rfl)
theorem dL_law_885 : decode cL_law 885 = .ok (.iaload, 1) := dk_46 (dk_at dksL_law_31 15 rfl rfl)
theorem dL_law_886 : decode cL_law 886 = .ok (.aload_n 0, 1) := dk_42 (dk_at dksL_law_31 16 rfl rfl)
theorem dL_law_887 : decode cL_law 887 = .ok (.iload 5, 2) := dk_21 5 (dk_at dksL_law_31 17 rfl rfl)
theorem dL_law_889 : decode cL_law 889 = .ok (.iconst 2, 1) := dk_5 (dk_at dksL_law_31 19 rfl rfl)
theorem dL_law_890 : decode cL_law 890 = .ok (.iadd, 1) := dk_96 (dk_at dksL_law_31 20 rfl rfl)
theorem dL_law_891 : decode cL_law 891 = .ok (.iaload, 1) := dk_46 (dk_at dksL_law_31 21 rfl rfl)
theorem dL_law_892 : decode cL_law 892 = .ok (.aload_n 0, 1) := dk_42 (dk_at dksL_law_31 22 rfl rfl)
theorem dL_law_893 : decode cL_law 893 = .ok (.iload 5, 2) := dk_21 5 (dk_at dksL_law_32 0 rfl rfl)
theorem dL_law_895 : decode cL_law 895 = .ok (.iconst 3, 1) := dk_6 (dk_at dksL_law_32 2 rfl rfl)
theorem dL_law_896 : decode cL_law 896 = .ok (.iadd, 1) := dk_96 (dk_at dksL_law_32 3 rfl rfl)
theorem dL_law_897 : decode cL_law 897 = .ok (.iaload, 1) := dk_46 (dk_at dksL_law_32 4 rfl rfl)
theorem dL_law_898 : decode cL_law 898 = .ok (.invokevirtual 194, 3) := dk_182 0 194 (dk_at dksL_law_32 5 rfl rfl)
theorem dL_law_901 : decode cL_law 901 = .ok (.istore 7, 2) := dk_54 7 (dk_at dksL_law_32 8 rfl rfl)
theorem dL_law_903 : decode cL_law 903 = .ok (.aload_n 2, 1) := dk_44 (dk_at dksL_law_32 10 rfl rfl)
theorem dL_law_904 : decode cL_law 904 = .ok (.invokevirtual 156, 3) := dk_182 0 156 (dk_at dksL_law_32 11 rfl rfl)
theorem dL_law_907 : decode cL_law 907 = .ok (.iload 6, 2) := dk_21 6 (dk_at dksL_law_32 14 rfl rfl)
theorem dL_law_909 : decode cL_law 909 = .ok (.if_icmp .eq 5, 3) := dk_159 0 5 (dk_at dksL_law_32 16 rfl rfl)
theorem dL_law_912 : decode cL_law 912 = .ok (.iconst 0, 1) := dk_3 (dk_at dksL_law_32 19 rfl rfl)
theorem dL_law_913 : decode cL_law 913 = .ok (.ireturn, 1) := dk_172 (dk_at dksL_law_32 20 rfl rfl)
theorem dL_law_914 : decode cL_law 914 = .ok (.iload 6, 2) := dk_21 6 (dk_at dksL_law_32 21 rfl rfl)
theorem dL_law_916 : decode cL_law 916 = .ok (.ifCond .ne 15, 3) := dk_154 0 15 (dk_at dksL_law_33 0 rfl rfl)
theorem dL_law_919 : decode cL_law 919 = .ok (.aload_n 3, 1) := dk_45 (dk_at dksL_law_33 3 rfl rfl)
theorem dL_law_920 : decode cL_law 920 = .ok (.iconst 0, 1) := dk_3 (dk_at dksL_law_33 4 rfl rfl)
theorem dL_law_921 : decode cL_law 921 = .ok (.laload, 1) := dk_47 (dk_at dksL_law_33 5 rfl rfl)
theorem dL_law_922 : decode cL_law 922 = .ok (.iload 7, 2) := dk_21 7 (dk_at dksL_law_33 6 rfl rfl)
theorem dL_law_924 : decode cL_law 924 = .ok (.i2l, 1) := dk_133 (dk_at dksL_law_33 8 rfl rfl)
theorem dL_law_925 : decode cL_law 925 = .ok (.lcmp, 1) := dk_148 (dk_at dksL_law_33 9 rfl rfl)
theorem dL_law_926 : decode cL_law 926 = .ok (.ifCond .eq 5, 3) := dk_153 0 5 (dk_at dksL_law_33 10 rfl rfl)
theorem dL_law_929 : decode cL_law 929 = .ok (.iconst 0, 1) := dk_3 (dk_at dksL_law_33 13 rfl rfl)
theorem dL_law_930 : decode cL_law 930 = .ok (.ireturn, 1) := dk_172 (dk_at dksL_law_33 14 rfl rfl)
theorem dL_law_931 : decode cL_law 931 = .ok (.goto 1719, 3) := dk_167 6 183 (dk_at dksL_law_33 15 rfl rfl)
theorem dL_law_934 : decode cL_law 934 = .ok (.aload_n 1, 1) := dk_43 (dk_at dksL_law_33 18 rfl rfl)
theorem dL_law_935 : decode cL_law 935 = .ok (.aload_n 0, 1) := dk_42 (dk_at dksL_law_33 19 rfl rfl)
theorem dL_law_936 : decode cL_law 936 = .ok (.iload 5, 2) := dk_21 5 (dk_at dksL_law_33 20 rfl rfl)
theorem dL_law_938 : decode cL_law 938 = .ok (.iconst 1, 1) := dk_4 (dk_at dksL_law_33 22 rfl rfl)
theorem dL_law_939 : decode cL_law 939 = .ok (.iadd, 1) := dk_96 (dk_at dksL_law_33 23 rfl rfl)
theorem dL_law_940 : decode cL_law 940 = .ok (.iaload, 1) := dk_46 (dk_at dksL_law_34 0 rfl rfl)
theorem dL_law_941 : decode cL_law 941 = .ok (.aload_n 0, 1) := dk_42 (dk_at dksL_law_34 1 rfl rfl)
theorem dL_law_942 : decode cL_law 942 = .ok (.iload 5, 2) := dk_21 5 (dk_at dksL_law_34 2 rfl rfl)
theorem dL_law_944 : decode cL_law 944 = .ok (.iconst 2, 1) := dk_5 (dk_at dksL_law_34 4 rfl rfl)
theorem dL_law_945 : decode cL_law 945 = .ok (.iadd, 1) := dk_96 (dk_at dksL_law_34 5 rfl rfl)
theorem dL_law_946 : decode cL_law 946 = .ok (.iaload, 1) := dk_46 (dk_at dksL_law_34 6 rfl rfl)
theorem dL_law_947 : decode cL_law 947 = .ok (.aload_n 3, 1) := dk_45 (dk_at dksL_law_34 7 rfl rfl)
theorem dL_law_948 : decode cL_law 948 = .ok (.invokestatic 195, 3) := dk_184 0 195 (dk_at dksL_law_34 8 rfl rfl)
theorem dL_law_951 : decode cL_law 951 = .ok (.istore 6, 2) := dk_54 6 (dk_at dksL_law_34 11 rfl rfl)
theorem dL_law_953 : decode cL_law 953 = .ok (.aload_n 2, 1) := dk_44 (dk_at dksL_law_34 13 rfl rfl)
theorem dL_law_954 : decode cL_law 954 = .ok (.aload_n 0, 1) := dk_42 (dk_at dksL_law_34 14 rfl rfl)
theorem dL_law_955 : decode cL_law 955 = .ok (.iload 5, 2) := dk_21 5 (dk_at dksL_law_34 15 rfl rfl)
theorem dL_law_957 : decode cL_law 957 = .ok (.iconst 1, 1) := dk_4 (dk_at dksL_law_34 17 rfl rfl)
theorem dL_law_958 : decode cL_law 958 = .ok (.iadd, 1) := dk_96 (dk_at dksL_law_34 18 rfl rfl)
theorem dL_law_959 : decode cL_law 959 = .ok (.iaload, 1) := dk_46 (dk_at dksL_law_34 19 rfl rfl)
theorem dL_law_960 : decode cL_law 960 = .ok (.aload_n 0, 1) := dk_42 (dk_at dksL_law_34 20 rfl rfl)
theorem dL_law_961 : decode cL_law 961 = .ok (.iload 5, 2) := dk_21 5 (dk_at dksL_law_34 21 rfl rfl)
theorem dL_law_963 : decode cL_law 963 = .ok (.iconst 2, 1) := dk_5 (dk_at dksL_law_34 23 rfl rfl)
theorem dL_law_964 : decode cL_law 964 = .ok (.iadd, 1) := dk_96 (dk_at dksL_law_35 0 rfl rfl)
theorem dL_law_965 : decode cL_law 965 = .ok (.iaload, 1) := dk_46 (dk_at dksL_law_35 1 rfl rfl)
theorem dL_law_966 : decode cL_law 966 = .ok (.invokevirtual 197, 3) := dk_182 0 197 (dk_at dksL_law_35 2 rfl rfl)
theorem dL_law_969 : decode cL_law 969 = .ok (.istore 7, 2) := dk_54 7 (dk_at dksL_law_35 5 rfl rfl)
theorem dL_law_971 : decode cL_law 971 = .ok (.aload_n 2, 1) := dk_44 (dk_at dksL_law_35 7 rfl rfl)
theorem dL_law_972 : decode cL_law 972 = .ok (.invokevirtual 156, 3) := dk_182 0 156 (dk_at dksL_law_35 8 rfl rfl)
theorem dL_law_975 : decode cL_law 975 = .ok (.iload 6, 2) := dk_21 6 (dk_at dksL_law_35 11 rfl rfl)
theorem dL_law_977 : decode cL_law 977 = .ok (.if_icmp .eq 5, 3) := dk_159 0 5 (dk_at dksL_law_35 13 rfl rfl)
theorem dL_law_980 : decode cL_law 980 = .ok (.iconst 0, 1) := dk_3 (dk_at dksL_law_35 16 rfl rfl)
theorem dL_law_981 : decode cL_law 981 = .ok (.ireturn, 1) := dk_172 (dk_at dksL_law_35 17 rfl rfl)
theorem dL_law_982 : decode cL_law 982 = .ok (.iload 6, 2) := dk_21 6 (dk_at dksL_law_35 18 rfl rfl)
theorem dL_law_984 : decode cL_law 984 = .ok (.ifCond .ne 15, 3) := dk_154 0 15 (dk_at dksL_law_35 20 rfl rfl)
theorem dL_law_987 : decode cL_law 987 = .ok (.aload_n 3, 1) := dk_45 (dk_at dksL_law_35 23 rfl rfl)
theorem dL_law_988 : decode cL_law 988 = .ok (.iconst 0, 1) := dk_3 (dk_at dksL_law_36 0 rfl rfl)
theorem dL_law_989 : decode cL_law 989 = .ok (.laload, 1) := dk_47 (dk_at dksL_law_36 1 rfl rfl)
theorem dL_law_990 : decode cL_law 990 = .ok (.iload 7, 2) := dk_21 7 (dk_at dksL_law_36 2 rfl rfl)
theorem dL_law_992 : decode cL_law 992 = .ok (.i2l, 1) := dk_133 (dk_at dksL_law_36 4 rfl rfl)
theorem dL_law_993 : decode cL_law 993 = .ok (.lcmp, 1) := dk_148 (dk_at dksL_law_36 5 rfl rfl)
theorem dL_law_994 : decode cL_law 994 = .ok (.ifCond .eq 5, 3) := dk_153 0 5 (dk_at dksL_law_36 6 rfl rfl)
theorem dL_law_997 : decode cL_law 997 = .ok (.iconst 0, 1) := dk_3 (dk_at dksL_law_36 9 rfl rfl)
theorem dL_law_998 : decode cL_law 998 = .ok (.ireturn, 1) := dk_172 (dk_at dksL_law_36 10 rfl rfl)
theorem dL_law_999 : decode cL_law 999 = .ok (.goto 1651, 3) := dk_167 6 115 (dk_at dksL_law_36 11 rfl rfl)
theorem dL_law_1002 : decode cL_law 1002 = .ok (.aload_n 1, 1) := dk_43 (dk_at dksL_law_36 14 rfl rfl)
theorem dL_law_1003 : decode cL_law 1003 = .ok (.aload_n 0, 1) := dk_42 (dk_at dksL_law_36 15 rfl rfl)
theorem dL_law_1004 : decode cL_law 1004 = .ok (.iload 5, 2) := dk_21 5 (dk_at dksL_law_36 16 rfl rfl)
theorem dL_law_1006 : decode cL_law 1006 = .ok (.iconst 1, 1) := dk_4 (dk_at dksL_law_36 18 rfl rfl)
theorem dL_law_1007 : decode cL_law 1007 = .ok (.iadd, 1) := dk_96 (dk_at dksL_law_36 19 rfl rfl)
theorem dL_law_1008 : decode cL_law 1008 = .ok (.iaload, 1) := dk_46 (dk_at dksL_law_36 20 rfl rfl)
theorem dL_law_1009 : decode cL_law 1009 = .ok (.aload_n 3, 1) := dk_45 (dk_at dksL_law_36 21 rfl rfl)
theorem dL_law_1010 : decode cL_law 1010 = .ok (.invokestatic 198, 3) := dk_184 0 198 (dk_at dksL_law_37 0 rfl rfl)
theorem dL_law_1013 : decode cL_law 1013 = .ok (.istore 6, 2) := dk_54 6 (dk_at dksL_law_37 3 rfl rfl)
theorem dL_law_1015 : decode cL_law 1015 = .ok (.aload_n 2, 1) := dk_44 (dk_at dksL_law_37 5 rfl rfl)
theorem dL_law_1016 : decode cL_law 1016 = .ok (.aload_n 0, 1) := dk_42 (dk_at dksL_law_37 6 rfl rfl)
theorem dL_law_1017 : decode cL_law 1017 = .ok (.iload 5, 2) := dk_21 5 (dk_at dksL_law_37 7 rfl rfl)
theorem dL_law_1019 : decode cL_law 1019 = .ok (.iconst 1, 1) := dk_4 (dk_at dksL_law_37 9 rfl rfl)
theorem dL_law_1020 : decode cL_law 1020 = .ok (.iadd, 1) := dk_96 (dk_at dksL_law_37 10 rfl rfl)
theorem dL_law_1021 : decode cL_law 1021 = .ok (.iaload, 1) := dk_46 (dk_at dksL_law_37 11 rfl rfl)
theorem dL_law_1022 : decode cL_law 1022 = .ok (.invokevirtual 200, 3) := dk_182 0 200 (dk_at dksL_law_37 12 rfl rfl)
theorem dL_law_1025 : decode cL_law 1025 = .ok (.istore 7, 2) := dk_54 7 (dk_at dksL_law_37 15 rfl rfl)
theorem dL_law_1027 : decode cL_law 1027 = .ok (.aload_n 2, 1) := dk_44 (dk_at dksL_law_37 17 rfl rfl)
theorem dL_law_1028 : decode cL_law 1028 = .ok (.invokevirtual 156, 3) := dk_182 0 156 (dk_at dksL_law_37 18 rfl rfl)
theorem dL_law_1031 : decode cL_law 1031 = .ok (.iload 6, 2) := dk_21 6 (dk_at dksL_law_37 21 rfl rfl)
theorem dL_law_1033 : decode cL_law 1033 = .ok (.if_icmp .eq 5, 3) := dk_159 0 5 (dk_at dksL_law_38 0 rfl rfl)
theorem dL_law_1036 : decode cL_law 1036 = .ok (.iconst 0, 1) := dk_3 (dk_at dksL_law_38 3 rfl rfl)
theorem dL_law_1037 : decode cL_law 1037 = .ok (.ireturn, 1) := dk_172 (dk_at dksL_law_38 4 rfl rfl)
theorem dL_law_1038 : decode cL_law 1038 = .ok (.iload 6, 2) := dk_21 6 (dk_at dksL_law_38 5 rfl rfl)
theorem dL_law_1040 : decode cL_law 1040 = .ok (.ifCond .ne 15, 3) := dk_154 0 15 (dk_at dksL_law_38 7 rfl rfl)
theorem dL_law_1043 : decode cL_law 1043 = .ok (.aload_n 3, 1) := dk_45 (dk_at dksL_law_38 10 rfl rfl)
theorem dL_law_1044 : decode cL_law 1044 = .ok (.iconst 0, 1) := dk_3 (dk_at dksL_law_38 11 rfl rfl)
theorem dL_law_1045 : decode cL_law 1045 = .ok (.laload, 1) := dk_47 (dk_at dksL_law_38 12 rfl rfl)
theorem dL_law_1046 : decode cL_law 1046 = .ok (.iload 7, 2) := dk_21 7 (dk_at dksL_law_38 13 rfl rfl)
theorem dL_law_1048 : decode cL_law 1048 = .ok (.i2l, 1) := dk_133 (dk_at dksL_law_38 15 rfl rfl)
theorem dL_law_1049 : decode cL_law 1049 = .ok (.lcmp, 1) := dk_148 (dk_at dksL_law_38 16 rfl rfl)
theorem dL_law_1050 : decode cL_law 1050 = .ok (.ifCond .eq 5, 3) := dk_153 0 5 (dk_at dksL_law_38 17 rfl rfl)
theorem dL_law_1053 : decode cL_law 1053 = .ok (.iconst 0, 1) := dk_3 (dk_at dksL_law_38 20 rfl rfl)
theorem dL_law_1054 : decode cL_law 1054 = .ok (.ireturn, 1) := dk_172 (dk_at dksL_law_38 21 rfl rfl)
theorem dL_law_1055 : decode cL_law 1055 = .ok (.goto 1595, 3) := dk_167 6 59 (dk_at dksL_law_39 0 rfl rfl)
theorem dL_law_1058 : decode cL_law 1058 = .ok (.aload_n 1, 1) := dk_43 (dk_at dksL_law_39 3 rfl rfl)
theorem dL_law_1059 : decode cL_law 1059 = .ok (.aload_n 0, 1) := dk_42 (dk_at dksL_law_39 4 rfl rfl)
theorem dL_law_1060 : decode cL_law 1060 = .ok (.iload 5, 2) := dk_21 5 (dk_at dksL_law_39 5 rfl rfl)
theorem dL_law_1062 : decode cL_law 1062 = .ok (.iconst 1, 1) := dk_4 (dk_at dksL_law_39 7 rfl rfl)
theorem dL_law_1063 : decode cL_law 1063 = .ok (.iadd, 1) := dk_96 (dk_at dksL_law_39 8 rfl rfl)
theorem dL_law_1064 : decode cL_law 1064 = .ok (.iaload, 1) := dk_46 (dk_at dksL_law_39 9 rfl rfl)
theorem dL_law_1065 : decode cL_law 1065 = .ok (.aload_n 0, 1) := dk_42 (dk_at dksL_law_39 10 rfl rfl)
theorem dL_law_1066 : decode cL_law 1066 = .ok (.iload 5, 2) := dk_21 5 (dk_at dksL_law_39 11 rfl rfl)
theorem dL_law_1068 : decode cL_law 1068 = .ok (.iconst 2, 1) := dk_5 (dk_at dksL_law_39 13 rfl rfl)
theorem dL_law_1069 : decode cL_law 1069 = .ok (.iadd, 1) := dk_96 (dk_at dksL_law_39 14 rfl rfl)
theorem dL_law_1070 : decode cL_law 1070 = .ok (.iaload, 1) := dk_46 (dk_at dksL_law_39 15 rfl rfl)
theorem dL_law_1071 : decode cL_law 1071 = .ok (.aload_n 3, 1) := dk_45 (dk_at dksL_law_39 16 rfl rfl)
theorem dL_law_1072 : decode cL_law 1072 = .ok (.invokestatic 201, 3) := dk_184 0 201 (dk_at dksL_law_39 17 rfl rfl)
theorem dL_law_1075 : decode cL_law 1075 = .ok (.istore 6, 2) := dk_54 6 (dk_at dksL_law_39 20 rfl rfl)
theorem dL_law_1077 : decode cL_law 1077 = .ok (.aload_n 2, 1) := dk_44 (dk_at dksL_law_39 22 rfl rfl)
theorem dL_law_1078 : decode cL_law 1078 = .ok (.aload_n 0, 1) := dk_42 (dk_at dksL_law_39 23 rfl rfl)
theorem dL_law_1079 : decode cL_law 1079 = .ok (.iload 5, 2) := dk_21 5 (dk_at dksL_law_40 0 rfl rfl)
theorem dL_law_1081 : decode cL_law 1081 = .ok (.iconst 1, 1) := dk_4 (dk_at dksL_law_40 2 rfl rfl)
theorem dL_law_1082 : decode cL_law 1082 = .ok (.iadd, 1) := dk_96 (dk_at dksL_law_40 3 rfl rfl)
theorem dL_law_1083 : decode cL_law 1083 = .ok (.iaload, 1) := dk_46 (dk_at dksL_law_40 4 rfl rfl)
theorem dL_law_1084 : decode cL_law 1084 = .ok (.aload_n 0, 1) := dk_42 (dk_at dksL_law_40 5 rfl rfl)
theorem dL_law_1085 : decode cL_law 1085 = .ok (.iload 5, 2) := dk_21 5 (dk_at dksL_law_40 6 rfl rfl)
theorem dL_law_1087 : decode cL_law 1087 = .ok (.iconst 2, 1) := dk_5 (dk_at dksL_law_40 8 rfl rfl)
theorem dL_law_1088 : decode cL_law 1088 = .ok (.iadd, 1) := dk_96 (dk_at dksL_law_40 9 rfl rfl)
theorem dL_law_1089 : decode cL_law 1089 = .ok (.iaload, 1) := dk_46 (dk_at dksL_law_40 10 rfl rfl)
theorem dL_law_1090 : decode cL_law 1090 = .ok (.invokevirtual 203, 3) := dk_182 0 203 (dk_at dksL_law_40 11 rfl rfl)
theorem dL_law_1093 : decode cL_law 1093 = .ok (.istore 7, 2) := dk_54 7 (dk_at dksL_law_40 14 rfl rfl)
theorem dL_law_1095 : decode cL_law 1095 = .ok (.aload_n 2, 1) := dk_44 (dk_at dksL_law_40 16 rfl rfl)
theorem dL_law_1096 : decode cL_law 1096 = .ok (.invokevirtual 156, 3) := dk_182 0 156 (dk_at dksL_law_40 17 rfl rfl)
theorem dL_law_1099 : decode cL_law 1099 = .ok (.iload 6, 2) := dk_21 6 (dk_at dksL_law_40 20 rfl rfl)
theorem dL_law_1101 : decode cL_law 1101 = .ok (.if_icmp .eq 5, 3) := dk_159 0 5 (dk_at dksL_law_41 0 rfl rfl)
theorem dL_law_1104 : decode cL_law 1104 = .ok (.iconst 0, 1) := dk_3 (dk_at dksL_law_41 3 rfl rfl)
theorem dL_law_1105 : decode cL_law 1105 = .ok (.ireturn, 1) := dk_172 (dk_at dksL_law_41 4 rfl rfl)
theorem dL_law_1106 : decode cL_law 1106 = .ok (.iload 6, 2) := dk_21 6 (dk_at dksL_law_41 5 rfl rfl)
theorem dL_law_1108 : decode cL_law 1108 = .ok (.ifCond .ne 15, 3) := dk_154 0 15 (dk_at dksL_law_41 7 rfl rfl)
theorem dL_law_1111 : decode cL_law 1111 = .ok (.aload_n 3, 1) := dk_45 (dk_at dksL_law_41 10 rfl rfl)
theorem dL_law_1112 : decode cL_law 1112 = .ok (.iconst 0, 1) := dk_3 (dk_at dksL_law_41 11 rfl rfl)
theorem dL_law_1113 : decode cL_law 1113 = .ok (.laload, 1) := dk_47 (dk_at dksL_law_41 12 rfl rfl)
theorem dL_law_1114 : decode cL_law 1114 = .ok (.iload 7, 2) := dk_21 7 (dk_at dksL_law_41 13 rfl rfl)
theorem dL_law_1116 : decode cL_law 1116 = .ok (.i2l, 1) := dk_133 (dk_at dksL_law_41 15 rfl rfl)
theorem dL_law_1117 : decode cL_law 1117 = .ok (.lcmp, 1) := dk_148 (dk_at dksL_law_41 16 rfl rfl)
theorem dL_law_1118 : decode cL_law 1118 = .ok (.ifCond .eq 5, 3) := dk_153 0 5 (dk_at dksL_law_41 17 rfl rfl)
theorem dL_law_1121 : decode cL_law 1121 = .ok (.iconst 0, 1) := dk_3 (dk_at dksL_law_41 20 rfl rfl)
theorem dL_law_1122 : decode cL_law 1122 = .ok (.ireturn, 1) := dk_172 (dk_at dksL_law_41 21 rfl rfl)
theorem dL_law_1123 : decode cL_law 1123 = .ok (.goto 1527, 3) := dk_167 5 247 (dk_at dksL_law_42 0 rfl rfl)
theorem dL_law_1126 : decode cL_law 1126 = .ok (.aload_n 1, 1) := dk_43 (dk_at dksL_law_42 3 rfl rfl)
theorem dL_law_1127 : decode cL_law 1127 = .ok (.aload_n 0, 1) := dk_42 (dk_at dksL_law_42 4 rfl rfl)
theorem dL_law_1128 : decode cL_law 1128 = .ok (.iload 5, 2) := dk_21 5 (dk_at dksL_law_42 5 rfl rfl)
theorem dL_law_1130 : decode cL_law 1130 = .ok (.iconst 1, 1) := dk_4 (dk_at dksL_law_42 7 rfl rfl)
theorem dL_law_1131 : decode cL_law 1131 = .ok (.iadd, 1) := dk_96 (dk_at dksL_law_42 8 rfl rfl)
theorem dL_law_1132 : decode cL_law 1132 = .ok (.iaload, 1) := dk_46 (dk_at dksL_law_42 9 rfl rfl)
theorem dL_law_1133 : decode cL_law 1133 = .ok (.aload_n 0, 1) := dk_42 (dk_at dksL_law_42 10 rfl rfl)
theorem dL_law_1134 : decode cL_law 1134 = .ok (.iload 5, 2) := dk_21 5 (dk_at dksL_law_42 11 rfl rfl)
theorem dL_law_1136 : decode cL_law 1136 = .ok (.iconst 2, 1) := dk_5 (dk_at dksL_law_42 13 rfl rfl)
theorem dL_law_1137 : decode cL_law 1137 = .ok (.iadd, 1) := dk_96 (dk_at dksL_law_42 14 rfl rfl)
theorem dL_law_1138 : decode cL_law 1138 = .ok (.iaload, 1) := dk_46 (dk_at dksL_law_42 15 rfl rfl)
theorem dL_law_1139 : decode cL_law 1139 = .ok (.aload_n 3, 1) := dk_45 (dk_at dksL_law_42 16 rfl rfl)
theorem dL_law_1140 : decode cL_law 1140 = .ok (.invokestatic 204, 3) := dk_184 0 204 (dk_at dksL_law_42 17 rfl rfl)
theorem dL_law_1143 : decode cL_law 1143 = .ok (.istore 6, 2) := dk_54 6 (dk_at dksL_law_42 20 rfl rfl)
theorem dL_law_1145 : decode cL_law 1145 = .ok (.aload_n 2, 1) := dk_44 (dk_at dksL_law_42 22 rfl rfl)
theorem dL_law_1146 : decode cL_law 1146 = .ok (.aload_n 0, 1) := dk_42 (dk_at dksL_law_42 23 rfl rfl)
theorem dL_law_1147 : decode cL_law 1147 = .ok (.iload 5, 2) := dk_21 5 (dk_at dksL_law_43 0 rfl rfl)
theorem dL_law_1149 : decode cL_law 1149 = .ok (.iconst 1, 1) := dk_4 (dk_at dksL_law_43 2 rfl rfl)
theorem dL_law_1150 : decode cL_law 1150 = .ok (.iadd, 1) := dk_96 (dk_at dksL_law_43 3 rfl rfl)
theorem dL_law_1151 : decode cL_law 1151 = .ok (.iaload, 1) := dk_46 (dk_at dksL_law_43 4 rfl rfl)
theorem dL_law_1152 : decode cL_law 1152 = .ok (.aload_n 0, 1) := dk_42 (dk_at dksL_law_43 5 rfl rfl)
theorem dL_law_1153 : decode cL_law 1153 = .ok (.iload 5, 2) := dk_21 5 (dk_at dksL_law_43 6 rfl rfl)
theorem dL_law_1155 : decode cL_law 1155 = .ok (.iconst 2, 1) := dk_5 (dk_at dksL_law_43 8 rfl rfl)
theorem dL_law_1156 : decode cL_law 1156 = .ok (.iadd, 1) := dk_96 (dk_at dksL_law_43 9 rfl rfl)
theorem dL_law_1157 : decode cL_law 1157 = .ok (.iaload, 1) := dk_46 (dk_at dksL_law_43 10 rfl rfl)
theorem dL_law_1158 : decode cL_law 1158 = .ok (.invokevirtual 206, 3) := dk_182 0 206 (dk_at dksL_law_43 11 rfl rfl)
theorem dL_law_1161 : decode cL_law 1161 = .ok (.istore 7, 2) := dk_54 7 (dk_at dksL_law_43 14 rfl rfl)
theorem dL_law_1163 : decode cL_law 1163 = .ok (.aload_n 2, 1) := dk_44 (dk_at dksL_law_43 16 rfl rfl)
theorem dL_law_1164 : decode cL_law 1164 = .ok (.invokevirtual 156, 3) := dk_182 0 156 (dk_at dksL_law_43 17 rfl rfl)
theorem dL_law_1167 : decode cL_law 1167 = .ok (.iload 6, 2) := dk_21 6 (dk_at dksL_law_43 20 rfl rfl)
theorem dL_law_1169 : decode cL_law 1169 = .ok (.if_icmp .eq 5, 3) := dk_159 0 5 (dk_at dksL_law_44 0 rfl rfl)
theorem dL_law_1172 : decode cL_law 1172 = .ok (.iconst 0, 1) := dk_3 (dk_at dksL_law_44 3 rfl rfl)
theorem dL_law_1173 : decode cL_law 1173 = .ok (.ireturn, 1) := dk_172 (dk_at dksL_law_44 4 rfl rfl)
theorem dL_law_1174 : decode cL_law 1174 = .ok (.iload 6, 2) := dk_21 6 (dk_at dksL_law_44 5 rfl rfl)
theorem dL_law_1176 : decode cL_law 1176 = .ok (.ifCond .ne 15, 3) := dk_154 0 15 (dk_at dksL_law_44 7 rfl rfl)
theorem dL_law_1179 : decode cL_law 1179 = .ok (.aload_n 3, 1) := dk_45 (dk_at dksL_law_44 10 rfl rfl)
theorem dL_law_1180 : decode cL_law 1180 = .ok (.iconst 0, 1) := dk_3 (dk_at dksL_law_44 11 rfl rfl)
theorem dL_law_1181 : decode cL_law 1181 = .ok (.laload, 1) := dk_47 (dk_at dksL_law_44 12 rfl rfl)
theorem dL_law_1182 : decode cL_law 1182 = .ok (.iload 7, 2) := dk_21 7 (dk_at dksL_law_44 13 rfl rfl)
theorem dL_law_1184 : decode cL_law 1184 = .ok (.i2l, 1) := dk_133 (dk_at dksL_law_44 15 rfl rfl)
theorem dL_law_1185 : decode cL_law 1185 = .ok (.lcmp, 1) := dk_148 (dk_at dksL_law_44 16 rfl rfl)
theorem dL_law_1186 : decode cL_law 1186 = .ok (.ifCond .eq 5, 3) := dk_153 0 5 (dk_at dksL_law_44 17 rfl rfl)
theorem dL_law_1189 : decode cL_law 1189 = .ok (.iconst 0, 1) := dk_3 (dk_at dksL_law_44 20 rfl rfl)
theorem dL_law_1190 : decode cL_law 1190 = .ok (.ireturn, 1) := dk_172 (dk_at dksL_law_44 21 rfl rfl)
theorem dL_law_1191 : decode cL_law 1191 = .ok (.goto 1459, 3) := dk_167 5 179 (dk_at dksL_law_45 0 rfl rfl)
theorem dL_law_1194 : decode cL_law 1194 = .ok (.aload_n 1, 1) := dk_43 (dk_at dksL_law_45 3 rfl rfl)
theorem dL_law_1195 : decode cL_law 1195 = .ok (.aload_n 0, 1) := dk_42 (dk_at dksL_law_45 4 rfl rfl)
theorem dL_law_1196 : decode cL_law 1196 = .ok (.iload 5, 2) := dk_21 5 (dk_at dksL_law_45 5 rfl rfl)
theorem dL_law_1198 : decode cL_law 1198 = .ok (.iconst 1, 1) := dk_4 (dk_at dksL_law_45 7 rfl rfl)
theorem dL_law_1199 : decode cL_law 1199 = .ok (.iadd, 1) := dk_96 (dk_at dksL_law_45 8 rfl rfl)
theorem dL_law_1200 : decode cL_law 1200 = .ok (.iaload, 1) := dk_46 (dk_at dksL_law_45 9 rfl rfl)
theorem dL_law_1201 : decode cL_law 1201 = .ok (.aload_n 0, 1) := dk_42 (dk_at dksL_law_45 10 rfl rfl)
theorem dL_law_1202 : decode cL_law 1202 = .ok (.iload 5, 2) := dk_21 5 (dk_at dksL_law_45 11 rfl rfl)
theorem dL_law_1204 : decode cL_law 1204 = .ok (.iconst 2, 1) := dk_5 (dk_at dksL_law_45 13 rfl rfl)
theorem dL_law_1205 : decode cL_law 1205 = .ok (.iadd, 1) := dk_96 (dk_at dksL_law_45 14 rfl rfl)
theorem dL_law_1206 : decode cL_law 1206 = .ok (.iaload, 1) := dk_46 (dk_at dksL_law_45 15 rfl rfl)
theorem dL_law_1207 : decode cL_law 1207 = .ok (.aload_n 3, 1) := dk_45 (dk_at dksL_law_45 16 rfl rfl)
theorem dL_law_1208 : decode cL_law 1208 = .ok (.invokestatic 207, 3) := dk_184 0 207 (dk_at dksL_law_45 17 rfl rfl)
theorem dL_law_1211 : decode cL_law 1211 = .ok (.istore 6, 2) := dk_54 6 (dk_at dksL_law_45 20 rfl rfl)
theorem dL_law_1213 : decode cL_law 1213 = .ok (.aload_n 2, 1) := dk_44 (dk_at dksL_law_45 22 rfl rfl)
theorem dL_law_1214 : decode cL_law 1214 = .ok (.aload_n 0, 1) := dk_42 (dk_at dksL_law_45 23 rfl rfl)
theorem dL_law_1215 : decode cL_law 1215 = .ok (.iload 5, 2) := dk_21 5 (dk_at dksL_law_46 0 rfl rfl)
theorem dL_law_1217 : decode cL_law 1217 = .ok (.iconst 1, 1) := dk_4 (dk_at dksL_law_46 2 rfl rfl)
theorem dL_law_1218 : decode cL_law 1218 = .ok (.iadd, 1) := dk_96 (dk_at dksL_law_46 3 rfl rfl)
theorem dL_law_1219 : decode cL_law 1219 = .ok (.iaload, 1) := dk_46 (dk_at dksL_law_46 4 rfl rfl)
theorem dL_law_1220 : decode cL_law 1220 = .ok (.aload_n 0, 1) := dk_42 (dk_at dksL_law_46 5 rfl rfl)
theorem dL_law_1221 : decode cL_law 1221 = .ok (.iload 5, 2) := dk_21 5 (dk_at dksL_law_46 6 rfl rfl)
theorem dL_law_1223 : decode cL_law 1223 = .ok (.iconst 2, 1) := dk_5 (dk_at dksL_law_46 8 rfl rfl)
theorem dL_law_1224 : decode cL_law 1224 = .ok (.iadd, 1) := dk_96 (dk_at dksL_law_46 9 rfl rfl)
theorem dL_law_1225 : decode cL_law 1225 = .ok (.iaload, 1) := dk_46 (dk_at dksL_law_46 10 rfl rfl)
theorem dL_law_1226 : decode cL_law 1226 = .ok (.invokevirtual 209, 3) := dk_182 0 209 (dk_at dksL_law_46 11 rfl rfl)
theorem dL_law_1229 : decode cL_law 1229 = .ok (.istore 7, 2) := dk_54 7 (dk_at dksL_law_46 14 rfl rfl)
theorem dL_law_1231 : decode cL_law 1231 = .ok (.aload_n 2, 1) := dk_44 (dk_at dksL_law_46 16 rfl rfl)
theorem dL_law_1232 : decode cL_law 1232 = .ok (.invokevirtual 156, 3) := dk_182 0 156 (dk_at dksL_law_46 17 rfl rfl)
theorem dL_law_1235 : decode cL_law 1235 = .ok (.iload 6, 2) := dk_21 6 (dk_at dksL_law_46 20 rfl rfl)
theorem dL_law_1237 : decode cL_law 1237 = .ok (.if_icmp .eq 5, 3) := dk_159 0 5 (dk_at dksL_law_47 0 rfl rfl)
theorem dL_law_1240 : decode cL_law 1240 = .ok (.iconst 0, 1) := dk_3 (dk_at dksL_law_47 3 rfl rfl)
theorem dL_law_1241 : decode cL_law 1241 = .ok (.ireturn, 1) := dk_172 (dk_at dksL_law_47 4 rfl rfl)
theorem dL_law_1242 : decode cL_law 1242 = .ok (.iload 6, 2) := dk_21 6 (dk_at dksL_law_47 5 rfl rfl)
theorem dL_law_1244 : decode cL_law 1244 = .ok (.ifCond .ne 15, 3) := dk_154 0 15 (dk_at dksL_law_47 7 rfl rfl)
theorem dL_law_1247 : decode cL_law 1247 = .ok (.aload_n 3, 1) := dk_45 (dk_at dksL_law_47 10 rfl rfl)
theorem dL_law_1248 : decode cL_law 1248 = .ok (.iconst 0, 1) := dk_3 (dk_at dksL_law_47 11 rfl rfl)
theorem dL_law_1249 : decode cL_law 1249 = .ok (.laload, 1) := dk_47 (dk_at dksL_law_47 12 rfl rfl)
theorem dL_law_1250 : decode cL_law 1250 = .ok (.iload 7, 2) := dk_21 7 (dk_at dksL_law_47 13 rfl rfl)
theorem dL_law_1252 : decode cL_law 1252 = .ok (.i2l, 1) := dk_133 (dk_at dksL_law_47 15 rfl rfl)
theorem dL_law_1253 : decode cL_law 1253 = .ok (.lcmp, 1) := dk_148 (dk_at dksL_law_47 16 rfl rfl)
theorem dL_law_1254 : decode cL_law 1254 = .ok (.ifCond .eq 5, 3) := dk_153 0 5 (dk_at dksL_law_47 17 rfl rfl)
theorem dL_law_1257 : decode cL_law 1257 = .ok (.iconst 0, 1) := dk_3 (dk_at dksL_law_47 20 rfl rfl)
theorem dL_law_1258 : decode cL_law 1258 = .ok (.ireturn, 1) := dk_172 (dk_at dksL_law_47 21 rfl rfl)
theorem dL_law_1259 : decode cL_law 1259 = .ok (.goto 1391, 3) := dk_167 5 111 (dk_at dksL_law_48 0 rfl rfl)
theorem dL_law_1262 : decode cL_law 1262 = .ok (.aload_n 1, 1) := dk_43 (dk_at dksL_law_48 3 rfl rfl)
theorem dL_law_1263 : decode cL_law 1263 = .ok (.aload_n 0, 1) := dk_42 (dk_at dksL_law_48 4 rfl rfl)
theorem dL_law_1264 : decode cL_law 1264 = .ok (.iload 5, 2) := dk_21 5 (dk_at dksL_law_48 5 rfl rfl)
theorem dL_law_1266 : decode cL_law 1266 = .ok (.iconst 1, 1) := dk_4 (dk_at dksL_law_48 7 rfl rfl)
theorem dL_law_1267 : decode cL_law 1267 = .ok (.iadd, 1) := dk_96 (dk_at dksL_law_48 8 rfl rfl)
theorem dL_law_1268 : decode cL_law 1268 = .ok (.iaload, 1) := dk_46 (dk_at dksL_law_48 9 rfl rfl)
theorem dL_law_1269 : decode cL_law 1269 = .ok (.aload_n 0, 1) := dk_42 (dk_at dksL_law_48 10 rfl rfl)
theorem dL_law_1270 : decode cL_law 1270 = .ok (.iload 5, 2) := dk_21 5 (dk_at dksL_law_48 11 rfl rfl)
theorem dL_law_1272 : decode cL_law 1272 = .ok (.iconst 2, 1) := dk_5 (dk_at dksL_law_48 13 rfl rfl)
theorem dL_law_1273 : decode cL_law 1273 = .ok (.iadd, 1) := dk_96 (dk_at dksL_law_48 14 rfl rfl)
theorem dL_law_1274 : decode cL_law 1274 = .ok (.iaload, 1) := dk_46 (dk_at dksL_law_48 15 rfl rfl)
theorem dL_law_1275 : decode cL_law 1275 = .ok (.aload_n 3, 1) := dk_45 (dk_at dksL_law_48 16 rfl rfl)
theorem dL_law_1276 : decode cL_law 1276 = .ok (.invokestatic 210, 3) := dk_184 0 210 (dk_at dksL_law_48 17 rfl rfl)
theorem dL_law_1279 : decode cL_law 1279 = .ok (.istore 6, 2) := dk_54 6 (dk_at dksL_law_48 20 rfl rfl)
theorem dL_law_1281 : decode cL_law 1281 = .ok (.aload_n 2, 1) := dk_44 (dk_at dksL_law_48 22 rfl rfl)
theorem dL_law_1282 : decode cL_law 1282 = .ok (.aload_n 0, 1) := dk_42 (dk_at dksL_law_48 23 rfl rfl)
theorem dL_law_1283 : decode cL_law 1283 = .ok (.iload 5, 2) := dk_21 5 (dk_at dksL_law_49 0 rfl rfl)
theorem dL_law_1285 : decode cL_law 1285 = .ok (.iconst 1, 1) := dk_4 (dk_at dksL_law_49 2 rfl rfl)
theorem dL_law_1286 : decode cL_law 1286 = .ok (.iadd, 1) := dk_96 (dk_at dksL_law_49 3 rfl rfl)
theorem dL_law_1287 : decode cL_law 1287 = .ok (.iaload, 1) := dk_46 (dk_at dksL_law_49 4 rfl rfl)
theorem dL_law_1288 : decode cL_law 1288 = .ok (.aload_n 0, 1) := dk_42 (dk_at dksL_law_49 5 rfl rfl)
theorem dL_law_1289 : decode cL_law 1289 = .ok (.iload 5, 2) := dk_21 5 (dk_at dksL_law_49 6 rfl rfl)
theorem dL_law_1291 : decode cL_law 1291 = .ok (.iconst 2, 1) := dk_5 (dk_at dksL_law_49 8 rfl rfl)
theorem dL_law_1292 : decode cL_law 1292 = .ok (.iadd, 1) := dk_96 (dk_at dksL_law_49 9 rfl rfl)
theorem dL_law_1293 : decode cL_law 1293 = .ok (.iaload, 1) := dk_46 (dk_at dksL_law_49 10 rfl rfl)
theorem dL_law_1294 : decode cL_law 1294 = .ok (.invokevirtual 212, 3) := dk_182 0 212 (dk_at dksL_law_49 11 rfl rfl)
theorem dL_law_1297 : decode cL_law 1297 = .ok (.istore 7, 2) := dk_54 7 (dk_at dksL_law_49 14 rfl rfl)
theorem dL_law_1299 : decode cL_law 1299 = .ok (.aload_n 2, 1) := dk_44 (dk_at dksL_law_49 16 rfl rfl)
theorem dL_law_1300 : decode cL_law 1300 = .ok (.invokevirtual 156, 3) := dk_182 0 156 (dk_at dksL_law_49 17 rfl rfl)
theorem dL_law_1303 : decode cL_law 1303 = .ok (.iload 6, 2) := dk_21 6 (dk_at dksL_law_49 20 rfl rfl)
theorem dL_law_1305 : decode cL_law 1305 = .ok (.if_icmp .eq 5, 3) := dk_159 0 5 (dk_at dksL_law_50 0 rfl rfl)
theorem dL_law_1308 : decode cL_law 1308 = .ok (.iconst 0, 1) := dk_3 (dk_at dksL_law_50 3 rfl rfl)
theorem dL_law_1309 : decode cL_law 1309 = .ok (.ireturn, 1) := dk_172 (dk_at dksL_law_50 4 rfl rfl)
theorem dL_law_1310 : decode cL_law 1310 = .ok (.iload 6, 2) := dk_21 6 (dk_at dksL_law_50 5 rfl rfl)
theorem dL_law_1312 : decode cL_law 1312 = .ok (.ifCond .ne 15, 3) := dk_154 0 15 (dk_at dksL_law_50 7 rfl rfl)
theorem dL_law_1315 : decode cL_law 1315 = .ok (.aload_n 3, 1) := dk_45 (dk_at dksL_law_50 10 rfl rfl)
theorem dL_law_1316 : decode cL_law 1316 = .ok (.iconst 0, 1) := dk_3 (dk_at dksL_law_50 11 rfl rfl)
theorem dL_law_1317 : decode cL_law 1317 = .ok (.laload, 1) := dk_47 (dk_at dksL_law_50 12 rfl rfl)
theorem dL_law_1318 : decode cL_law 1318 = .ok (.iload 7, 2) := dk_21 7 (dk_at dksL_law_50 13 rfl rfl)
theorem dL_law_1320 : decode cL_law 1320 = .ok (.i2l, 1) := dk_133 (dk_at dksL_law_50 15 rfl rfl)
theorem dL_law_1321 : decode cL_law 1321 = .ok (.lcmp, 1) := dk_148 (dk_at dksL_law_50 16 rfl rfl)
theorem dL_law_1322 : decode cL_law 1322 = .ok (.ifCond .eq 5, 3) := dk_153 0 5 (dk_at dksL_law_50 17 rfl rfl)
theorem dL_law_1325 : decode cL_law 1325 = .ok (.iconst 0, 1) := dk_3 (dk_at dksL_law_50 20 rfl rfl)
theorem dL_law_1326 : decode cL_law 1326 = .ok (.ireturn, 1) := dk_172 (dk_at dksL_law_50 21 rfl rfl)
theorem dL_law_1327 : decode cL_law 1327 = .ok (.goto 1323, 3) := dk_167 5 43 (dk_at dksL_law_51 0 rfl rfl)
theorem dL_law_1330 : decode cL_law 1330 = .ok (.aload_n 1, 1) := dk_43 (dk_at dksL_law_51 3 rfl rfl)
theorem dL_law_1331 : decode cL_law 1331 = .ok (.aload_n 0, 1) := dk_42 (dk_at dksL_law_51 4 rfl rfl)
theorem dL_law_1332 : decode cL_law 1332 = .ok (.iload 5, 2) := dk_21 5 (dk_at dksL_law_51 5 rfl rfl)
theorem dL_law_1334 : decode cL_law 1334 = .ok (.iconst 1, 1) := dk_4 (dk_at dksL_law_51 7 rfl rfl)
theorem dL_law_1335 : decode cL_law 1335 = .ok (.iadd, 1) := dk_96 (dk_at dksL_law_51 8 rfl rfl)
theorem dL_law_1336 : decode cL_law 1336 = .ok (.iaload, 1) := dk_46 (dk_at dksL_law_51 9 rfl rfl)
theorem dL_law_1337 : decode cL_law 1337 = .ok (.aload_n 0, 1) := dk_42 (dk_at dksL_law_51 10 rfl rfl)
theorem dL_law_1338 : decode cL_law 1338 = .ok (.iload 5, 2) := dk_21 5 (dk_at dksL_law_51 11 rfl rfl)
theorem dL_law_1340 : decode cL_law 1340 = .ok (.iconst 2, 1) := dk_5 (dk_at dksL_law_51 13 rfl rfl)
theorem dL_law_1341 : decode cL_law 1341 = .ok (.iadd, 1) := dk_96 (dk_at dksL_law_51 14 rfl rfl)
theorem dL_law_1342 : decode cL_law 1342 = .ok (.iaload, 1) := dk_46 (dk_at dksL_law_51 15 rfl rfl)
theorem dL_law_1343 : decode cL_law 1343 = .ok (.aload_n 3, 1) := dk_45 (dk_at dksL_law_51 16 rfl rfl)
theorem dL_law_1344 : decode cL_law 1344 = .ok (.invokestatic 213, 3) := dk_184 0 213 (dk_at dksL_law_51 17 rfl rfl)
theorem dL_law_1347 : decode cL_law 1347 = .ok (.istore 6, 2) := dk_54 6 (dk_at dksL_law_51 20 rfl rfl)
theorem dL_law_1349 : decode cL_law 1349 = .ok (.aload_n 2, 1) := dk_44 (dk_at dksL_law_51 22 rfl rfl)
theorem dL_law_1350 : decode cL_law 1350 = .ok (.aload_n 0, 1) := dk_42 (dk_at dksL_law_51 23 rfl rfl)
theorem dL_law_1351 : decode cL_law 1351 = .ok (.iload 5, 2) := dk_21 5 (dk_at dksL_law_52 0 rfl rfl)
theorem dL_law_1353 : decode cL_law 1353 = .ok (.iconst 1, 1) := dk_4 (dk_at dksL_law_52 2 rfl rfl)
theorem dL_law_1354 : decode cL_law 1354 = .ok (.iadd, 1) := dk_96 (dk_at dksL_law_52 3 rfl rfl)
theorem dL_law_1355 : decode cL_law 1355 = .ok (.iaload, 1) := dk_46 (dk_at dksL_law_52 4 rfl rfl)
theorem dL_law_1356 : decode cL_law 1356 = .ok (.aload_n 0, 1) := dk_42 (dk_at dksL_law_52 5 rfl rfl)
theorem dL_law_1357 : decode cL_law 1357 = .ok (.iload 5, 2) := dk_21 5 (dk_at dksL_law_52 6 rfl rfl)
theorem dL_law_1359 : decode cL_law 1359 = .ok (.iconst 2, 1) := dk_5 (dk_at dksL_law_52 8 rfl rfl)
theorem dL_law_1360 : decode cL_law 1360 = .ok (.iadd, 1) := dk_96 (dk_at dksL_law_52 9 rfl rfl)
theorem dL_law_1361 : decode cL_law 1361 = .ok (.iaload, 1) := dk_46 (dk_at dksL_law_52 10 rfl rfl)
theorem dL_law_1362 : decode cL_law 1362 = .ok (.invokevirtual 215, 3) := dk_182 0 215 (dk_at dksL_law_52 11 rfl rfl)
theorem dL_law_1365 : decode cL_law 1365 = .ok (.istore 7, 2) := dk_54 7 (dk_at dksL_law_52 14 rfl rfl)
theorem dL_law_1367 : decode cL_law 1367 = .ok (.aload_n 2, 1) := dk_44 (dk_at dksL_law_52 16 rfl rfl)
theorem dL_law_1368 : decode cL_law 1368 = .ok (.invokevirtual 156, 3) := dk_182 0 156 (dk_at dksL_law_52 17 rfl rfl)
theorem dL_law_1371 : decode cL_law 1371 = .ok (.iload 6, 2) := dk_21 6 (dk_at dksL_law_52 20 rfl rfl)
theorem dL_law_1373 : decode cL_law 1373 = .ok (.if_icmp .eq 5, 3) := dk_159 0 5 (dk_at dksL_law_53 0 rfl rfl)
theorem dL_law_1376 : decode cL_law 1376 = .ok (.iconst 0, 1) := dk_3 (dk_at dksL_law_53 3 rfl rfl)
theorem dL_law_1377 : decode cL_law 1377 = .ok (.ireturn, 1) := dk_172 (dk_at dksL_law_53 4 rfl rfl)
theorem dL_law_1378 : decode cL_law 1378 = .ok (.iload 6, 2) := dk_21 6 (dk_at dksL_law_53 5 rfl rfl)
theorem dL_law_1380 : decode cL_law 1380 = .ok (.ifCond .ne 15, 3) := dk_154 0 15 (dk_at dksL_law_53 7 rfl rfl)
theorem dL_law_1383 : decode cL_law 1383 = .ok (.aload_n 3, 1) := dk_45 (dk_at dksL_law_53 10 rfl rfl)
theorem dL_law_1384 : decode cL_law 1384 = .ok (.iconst 0, 1) := dk_3 (dk_at dksL_law_53 11 rfl rfl)
theorem dL_law_1385 : decode cL_law 1385 = .ok (.laload, 1) := dk_47 (dk_at dksL_law_53 12 rfl rfl)
theorem dL_law_1386 : decode cL_law 1386 = .ok (.iload 7, 2) := dk_21 7 (dk_at dksL_law_53 13 rfl rfl)
theorem dL_law_1388 : decode cL_law 1388 = .ok (.i2l, 1) := dk_133 (dk_at dksL_law_53 15 rfl rfl)
theorem dL_law_1389 : decode cL_law 1389 = .ok (.lcmp, 1) := dk_148 (dk_at dksL_law_53 16 rfl rfl)
theorem dL_law_1390 : decode cL_law 1390 = .ok (.ifCond .eq 5, 3) := dk_153 0 5 (dk_at dksL_law_53 17 rfl rfl)
theorem dL_law_1393 : decode cL_law 1393 = .ok (.iconst 0, 1) := dk_3 (dk_at dksL_law_53 20 rfl rfl)
theorem dL_law_1394 : decode cL_law 1394 = .ok (.ireturn, 1) := dk_172 (dk_at dksL_law_53 21 rfl rfl)
theorem dL_law_1395 : decode cL_law 1395 = .ok (.goto 1255, 3) := dk_167 4 231 (dk_at dksL_law_54 0 rfl rfl)
theorem dL_law_1398 : decode cL_law 1398 = .ok (.aload_n 1, 1) := dk_43 (dk_at dksL_law_54 3 rfl rfl)
theorem dL_law_1399 : decode cL_law 1399 = .ok (.aload_n 0, 1) := dk_42 (dk_at dksL_law_54 4 rfl rfl)
theorem dL_law_1400 : decode cL_law 1400 = .ok (.iload 5, 2) := dk_21 5 (dk_at dksL_law_54 5 rfl rfl)
theorem dL_law_1402 : decode cL_law 1402 = .ok (.iconst 1, 1) := dk_4 (dk_at dksL_law_54 7 rfl rfl)
theorem dL_law_1403 : decode cL_law 1403 = .ok (.iadd, 1) := dk_96 (dk_at dksL_law_54 8 rfl rfl)
theorem dL_law_1404 : decode cL_law 1404 = .ok (.iaload, 1) := dk_46 (dk_at dksL_law_54 9 rfl rfl)
theorem dL_law_1405 : decode cL_law 1405 = .ok (.aload_n 0, 1) := dk_42 (dk_at dksL_law_54 10 rfl rfl)
theorem dL_law_1406 : decode cL_law 1406 = .ok (.iload 5, 2) := dk_21 5 (dk_at dksL_law_54 11 rfl rfl)
theorem dL_law_1408 : decode cL_law 1408 = .ok (.iconst 2, 1) := dk_5 (dk_at dksL_law_54 13 rfl rfl)
theorem dL_law_1409 : decode cL_law 1409 = .ok (.iadd, 1) := dk_96 (dk_at dksL_law_54 14 rfl rfl)
theorem dL_law_1410 : decode cL_law 1410 = .ok (.iaload, 1) := dk_46 (dk_at dksL_law_54 15 rfl rfl)
theorem dL_law_1411 : decode cL_law 1411 = .ok (.aload_n 3, 1) := dk_45 (dk_at dksL_law_54 16 rfl rfl)
theorem dL_law_1412 : decode cL_law 1412 = .ok (.invokestatic 216, 3) := dk_184 0 216 (dk_at dksL_law_54 17 rfl rfl)
theorem dL_law_1415 : decode cL_law 1415 = .ok (.istore 6, 2) := dk_54 6 (dk_at dksL_law_54 20 rfl rfl)
theorem dL_law_1417 : decode cL_law 1417 = .ok (.aload_n 2, 1) := dk_44 (dk_at dksL_law_54 22 rfl rfl)
theorem dL_law_1418 : decode cL_law 1418 = .ok (.aload_n 0, 1) := dk_42 (dk_at dksL_law_54 23 rfl rfl)
theorem dL_law_1419 : decode cL_law 1419 = .ok (.iload 5, 2) := dk_21 5 (dk_at dksL_law_55 0 rfl rfl)
theorem dL_law_1421 : decode cL_law 1421 = .ok (.iconst 1, 1) := dk_4 (dk_at dksL_law_55 2 rfl rfl)
theorem dL_law_1422 : decode cL_law 1422 = .ok (.iadd, 1) := dk_96 (dk_at dksL_law_55 3 rfl rfl)
theorem dL_law_1423 : decode cL_law 1423 = .ok (.iaload, 1) := dk_46 (dk_at dksL_law_55 4 rfl rfl)
theorem dL_law_1424 : decode cL_law 1424 = .ok (.aload_n 0, 1) := dk_42 (dk_at dksL_law_55 5 rfl rfl)
theorem dL_law_1425 : decode cL_law 1425 = .ok (.iload 5, 2) := dk_21 5 (dk_at dksL_law_55 6 rfl rfl)
theorem dL_law_1427 : decode cL_law 1427 = .ok (.iconst 2, 1) := dk_5 (dk_at dksL_law_55 8 rfl rfl)
theorem dL_law_1428 : decode cL_law 1428 = .ok (.iadd, 1) := dk_96 (dk_at dksL_law_55 9 rfl rfl)
theorem dL_law_1429 : decode cL_law 1429 = .ok (.iaload, 1) := dk_46 (dk_at dksL_law_55 10 rfl rfl)
theorem dL_law_1430 : decode cL_law 1430 = .ok (.invokevirtual 218, 3) := dk_182 0 218 (dk_at dksL_law_55 11 rfl rfl)
theorem dL_law_1433 : decode cL_law 1433 = .ok (.istore 7, 2) := dk_54 7 (dk_at dksL_law_55 14 rfl rfl)
theorem dL_law_1435 : decode cL_law 1435 = .ok (.aload_n 2, 1) := dk_44 (dk_at dksL_law_55 16 rfl rfl)
theorem dL_law_1436 : decode cL_law 1436 = .ok (.invokevirtual 156, 3) := dk_182 0 156 (dk_at dksL_law_55 17 rfl rfl)
theorem dL_law_1439 : decode cL_law 1439 = .ok (.iload 6, 2) := dk_21 6 (dk_at dksL_law_55 20 rfl rfl)
theorem dL_law_1441 : decode cL_law 1441 = .ok (.if_icmp .eq 5, 3) := dk_159 0 5 (dk_at dksL_law_56 0 rfl rfl)
theorem dL_law_1444 : decode cL_law 1444 = .ok (.iconst 0, 1) := dk_3 (dk_at dksL_law_56 3 rfl rfl)
theorem dL_law_1445 : decode cL_law 1445 = .ok (.ireturn, 1) := dk_172 (dk_at dksL_law_56 4 rfl rfl)
theorem dL_law_1446 : decode cL_law 1446 = .ok (.iload 6, 2) := dk_21 6 (dk_at dksL_law_56 5 rfl rfl)
theorem dL_law_1448 : decode cL_law 1448 = .ok (.ifCond .ne 15, 3) := dk_154 0 15 (dk_at dksL_law_56 7 rfl rfl)
theorem dL_law_1451 : decode cL_law 1451 = .ok (.aload_n 3, 1) := dk_45 (dk_at dksL_law_56 10 rfl rfl)
theorem dL_law_1452 : decode cL_law 1452 = .ok (.iconst 0, 1) := dk_3 (dk_at dksL_law_56 11 rfl rfl)
theorem dL_law_1453 : decode cL_law 1453 = .ok (.laload, 1) := dk_47 (dk_at dksL_law_56 12 rfl rfl)
theorem dL_law_1454 : decode cL_law 1454 = .ok (.iload 7, 2) := dk_21 7 (dk_at dksL_law_56 13 rfl rfl)
theorem dL_law_1456 : decode cL_law 1456 = .ok (.i2l, 1) := dk_133 (dk_at dksL_law_56 15 rfl rfl)
theorem dL_law_1457 : decode cL_law 1457 = .ok (.lcmp, 1) := dk_148 (dk_at dksL_law_56 16 rfl rfl)
theorem dL_law_1458 : decode cL_law 1458 = .ok (.ifCond .eq 5, 3) := dk_153 0 5 (dk_at dksL_law_56 17 rfl rfl)
theorem dL_law_1461 : decode cL_law 1461 = .ok (.iconst 0, 1) := dk_3 (dk_at dksL_law_56 20 rfl rfl)
theorem dL_law_1462 : decode cL_law 1462 = .ok (.ireturn, 1) := dk_172 (dk_at dksL_law_56 21 rfl rfl)
theorem dL_law_1463 : decode cL_law 1463 = .ok (.goto 1187, 3) := dk_167 4 163 (dk_at dksL_law_57 0 rfl rfl)
theorem dL_law_1466 : decode cL_law 1466 = .ok (.aload_n 1, 1) := dk_43 (dk_at dksL_law_57 3 rfl rfl)
theorem dL_law_1467 : decode cL_law 1467 = .ok (.aload_n 0, 1) := dk_42 (dk_at dksL_law_57 4 rfl rfl)
theorem dL_law_1468 : decode cL_law 1468 = .ok (.iload 5, 2) := dk_21 5 (dk_at dksL_law_57 5 rfl rfl)
theorem dL_law_1470 : decode cL_law 1470 = .ok (.iconst 1, 1) := dk_4 (dk_at dksL_law_57 7 rfl rfl)
theorem dL_law_1471 : decode cL_law 1471 = .ok (.iadd, 1) := dk_96 (dk_at dksL_law_57 8 rfl rfl)
theorem dL_law_1472 : decode cL_law 1472 = .ok (.iaload, 1) := dk_46 (dk_at dksL_law_57 9 rfl rfl)
theorem dL_law_1473 : decode cL_law 1473 = .ok (.aload_n 0, 1) := dk_42 (dk_at dksL_law_57 10 rfl rfl)
theorem dL_law_1474 : decode cL_law 1474 = .ok (.iload 5, 2) := dk_21 5 (dk_at dksL_law_57 11 rfl rfl)
theorem dL_law_1476 : decode cL_law 1476 = .ok (.iconst 2, 1) := dk_5 (dk_at dksL_law_57 13 rfl rfl)
theorem dL_law_1477 : decode cL_law 1477 = .ok (.iadd, 1) := dk_96 (dk_at dksL_law_57 14 rfl rfl)
theorem dL_law_1478 : decode cL_law 1478 = .ok (.iaload, 1) := dk_46 (dk_at dksL_law_57 15 rfl rfl)
theorem dL_law_1479 : decode cL_law 1479 = .ok (.aload_n 3, 1) := dk_45 (dk_at dksL_law_57 16 rfl rfl)
theorem dL_law_1480 : decode cL_law 1480 = .ok (.invokestatic 219, 3) := dk_184 0 219 (dk_at dksL_law_57 17 rfl rfl)
theorem dL_law_1483 : decode cL_law 1483 = .ok (.istore 6, 2) := dk_54 6 (dk_at dksL_law_57 20 rfl rfl)
theorem dL_law_1485 : decode cL_law 1485 = .ok (.aload_n 2, 1) := dk_44 (dk_at dksL_law_57 22 rfl rfl)
theorem dL_law_1486 : decode cL_law 1486 = .ok (.aload_n 0, 1) := dk_42 (dk_at dksL_law_57 23 rfl rfl)
theorem dL_law_1487 : decode cL_law 1487 = .ok (.iload 5, 2) := dk_21 5 (dk_at dksL_law_58 0 rfl rfl)
theorem dL_law_1489 : decode cL_law 1489 = .ok (.iconst 1, 1) := dk_4 (dk_at dksL_law_58 2 rfl rfl)
theorem dL_law_1490 : decode cL_law 1490 = .ok (.iadd, 1) := dk_96 (dk_at dksL_law_58 3 rfl rfl)
theorem dL_law_1491 : decode cL_law 1491 = .ok (.iaload, 1) := dk_46 (dk_at dksL_law_58 4 rfl rfl)
theorem dL_law_1492 : decode cL_law 1492 = .ok (.aload_n 0, 1) := dk_42 (dk_at dksL_law_58 5 rfl rfl)
theorem dL_law_1493 : decode cL_law 1493 = .ok (.iload 5, 2) := dk_21 5 (dk_at dksL_law_58 6 rfl rfl)
theorem dL_law_1495 : decode cL_law 1495 = .ok (.iconst 2, 1) := dk_5 (dk_at dksL_law_58 8 rfl rfl)
theorem dL_law_1496 : decode cL_law 1496 = .ok (.iadd, 1) := dk_96 (dk_at dksL_law_58 9 rfl rfl)
theorem dL_law_1497 : decode cL_law 1497 = .ok (.iaload, 1) := dk_46 (dk_at dksL_law_58 10 rfl rfl)
theorem dL_law_1498 : decode cL_law 1498 = .ok (.invokevirtual 221, 3) := dk_182 0 221 (dk_at dksL_law_58 11 rfl rfl)
theorem dL_law_1501 : decode cL_law 1501 = .ok (.istore 7, 2) := dk_54 7 (dk_at dksL_law_58 14 rfl rfl)
theorem dL_law_1503 : decode cL_law 1503 = .ok (.aload_n 2, 1) := dk_44 (dk_at dksL_law_58 16 rfl rfl)
theorem dL_law_1504 : decode cL_law 1504 = .ok (.invokevirtual 156, 3) := dk_182 0 156 (dk_at dksL_law_58 17 rfl rfl)
theorem dL_law_1507 : decode cL_law 1507 = .ok (.iload 6, 2) := dk_21 6 (dk_at dksL_law_58 20 rfl rfl)
theorem dL_law_1509 : decode cL_law 1509 = .ok (.if_icmp .eq 5, 3) := dk_159 0 5 (dk_at dksL_law_59 0 rfl rfl)
theorem dL_law_1512 : decode cL_law 1512 = .ok (.iconst 0, 1) := dk_3 (dk_at dksL_law_59 3 rfl rfl)
theorem dL_law_1513 : decode cL_law 1513 = .ok (.ireturn, 1) := dk_172 (dk_at dksL_law_59 4 rfl rfl)
theorem dL_law_1514 : decode cL_law 1514 = .ok (.iload 6, 2) := dk_21 6 (dk_at dksL_law_59 5 rfl rfl)
theorem dL_law_1516 : decode cL_law 1516 = .ok (.ifCond .ne 15, 3) := dk_154 0 15 (dk_at dksL_law_59 7 rfl rfl)
theorem dL_law_1519 : decode cL_law 1519 = .ok (.aload_n 3, 1) := dk_45 (dk_at dksL_law_59 10 rfl rfl)
theorem dL_law_1520 : decode cL_law 1520 = .ok (.iconst 0, 1) := dk_3 (dk_at dksL_law_59 11 rfl rfl)
theorem dL_law_1521 : decode cL_law 1521 = .ok (.laload, 1) := dk_47 (dk_at dksL_law_59 12 rfl rfl)
theorem dL_law_1522 : decode cL_law 1522 = .ok (.iload 7, 2) := dk_21 7 (dk_at dksL_law_59 13 rfl rfl)
theorem dL_law_1524 : decode cL_law 1524 = .ok (.i2l, 1) := dk_133 (dk_at dksL_law_59 15 rfl rfl)
theorem dL_law_1525 : decode cL_law 1525 = .ok (.lcmp, 1) := dk_148 (dk_at dksL_law_59 16 rfl rfl)
theorem dL_law_1526 : decode cL_law 1526 = .ok (.ifCond .eq 5, 3) := dk_153 0 5 (dk_at dksL_law_59 17 rfl rfl)
theorem dL_law_1529 : decode cL_law 1529 = .ok (.iconst 0, 1) := dk_3 (dk_at dksL_law_59 20 rfl rfl)
theorem dL_law_1530 : decode cL_law 1530 = .ok (.ireturn, 1) := dk_172 (dk_at dksL_law_59 21 rfl rfl)
theorem dL_law_1531 : decode cL_law 1531 = .ok (.goto 1119, 3) := dk_167 4 95 (dk_at dksL_law_60 0 rfl rfl)
theorem dL_law_1534 : decode cL_law 1534 = .ok (.aload_n 1, 1) := dk_43 (dk_at dksL_law_60 3 rfl rfl)
theorem dL_law_1535 : decode cL_law 1535 = .ok (.aload_n 0, 1) := dk_42 (dk_at dksL_law_60 4 rfl rfl)
theorem dL_law_1536 : decode cL_law 1536 = .ok (.iload 5, 2) := dk_21 5 (dk_at dksL_law_60 5 rfl rfl)
theorem dL_law_1538 : decode cL_law 1538 = .ok (.iconst 1, 1) := dk_4 (dk_at dksL_law_60 7 rfl rfl)
theorem dL_law_1539 : decode cL_law 1539 = .ok (.iadd, 1) := dk_96 (dk_at dksL_law_60 8 rfl rfl)
theorem dL_law_1540 : decode cL_law 1540 = .ok (.iaload, 1) := dk_46 (dk_at dksL_law_60 9 rfl rfl)
theorem dL_law_1541 : decode cL_law 1541 = .ok (.aload_n 0, 1) := dk_42 (dk_at dksL_law_60 10 rfl rfl)
theorem dL_law_1542 : decode cL_law 1542 = .ok (.iload 5, 2) := dk_21 5 (dk_at dksL_law_60 11 rfl rfl)
theorem dL_law_1544 : decode cL_law 1544 = .ok (.iconst 2, 1) := dk_5 (dk_at dksL_law_60 13 rfl rfl)
theorem dL_law_1545 : decode cL_law 1545 = .ok (.iadd, 1) := dk_96 (dk_at dksL_law_60 14 rfl rfl)
theorem dL_law_1546 : decode cL_law 1546 = .ok (.iaload, 1) := dk_46 (dk_at dksL_law_60 15 rfl rfl)
theorem dL_law_1547 : decode cL_law 1547 = .ok (.aload_n 0, 1) := dk_42 (dk_at dksL_law_60 16 rfl rfl)
theorem dL_law_1548 : decode cL_law 1548 = .ok (.iload 5, 2) := dk_21 5 (dk_at dksL_law_60 17 rfl rfl)
theorem dL_law_1550 : decode cL_law 1550 = .ok (.iconst 3, 1) := dk_6 (dk_at dksL_law_60 19 rfl rfl)
theorem dL_law_1551 : decode cL_law 1551 = .ok (.iadd, 1) := dk_96 (dk_at dksL_law_60 20 rfl rfl)
theorem dL_law_1552 : decode cL_law 1552 = .ok (.iaload, 1) := dk_46 (dk_at dksL_law_60 21 rfl rfl)
theorem dL_law_1553 : decode cL_law 1553 = .ok (.aload_n 0, 1) := dk_42 (dk_at dksL_law_60 22 rfl rfl)
theorem dL_law_1554 : decode cL_law 1554 = .ok (.iload 5, 2) := dk_21 5 (dk_at dksL_law_61 0 rfl rfl)
theorem dL_law_1556 : decode cL_law 1556 = .ok (.iconst 4, 1) := dk_7 (dk_at dksL_law_61 2 rfl rfl)
theorem dL_law_1557 : decode cL_law 1557 = .ok (.iadd, 1) := dk_96 (dk_at dksL_law_61 3 rfl rfl)
theorem dL_law_1558 : decode cL_law 1558 = .ok (.iaload, 1) := dk_46 (dk_at dksL_law_61 4 rfl rfl)
theorem dL_law_1559 : decode cL_law 1559 = .ok (.aload_n 3, 1) := dk_45 (dk_at dksL_law_61 5 rfl rfl)
theorem dL_law_1560 : decode cL_law 1560 = .ok (.invokestatic 222, 3) := dk_184 0 222 (dk_at dksL_law_61 6 rfl rfl)
theorem dL_law_1563 : decode cL_law 1563 = .ok (.istore 6, 2) := dk_54 6 (dk_at dksL_law_61 9 rfl rfl)
theorem dL_law_1565 : decode cL_law 1565 = .ok (.aload_n 2, 1) := dk_44 (dk_at dksL_law_61 11 rfl rfl)
theorem dL_law_1566 : decode cL_law 1566 = .ok (.aload_n 0, 1) := dk_42 (dk_at dksL_law_61 12 rfl rfl)
theorem dL_law_1567 : decode cL_law 1567 = .ok (.iload 5, 2) := dk_21 5 (dk_at dksL_law_61 13 rfl rfl)
theorem dL_law_1569 : decode cL_law 1569 = .ok (.iconst 1, 1) := dk_4 (dk_at dksL_law_61 15 rfl rfl)
theorem dL_law_1570 : decode cL_law 1570 = .ok (.iadd, 1) := dk_96 (dk_at dksL_law_61 16 rfl rfl)
theorem dL_law_1571 : decode cL_law 1571 = .ok (.iaload, 1) := dk_46 (dk_at dksL_law_61 17 rfl rfl)
theorem dL_law_1572 : decode cL_law 1572 = .ok (.aload_n 0, 1) := dk_42 (dk_at dksL_law_61 18 rfl rfl)
theorem dL_law_1573 : decode cL_law 1573 = .ok (.iload 5, 2) := dk_21 5 (dk_at dksL_law_61 19 rfl rfl)
theorem dL_law_1575 : decode cL_law 1575 = .ok (.iconst 2, 1) := dk_5 (dk_at dksL_law_61 21 rfl rfl)
theorem dL_law_1576 : decode cL_law 1576 = .ok (.iadd, 1) := dk_96 (dk_at dksL_law_61 22 rfl rfl)
theorem dL_law_1577 : decode cL_law 1577 = .ok (.iaload, 1) := dk_46 (dk_at dksL_law_61 23 rfl rfl)
theorem dL_law_1578 : decode cL_law 1578 = .ok (.aload_n 0, 1) := dk_42 (dk_at dksL_law_62 0 rfl rfl)
theorem dL_law_1579 : decode cL_law 1579 = .ok (.iload 5, 2) := dk_21 5 (dk_at dksL_law_62 1 rfl rfl)
theorem dL_law_1581 : decode cL_law 1581 = .ok (.iconst 3, 1) := dk_6 (dk_at dksL_law_62 3 rfl rfl)
theorem dL_law_1582 : decode cL_law 1582 = .ok (.iadd, 1) := dk_96 (dk_at dksL_law_62 4 rfl rfl)
theorem dL_law_1583 : decode cL_law 1583 = .ok (.iaload, 1) := dk_46 (dk_at dksL_law_62 5 rfl rfl)
theorem dL_law_1584 : decode cL_law 1584 = .ok (.aload_n 0, 1) := dk_42 (dk_at dksL_law_62 6 rfl rfl)
theorem dL_law_1585 : decode cL_law 1585 = .ok (.iload 5, 2) := dk_21 5 (dk_at dksL_law_62 7 rfl rfl)
theorem dL_law_1587 : decode cL_law 1587 = .ok (.iconst 4, 1) := dk_7 (dk_at dksL_law_62 9 rfl rfl)
theorem dL_law_1588 : decode cL_law 1588 = .ok (.iadd, 1) := dk_96 (dk_at dksL_law_62 10 rfl rfl)
theorem dL_law_1589 : decode cL_law 1589 = .ok (.iaload, 1) := dk_46 (dk_at dksL_law_62 11 rfl rfl)
theorem dL_law_1590 : decode cL_law 1590 = .ok (.invokevirtual 225, 3) := dk_182 0 225 (dk_at dksL_law_62 12 rfl rfl)
theorem dL_law_1593 : decode cL_law 1593 = .ok (.istore 7, 2) := dk_54 7 (dk_at dksL_law_62 15 rfl rfl)
theorem dL_law_1595 : decode cL_law 1595 = .ok (.aload_n 2, 1) := dk_44 (dk_at dksL_law_62 17 rfl rfl)
theorem dL_law_1596 : decode cL_law 1596 = .ok (.invokevirtual 156, 3) := dk_182 0 156 (dk_at dksL_law_62 18 rfl rfl)
theorem dL_law_1599 : decode cL_law 1599 = .ok (.iload 6, 2) := dk_21 6 (dk_at dksL_law_62 21 rfl rfl)
theorem dL_law_1601 : decode cL_law 1601 = .ok (.if_icmp .eq 5, 3) := dk_159 0 5 (dk_at dksL_law_63 0 rfl rfl)
theorem dL_law_1604 : decode cL_law 1604 = .ok (.iconst 0, 1) := dk_3 (dk_at dksL_law_63 3 rfl rfl)
theorem dL_law_1605 : decode cL_law 1605 = .ok (.ireturn, 1) := dk_172 (dk_at dksL_law_63 4 rfl rfl)
theorem dL_law_1606 : decode cL_law 1606 = .ok (.iload 6, 2) := dk_21 6 (dk_at dksL_law_63 5 rfl rfl)
theorem dL_law_1608 : decode cL_law 1608 = .ok (.ifCond .ne 22, 3) := dk_154 0 22 (dk_at dksL_law_63 7 rfl rfl)
theorem dL_law_1611 : decode cL_law 1611 = .ok (.aload_n 3, 1) := dk_45 (dk_at dksL_law_63 10 rfl rfl)
theorem dL_law_1612 : decode cL_law 1612 = .ok (.iconst 0, 1) := dk_3 (dk_at dksL_law_63 11 rfl rfl)
theorem dL_law_1613 : decode cL_law 1613 = .ok (.laload, 1) := dk_47 (dk_at dksL_law_63 12 rfl rfl)
theorem dL_law_1614 : decode cL_law 1614 = .ok (.iload 7, 2) := dk_21 7 (dk_at dksL_law_63 13 rfl rfl)
theorem dL_law_1616 : decode cL_law 1616 = .ok (.ifCond .eq 7, 3) := dk_153 0 7 (dk_at dksL_law_63 15 rfl rfl)
theorem dL_law_1619 : decode cL_law 1619 = .ok (.lconst 1, 1) := dk_10 (dk_at dksL_law_63 18 rfl rfl)
theorem dL_law_1620 : decode cL_law 1620 = .ok (.goto 4, 3) := dk_167 0 4 (dk_at dksL_law_63 19 rfl rfl)
theorem dL_law_1623 : decode cL_law 1623 = .ok (.lconst 0, 1) := dk_9 (dk_at dksL_law_63 22 rfl rfl)
theorem dL_law_1624 : decode cL_law 1624 = .ok (.lcmp, 1) := dk_148 (dk_at dksL_law_63 23 rfl rfl)
theorem dL_law_1625 : decode cL_law 1625 = .ok (.ifCond .eq 5, 3) := dk_153 0 5 (dk_at dksL_law_64 0 rfl rfl)
theorem dL_law_1628 : decode cL_law 1628 = .ok (.iconst 0, 1) := dk_3 (dk_at dksL_law_64 3 rfl rfl)
theorem dL_law_1629 : decode cL_law 1629 = .ok (.ireturn, 1) := dk_172 (dk_at dksL_law_64 4 rfl rfl)
theorem dL_law_1630 : decode cL_law 1630 = .ok (.goto 1020, 3) := dk_167 3 252 (dk_at dksL_law_64 5 rfl rfl)
theorem dL_law_1633 : decode cL_law 1633 = .ok (.aload_n 1, 1) := dk_43 (dk_at dksL_law_64 8 rfl rfl)
theorem dL_law_1634 : decode cL_law 1634 = .ok (.aload_n 0, 1) := dk_42 (dk_at dksL_law_64 9 rfl rfl)
theorem dL_law_1635 : decode cL_law 1635 = .ok (.iload 5, 2) := dk_21 5 (dk_at dksL_law_64 10 rfl rfl)
theorem dL_law_1637 : decode cL_law 1637 = .ok (.iconst 1, 1) := dk_4 (dk_at dksL_law_64 12 rfl rfl)
theorem dL_law_1638 : decode cL_law 1638 = .ok (.iadd, 1) := dk_96 (dk_at dksL_law_64 13 rfl rfl)
theorem dL_law_1639 : decode cL_law 1639 = .ok (.iaload, 1) := dk_46 (dk_at dksL_law_64 14 rfl rfl)
theorem dL_law_1640 : decode cL_law 1640 = .ok (.aload_n 0, 1) := dk_42 (dk_at dksL_law_64 15 rfl rfl)
theorem dL_law_1641 : decode cL_law 1641 = .ok (.iload 5, 2) := dk_21 5 (dk_at dksL_law_64 16 rfl rfl)
theorem dL_law_1643 : decode cL_law 1643 = .ok (.iconst 2, 1) := dk_5 (dk_at dksL_law_64 18 rfl rfl)
theorem dL_law_1644 : decode cL_law 1644 = .ok (.iadd, 1) := dk_96 (dk_at dksL_law_64 19 rfl rfl)
theorem dL_law_1645 : decode cL_law 1645 = .ok (.iaload, 1) := dk_46 (dk_at dksL_law_64 20 rfl rfl)
theorem dL_law_1646 : decode cL_law 1646 = .ok (.aload_n 0, 1) := dk_42 (dk_at dksL_law_64 21 rfl rfl)
theorem dL_law_1647 : decode cL_law 1647 = .ok (.iload 5, 2) := dk_21 5 (dk_at dksL_law_64 22 rfl rfl)
theorem dL_law_1649 : decode cL_law 1649 = .ok (.iconst 3, 1) := dk_6 (dk_at dksL_law_65 0 rfl rfl)
theorem dL_law_1650 : decode cL_law 1650 = .ok (.iadd, 1) := dk_96 (dk_at dksL_law_65 1 rfl rfl)
theorem dL_law_1651 : decode cL_law 1651 = .ok (.iaload, 1) := dk_46 (dk_at dksL_law_65 2 rfl rfl)
theorem dL_law_1652 : decode cL_law 1652 = .ok (.aload_n 3, 1) := dk_45 (dk_at dksL_law_65 3 rfl rfl)
theorem dL_law_1653 : decode cL_law 1653 = .ok (.invokestatic 226, 3) := dk_184 0 226 (dk_at dksL_law_65 4 rfl rfl)
theorem dL_law_1656 : decode cL_law 1656 = .ok (.istore 6, 2) := dk_54 6 (dk_at dksL_law_65 7 rfl rfl)
theorem dL_law_1658 : decode cL_law 1658 = .ok (.aload_n 2, 1) := dk_44 (dk_at dksL_law_65 9 rfl rfl)
theorem dL_law_1659 : decode cL_law 1659 = .ok (.aload_n 0, 1) := dk_42 (dk_at dksL_law_65 10 rfl rfl)
theorem dL_law_1660 : decode cL_law 1660 = .ok (.iload 5, 2) := dk_21 5 (dk_at dksL_law_65 11 rfl rfl)
theorem dL_law_1662 : decode cL_law 1662 = .ok (.iconst 1, 1) := dk_4 (dk_at dksL_law_65 13 rfl rfl)
theorem dL_law_1663 : decode cL_law 1663 = .ok (.iadd, 1) := dk_96 (dk_at dksL_law_65 14 rfl rfl)
theorem dL_law_1664 : decode cL_law 1664 = .ok (.iaload, 1) := dk_46 (dk_at dksL_law_65 15 rfl rfl)
theorem dL_law_1665 : decode cL_law 1665 = .ok (.aload_n 0, 1) := dk_42 (dk_at dksL_law_65 16 rfl rfl)
theorem dL_law_1666 : decode cL_law 1666 = .ok (.iload 5, 2) := dk_21 5 (dk_at dksL_law_65 17 rfl rfl)
theorem dL_law_1668 : decode cL_law 1668 = .ok (.iconst 2, 1) := dk_5 (dk_at dksL_law_65 19 rfl rfl)
theorem dL_law_1669 : decode cL_law 1669 = .ok (.iadd, 1) := dk_96 (dk_at dksL_law_65 20 rfl rfl)
theorem dL_law_1670 : decode cL_law 1670 = .ok (.iaload, 1) := dk_46 (dk_at dksL_law_65 21 rfl rfl)
theorem dL_law_1671 : decode cL_law 1671 = .ok (.aload_n 0, 1) := dk_42 (dk_at dksL_law_65 22 rfl rfl)
theorem dL_law_1672 : decode cL_law 1672 = .ok (.iload 5, 2) := dk_21 5 (dk_at dksL_law_66 0 rfl rfl)
theorem dL_law_1674 : decode cL_law 1674 = .ok (.iconst 3, 1) := dk_6 (dk_at dksL_law_66 2 rfl rfl)
theorem dL_law_1675 : decode cL_law 1675 = .ok (.iadd, 1) := dk_96 (dk_at dksL_law_66 3 rfl rfl)
theorem dL_law_1676 : decode cL_law 1676 = .ok (.iaload, 1) := dk_46 (dk_at dksL_law_66 4 rfl rfl)
theorem dL_law_1677 : decode cL_law 1677 = .ok (.invokevirtual 228, 3) := dk_182 0 228 (dk_at dksL_law_66 5 rfl rfl)
theorem dL_law_1680 : decode cL_law 1680 = .ok (.istore 7, 2) := dk_54 7 (dk_at dksL_law_66 8 rfl rfl)
theorem dL_law_1682 : decode cL_law 1682 = .ok (.aload_n 2, 1) := dk_44 (dk_at dksL_law_66 10 rfl rfl)
theorem dL_law_1683 : decode cL_law 1683 = .ok (.invokevirtual 156, 3) := dk_182 0 156 (dk_at dksL_law_66 11 rfl rfl)
theorem dL_law_1686 : decode cL_law 1686 = .ok (.iload 6, 2) := dk_21 6 (dk_at dksL_law_66 14 rfl rfl)
theorem dL_law_1688 : decode cL_law 1688 = .ok (.if_icmp .eq 5, 3) := dk_159 0 5 (dk_at dksL_law_66 16 rfl rfl)
theorem dL_law_1691 : decode cL_law 1691 = .ok (.iconst 0, 1) := dk_3 (dk_at dksL_law_66 19 rfl rfl)
theorem dL_law_1692 : decode cL_law 1692 = .ok (.ireturn, 1) := dk_172 (dk_at dksL_law_66 20 rfl rfl)
theorem dL_law_1693 : decode cL_law 1693 = .ok (.iload 6, 2) := dk_21 6 (dk_at dksL_law_66 21 rfl rfl)
theorem dL_law_1695 : decode cL_law 1695 = .ok (.ifCond .ne 15, 3) := dk_154 0 15 (dk_at dksL_law_67 0 rfl rfl)
theorem dL_law_1698 : decode cL_law 1698 = .ok (.aload_n 3, 1) := dk_45 (dk_at dksL_law_67 3 rfl rfl)
theorem dL_law_1699 : decode cL_law 1699 = .ok (.iconst 0, 1) := dk_3 (dk_at dksL_law_67 4 rfl rfl)
theorem dL_law_1700 : decode cL_law 1700 = .ok (.laload, 1) := dk_47 (dk_at dksL_law_67 5 rfl rfl)
theorem dL_law_1701 : decode cL_law 1701 = .ok (.iload 7, 2) := dk_21 7 (dk_at dksL_law_67 6 rfl rfl)
theorem dL_law_1703 : decode cL_law 1703 = .ok (.i2l, 1) := dk_133 (dk_at dksL_law_67 8 rfl rfl)
theorem dL_law_1704 : decode cL_law 1704 = .ok (.lcmp, 1) := dk_148 (dk_at dksL_law_67 9 rfl rfl)
theorem dL_law_1705 : decode cL_law 1705 = .ok (.ifCond .eq 5, 3) := dk_153 0 5 (dk_at dksL_law_67 10 rfl rfl)
theorem dL_law_1708 : decode cL_law 1708 = .ok (.iconst 0, 1) := dk_3 (dk_at dksL_law_67 13 rfl rfl)
theorem dL_law_1709 : decode cL_law 1709 = .ok (.ireturn, 1) := dk_172 (dk_at dksL_law_67 14 rfl rfl)
theorem dL_law_1710 : decode cL_law 1710 = .ok (.goto 940, 3) := dk_167 3 172 (dk_at dksL_law_67 15 rfl rfl)
theorem dL_law_1713 : decode cL_law 1713 = .ok (.aload_n 1, 1) := dk_43 (dk_at dksL_law_67 18 rfl rfl)
theorem dL_law_1714 : decode cL_law 1714 = .ok (.aload_n 0, 1) := dk_42 (dk_at dksL_law_67 19 rfl rfl)
theorem dL_law_1715 : decode cL_law 1715 = .ok (.iload 5, 2) := dk_21 5 (dk_at dksL_law_67 20 rfl rfl)
theorem dL_law_1717 : decode cL_law 1717 = .ok (.iconst 1, 1) := dk_4 (dk_at dksL_law_67 22 rfl rfl)
theorem dL_law_1718 : decode cL_law 1718 = .ok (.iadd, 1) := dk_96 (dk_at dksL_law_67 23 rfl rfl)
theorem dL_law_1719 : decode cL_law 1719 = .ok (.iaload, 1) := dk_46 (dk_at dksL_law_68 0 rfl rfl)
theorem dL_law_1720 : decode cL_law 1720 = .ok (.aload_n 0, 1) := dk_42 (dk_at dksL_law_68 1 rfl rfl)
theorem dL_law_1721 : decode cL_law 1721 = .ok (.iload 5, 2) := dk_21 5 (dk_at dksL_law_68 2 rfl rfl)
theorem dL_law_1723 : decode cL_law 1723 = .ok (.iconst 2, 1) := dk_5 (dk_at dksL_law_68 4 rfl rfl)
theorem dL_law_1724 : decode cL_law 1724 = .ok (.iadd, 1) := dk_96 (dk_at dksL_law_68 5 rfl rfl)
theorem dL_law_1725 : decode cL_law 1725 = .ok (.iaload, 1) := dk_46 (dk_at dksL_law_68 6 rfl rfl)
theorem dL_law_1726 : decode cL_law 1726 = .ok (.aload_n 0, 1) := dk_42 (dk_at dksL_law_68 7 rfl rfl)
theorem dL_law_1727 : decode cL_law 1727 = .ok (.iload 5, 2) := dk_21 5 (dk_at dksL_law_68 8 rfl rfl)
theorem dL_law_1729 : decode cL_law 1729 = .ok (.iconst 3, 1) := dk_6 (dk_at dksL_law_68 10 rfl rfl)
theorem dL_law_1730 : decode cL_law 1730 = .ok (.iadd, 1) := dk_96 (dk_at dksL_law_68 11 rfl rfl)
theorem dL_law_1731 : decode cL_law 1731 = .ok (.iaload, 1) := dk_46 (dk_at dksL_law_68 12 rfl rfl)
theorem dL_law_1732 : decode cL_law 1732 = .ok (.aload_n 3, 1) := dk_45 (dk_at dksL_law_68 13 rfl rfl)
theorem dL_law_1733 : decode cL_law 1733 = .ok (.invokestatic 229, 3) := dk_184 0 229 (dk_at dksL_law_68 14 rfl rfl)
theorem dL_law_1736 : decode cL_law 1736 = .ok (.istore 6, 2) := dk_54 6 (dk_at dksL_law_68 17 rfl rfl)
theorem dL_law_1738 : decode cL_law 1738 = .ok (.aload_n 2, 1) := dk_44 (dk_at dksL_law_68 19 rfl rfl)
theorem dL_law_1739 : decode cL_law 1739 = .ok (.aload_n 0, 1) := dk_42 (dk_at dksL_law_68 20 rfl rfl)
theorem dL_law_1740 : decode cL_law 1740 = .ok (.iload 5, 2) := dk_21 5 (dk_at dksL_law_68 21 rfl rfl)
theorem dL_law_1742 : decode cL_law 1742 = .ok (.iconst 1, 1) := dk_4 (dk_at dksL_law_68 23 rfl rfl)
theorem dL_law_1743 : decode cL_law 1743 = .ok (.iadd, 1) := dk_96 (dk_at dksL_law_69 0 rfl rfl)
theorem dL_law_1744 : decode cL_law 1744 = .ok (.iaload, 1) := dk_46 (dk_at dksL_law_69 1 rfl rfl)
theorem dL_law_1745 : decode cL_law 1745 = .ok (.aload_n 0, 1) := dk_42 (dk_at dksL_law_69 2 rfl rfl)
theorem dL_law_1746 : decode cL_law 1746 = .ok (.iload 5, 2) := dk_21 5 (dk_at dksL_law_69 3 rfl rfl)
theorem dL_law_1748 : decode cL_law 1748 = .ok (.iconst 2, 1) := dk_5 (dk_at dksL_law_69 5 rfl rfl)
theorem dL_law_1749 : decode cL_law 1749 = .ok (.iadd, 1) := dk_96 (dk_at dksL_law_69 6 rfl rfl)
theorem dL_law_1750 : decode cL_law 1750 = .ok (.iaload, 1) := dk_46 (dk_at dksL_law_69 7 rfl rfl)
theorem dL_law_1751 : decode cL_law 1751 = .ok (.aload_n 0, 1) := dk_42 (dk_at dksL_law_69 8 rfl rfl)
theorem dL_law_1752 : decode cL_law 1752 = .ok (.iload 5, 2) := dk_21 5 (dk_at dksL_law_69 9 rfl rfl)
theorem dL_law_1754 : decode cL_law 1754 = .ok (.iconst 3, 1) := dk_6 (dk_at dksL_law_69 11 rfl rfl)
theorem dL_law_1755 : decode cL_law 1755 = .ok (.iadd, 1) := dk_96 (dk_at dksL_law_69 12 rfl rfl)
theorem dL_law_1756 : decode cL_law 1756 = .ok (.iaload, 1) := dk_46 (dk_at dksL_law_69 13 rfl rfl)
theorem dL_law_1757 : decode cL_law 1757 = .ok (.invokevirtual 231, 3) := dk_182 0 231 (dk_at dksL_law_69 14 rfl rfl)
theorem dL_law_1760 : decode cL_law 1760 = .ok (.istore 7, 2) := dk_54 7 (dk_at dksL_law_69 17 rfl rfl)
theorem dL_law_1762 : decode cL_law 1762 = .ok (.aload_n 2, 1) := dk_44 (dk_at dksL_law_69 19 rfl rfl)
theorem dL_law_1763 : decode cL_law 1763 = .ok (.invokevirtual 156, 3) := dk_182 0 156 (dk_at dksL_law_69 20 rfl rfl)
theorem dL_law_1766 : decode cL_law 1766 = .ok (.iload 6, 2) := dk_21 6 (dk_at dksL_law_70 0 rfl rfl)
theorem dL_law_1768 : decode cL_law 1768 = .ok (.if_icmp .eq 5, 3) := dk_159 0 5 (dk_at dksL_law_70 2 rfl rfl)
theorem dL_law_1771 : decode cL_law 1771 = .ok (.iconst 0, 1) := dk_3 (dk_at dksL_law_70 5 rfl rfl)
theorem dL_law_1772 : decode cL_law 1772 = .ok (.ireturn, 1) := dk_172 (dk_at dksL_law_70 6 rfl rfl)
theorem dL_law_1773 : decode cL_law 1773 = .ok (.iload 6, 2) := dk_21 6 (dk_at dksL_law_70 7 rfl rfl)
theorem dL_law_1775 : decode cL_law 1775 = .ok (.ifCond .ne 15, 3) := dk_154 0 15 (dk_at dksL_law_70 9 rfl rfl)
theorem dL_law_1778 : decode cL_law 1778 = .ok (.aload_n 3, 1) := dk_45 (dk_at dksL_law_70 12 rfl rfl)
theorem dL_law_1779 : decode cL_law 1779 = .ok (.iconst 0, 1) := dk_3 (dk_at dksL_law_70 13 rfl rfl)
theorem dL_law_1780 : decode cL_law 1780 = .ok (.laload, 1) := dk_47 (dk_at dksL_law_70 14 rfl rfl)
theorem dL_law_1781 : decode cL_law 1781 = .ok (.iload 7, 2) := dk_21 7 (dk_at dksL_law_70 15 rfl rfl)
theorem dL_law_1783 : decode cL_law 1783 = .ok (.i2l, 1) := dk_133 (dk_at dksL_law_70 17 rfl rfl)
theorem dL_law_1784 : decode cL_law 1784 = .ok (.lcmp, 1) := dk_148 (dk_at dksL_law_70 18 rfl rfl)
theorem dL_law_1785 : decode cL_law 1785 = .ok (.ifCond .eq 5, 3) := dk_153 0 5 (dk_at dksL_law_70 19 rfl rfl)
theorem dL_law_1788 : decode cL_law 1788 = .ok (.iconst 0, 1) := dk_3 (dk_at dksL_law_70 22 rfl rfl)
theorem dL_law_1789 : decode cL_law 1789 = .ok (.ireturn, 1) := dk_172 (dk_at dksL_law_70 23 rfl rfl)
theorem dL_law_1790 : decode cL_law 1790 = .ok (.goto 860, 3) := dk_167 3 92 (dk_at dksL_law_71 0 rfl rfl)
theorem dL_law_1793 : decode cL_law 1793 = .ok (.aload_n 1, 1) := dk_43 (dk_at dksL_law_71 3 rfl rfl)
theorem dL_law_1794 : decode cL_law 1794 = .ok (.aload_n 0, 1) := dk_42 (dk_at dksL_law_71 4 rfl rfl)
theorem dL_law_1795 : decode cL_law 1795 = .ok (.iload 5, 2) := dk_21 5 (dk_at dksL_law_71 5 rfl rfl)
theorem dL_law_1797 : decode cL_law 1797 = .ok (.iconst 1, 1) := dk_4 (dk_at dksL_law_71 7 rfl rfl)
theorem dL_law_1798 : decode cL_law 1798 = .ok (.iadd, 1) := dk_96 (dk_at dksL_law_71 8 rfl rfl)
theorem dL_law_1799 : decode cL_law 1799 = .ok (.iaload, 1) := dk_46 (dk_at dksL_law_71 9 rfl rfl)
theorem dL_law_1800 : decode cL_law 1800 = .ok (.aload_n 0, 1) := dk_42 (dk_at dksL_law_71 10 rfl rfl)
theorem dL_law_1801 : decode cL_law 1801 = .ok (.iload 5, 2) := dk_21 5 (dk_at dksL_law_71 11 rfl rfl)
theorem dL_law_1803 : decode cL_law 1803 = .ok (.iconst 2, 1) := dk_5 (dk_at dksL_law_71 13 rfl rfl)
theorem dL_law_1804 : decode cL_law 1804 = .ok (.iadd, 1) := dk_96 (dk_at dksL_law_71 14 rfl rfl)
theorem dL_law_1805 : decode cL_law 1805 = .ok (.iaload, 1) := dk_46 (dk_at dksL_law_71 15 rfl rfl)
theorem dL_law_1806 : decode cL_law 1806 = .ok (.aload_n 3, 1) := dk_45 (dk_at dksL_law_71 16 rfl rfl)
theorem dL_law_1807 : decode cL_law 1807 = .ok (.invokestatic 232, 3) := dk_184 0 232 (dk_at dksL_law_71 17 rfl rfl)
theorem dL_law_1810 : decode cL_law 1810 = .ok (.istore 6, 2) := dk_54 6 (dk_at dksL_law_71 20 rfl rfl)
theorem dL_law_1812 : decode cL_law 1812 = .ok (.aload_n 2, 1) := dk_44 (dk_at dksL_law_71 22 rfl rfl)
theorem dL_law_1813 : decode cL_law 1813 = .ok (.aload_n 0, 1) := dk_42 (dk_at dksL_law_71 23 rfl rfl)
theorem dL_law_1814 : decode cL_law 1814 = .ok (.iload 5, 2) := dk_21 5 (dk_at dksL_law_72 0 rfl rfl)
theorem dL_law_1816 : decode cL_law 1816 = .ok (.iconst 1, 1) := dk_4 (dk_at dksL_law_72 2 rfl rfl)
theorem dL_law_1817 : decode cL_law 1817 = .ok (.iadd, 1) := dk_96 (dk_at dksL_law_72 3 rfl rfl)
theorem dL_law_1818 : decode cL_law 1818 = .ok (.iaload, 1) := dk_46 (dk_at dksL_law_72 4 rfl rfl)
theorem dL_law_1819 : decode cL_law 1819 = .ok (.aload_n 0, 1) := dk_42 (dk_at dksL_law_72 5 rfl rfl)
theorem dL_law_1820 : decode cL_law 1820 = .ok (.iload 5, 2) := dk_21 5 (dk_at dksL_law_72 6 rfl rfl)
theorem dL_law_1822 : decode cL_law 1822 = .ok (.iconst 2, 1) := dk_5 (dk_at dksL_law_72 8 rfl rfl)
theorem dL_law_1823 : decode cL_law 1823 = .ok (.iadd, 1) := dk_96 (dk_at dksL_law_72 9 rfl rfl)
theorem dL_law_1824 : decode cL_law 1824 = .ok (.iaload, 1) := dk_46 (dk_at dksL_law_72 10 rfl rfl)
theorem dL_law_1825 : decode cL_law 1825 = .ok (.invokevirtual 234, 3) := dk_182 0 234 (dk_at dksL_law_72 11 rfl rfl)
theorem dL_law_1828 : decode cL_law 1828 = .ok (.istore 7, 2) := dk_54 7 (dk_at dksL_law_72 14 rfl rfl)
theorem dL_law_1830 : decode cL_law 1830 = .ok (.aload_n 2, 1) := dk_44 (dk_at dksL_law_72 16 rfl rfl)
theorem dL_law_1831 : decode cL_law 1831 = .ok (.invokevirtual 156, 3) := dk_182 0 156 (dk_at dksL_law_72 17 rfl rfl)
theorem dL_law_1834 : decode cL_law 1834 = .ok (.iload 6, 2) := dk_21 6 (dk_at dksL_law_72 20 rfl rfl)
theorem dL_law_1836 : decode cL_law 1836 = .ok (.if_icmp .eq 5, 3) := dk_159 0 5 (dk_at dksL_law_73 0 rfl rfl)
theorem dL_law_1839 : decode cL_law 1839 = .ok (.iconst 0, 1) := dk_3 (dk_at dksL_law_73 3 rfl rfl)
theorem dL_law_1840 : decode cL_law 1840 = .ok (.ireturn, 1) := dk_172 (dk_at dksL_law_73 4 rfl rfl)
theorem dL_law_1841 : decode cL_law 1841 = .ok (.iload 6, 2) := dk_21 6 (dk_at dksL_law_73 5 rfl rfl)
theorem dL_law_1843 : decode cL_law 1843 = .ok (.ifCond .ne 15, 3) := dk_154 0 15 (dk_at dksL_law_73 7 rfl rfl)
theorem dL_law_1846 : decode cL_law 1846 = .ok (.aload_n 3, 1) := dk_45 (dk_at dksL_law_73 10 rfl rfl)
theorem dL_law_1847 : decode cL_law 1847 = .ok (.iconst 0, 1) := dk_3 (dk_at dksL_law_73 11 rfl rfl)
theorem dL_law_1848 : decode cL_law 1848 = .ok (.laload, 1) := dk_47 (dk_at dksL_law_73 12 rfl rfl)
theorem dL_law_1849 : decode cL_law 1849 = .ok (.iload 7, 2) := dk_21 7 (dk_at dksL_law_73 13 rfl rfl)
theorem dL_law_1851 : decode cL_law 1851 = .ok (.i2l, 1) := dk_133 (dk_at dksL_law_73 15 rfl rfl)
theorem dL_law_1852 : decode cL_law 1852 = .ok (.lcmp, 1) := dk_148 (dk_at dksL_law_73 16 rfl rfl)
theorem dL_law_1853 : decode cL_law 1853 = .ok (.ifCond .eq 5, 3) := dk_153 0 5 (dk_at dksL_law_73 17 rfl rfl)
theorem dL_law_1856 : decode cL_law 1856 = .ok (.iconst 0, 1) := dk_3 (dk_at dksL_law_73 20 rfl rfl)
theorem dL_law_1857 : decode cL_law 1857 = .ok (.ireturn, 1) := dk_172 (dk_at dksL_law_73 21 rfl rfl)
theorem dL_law_1858 : decode cL_law 1858 = .ok (.goto 792, 3) := dk_167 3 24 (dk_at dksL_law_74 0 rfl rfl)
theorem dL_law_1861 : decode cL_law 1861 = .ok (.aload_n 1, 1) := dk_43 (dk_at dksL_law_74 3 rfl rfl)
theorem dL_law_1862 : decode cL_law 1862 = .ok (.aload_n 0, 1) := dk_42 (dk_at dksL_law_74 4 rfl rfl)
theorem dL_law_1863 : decode cL_law 1863 = .ok (.iload 5, 2) := dk_21 5 (dk_at dksL_law_74 5 rfl rfl)
theorem dL_law_1865 : decode cL_law 1865 = .ok (.iconst 1, 1) := dk_4 (dk_at dksL_law_74 7 rfl rfl)
theorem dL_law_1866 : decode cL_law 1866 = .ok (.iadd, 1) := dk_96 (dk_at dksL_law_74 8 rfl rfl)
theorem dL_law_1867 : decode cL_law 1867 = .ok (.iaload, 1) := dk_46 (dk_at dksL_law_74 9 rfl rfl)
theorem dL_law_1868 : decode cL_law 1868 = .ok (.aload_n 0, 1) := dk_42 (dk_at dksL_law_74 10 rfl rfl)
theorem dL_law_1869 : decode cL_law 1869 = .ok (.iload 5, 2) := dk_21 5 (dk_at dksL_law_74 11 rfl rfl)
theorem dL_law_1871 : decode cL_law 1871 = .ok (.iconst 2, 1) := dk_5 (dk_at dksL_law_74 13 rfl rfl)
theorem dL_law_1872 : decode cL_law 1872 = .ok (.iadd, 1) := dk_96 (dk_at dksL_law_74 14 rfl rfl)
theorem dL_law_1873 : decode cL_law 1873 = .ok (.iaload, 1) := dk_46 (dk_at dksL_law_74 15 rfl rfl)
theorem dL_law_1874 : decode cL_law 1874 = .ok (.aload_n 3, 1) := dk_45 (dk_at dksL_law_74 16 rfl rfl)
theorem dL_law_1875 : decode cL_law 1875 = .ok (.invokestatic 235, 3) := dk_184 0 235 (dk_at dksL_law_74 17 rfl rfl)
theorem dL_law_1878 : decode cL_law 1878 = .ok (.istore 6, 2) := dk_54 6 (dk_at dksL_law_74 20 rfl rfl)
theorem dL_law_1880 : decode cL_law 1880 = .ok (.aload_n 2, 1) := dk_44 (dk_at dksL_law_74 22 rfl rfl)
theorem dL_law_1881 : decode cL_law 1881 = .ok (.aload_n 0, 1) := dk_42 (dk_at dksL_law_74 23 rfl rfl)
theorem dL_law_1882 : decode cL_law 1882 = .ok (.iload 5, 2) := dk_21 5 (dk_at dksL_law_75 0 rfl rfl)
theorem dL_law_1884 : decode cL_law 1884 = .ok (.iconst 1, 1) := dk_4 (dk_at dksL_law_75 2 rfl rfl)
theorem dL_law_1885 : decode cL_law 1885 = .ok (.iadd, 1) := dk_96 (dk_at dksL_law_75 3 rfl rfl)
theorem dL_law_1886 : decode cL_law 1886 = .ok (.iaload, 1) := dk_46 (dk_at dksL_law_75 4 rfl rfl)
theorem dL_law_1887 : decode cL_law 1887 = .ok (.aload_n 0, 1) := dk_42 (dk_at dksL_law_75 5 rfl rfl)
theorem dL_law_1888 : decode cL_law 1888 = .ok (.iload 5, 2) := dk_21 5 (dk_at dksL_law_75 6 rfl rfl)
theorem dL_law_1890 : decode cL_law 1890 = .ok (.iconst 2, 1) := dk_5 (dk_at dksL_law_75 8 rfl rfl)
theorem dL_law_1891 : decode cL_law 1891 = .ok (.iadd, 1) := dk_96 (dk_at dksL_law_75 9 rfl rfl)
theorem dL_law_1892 : decode cL_law 1892 = .ok (.iaload, 1) := dk_46 (dk_at dksL_law_75 10 rfl rfl)
theorem dL_law_1893 : decode cL_law 1893 = .ok (.invokevirtual 237, 3) := dk_182 0 237 (dk_at dksL_law_75 11 rfl rfl)
theorem dL_law_1896 : decode cL_law 1896 = .ok (.istore 7, 2) := dk_54 7 (dk_at dksL_law_75 14 rfl rfl)
theorem dL_law_1898 : decode cL_law 1898 = .ok (.aload_n 2, 1) := dk_44 (dk_at dksL_law_75 16 rfl rfl)
theorem dL_law_1899 : decode cL_law 1899 = .ok (.invokevirtual 156, 3) := dk_182 0 156 (dk_at dksL_law_75 17 rfl rfl)
theorem dL_law_1902 : decode cL_law 1902 = .ok (.iload 6, 2) := dk_21 6 (dk_at dksL_law_75 20 rfl rfl)
theorem dL_law_1904 : decode cL_law 1904 = .ok (.if_icmp .eq 5, 3) := dk_159 0 5 (dk_at dksL_law_76 0 rfl rfl)
theorem dL_law_1907 : decode cL_law 1907 = .ok (.iconst 0, 1) := dk_3 (dk_at dksL_law_76 3 rfl rfl)
theorem dL_law_1908 : decode cL_law 1908 = .ok (.ireturn, 1) := dk_172 (dk_at dksL_law_76 4 rfl rfl)
theorem dL_law_1909 : decode cL_law 1909 = .ok (.iload 6, 2) := dk_21 6 (dk_at dksL_law_76 5 rfl rfl)
theorem dL_law_1911 : decode cL_law 1911 = .ok (.ifCond .ne 15, 3) := dk_154 0 15 (dk_at dksL_law_76 7 rfl rfl)
theorem dL_law_1914 : decode cL_law 1914 = .ok (.aload_n 3, 1) := dk_45 (dk_at dksL_law_76 10 rfl rfl)
theorem dL_law_1915 : decode cL_law 1915 = .ok (.iconst 0, 1) := dk_3 (dk_at dksL_law_76 11 rfl rfl)
theorem dL_law_1916 : decode cL_law 1916 = .ok (.laload, 1) := dk_47 (dk_at dksL_law_76 12 rfl rfl)
theorem dL_law_1917 : decode cL_law 1917 = .ok (.iload 7, 2) := dk_21 7 (dk_at dksL_law_76 13 rfl rfl)
theorem dL_law_1919 : decode cL_law 1919 = .ok (.i2l, 1) := dk_133 (dk_at dksL_law_76 15 rfl rfl)
theorem dL_law_1920 : decode cL_law 1920 = .ok (.lcmp, 1) := dk_148 (dk_at dksL_law_76 16 rfl rfl)
theorem dL_law_1921 : decode cL_law 1921 = .ok (.ifCond .eq 5, 3) := dk_153 0 5 (dk_at dksL_law_76 17 rfl rfl)
theorem dL_law_1924 : decode cL_law 1924 = .ok (.iconst 0, 1) := dk_3 (dk_at dksL_law_76 20 rfl rfl)
theorem dL_law_1925 : decode cL_law 1925 = .ok (.ireturn, 1) := dk_172 (dk_at dksL_law_76 21 rfl rfl)
theorem dL_law_1926 : decode cL_law 1926 = .ok (.goto 724, 3) := dk_167 2 212 (dk_at dksL_law_77 0 rfl rfl)
theorem dL_law_1929 : decode cL_law 1929 = .ok (.aload_n 1, 1) := dk_43 (dk_at dksL_law_77 3 rfl rfl)
theorem dL_law_1930 : decode cL_law 1930 = .ok (.aload_n 0, 1) := dk_42 (dk_at dksL_law_77 4 rfl rfl)
theorem dL_law_1931 : decode cL_law 1931 = .ok (.iload 5, 2) := dk_21 5 (dk_at dksL_law_77 5 rfl rfl)
theorem dL_law_1933 : decode cL_law 1933 = .ok (.iconst 1, 1) := dk_4 (dk_at dksL_law_77 7 rfl rfl)
theorem dL_law_1934 : decode cL_law 1934 = .ok (.iadd, 1) := dk_96 (dk_at dksL_law_77 8 rfl rfl)
theorem dL_law_1935 : decode cL_law 1935 = .ok (.iaload, 1) := dk_46 (dk_at dksL_law_77 9 rfl rfl)
theorem dL_law_1936 : decode cL_law 1936 = .ok (.aload_n 0, 1) := dk_42 (dk_at dksL_law_77 10 rfl rfl)
theorem dL_law_1937 : decode cL_law 1937 = .ok (.iload 5, 2) := dk_21 5 (dk_at dksL_law_77 11 rfl rfl)
theorem dL_law_1939 : decode cL_law 1939 = .ok (.iconst 2, 1) := dk_5 (dk_at dksL_law_77 13 rfl rfl)
theorem dL_law_1940 : decode cL_law 1940 = .ok (.iadd, 1) := dk_96 (dk_at dksL_law_77 14 rfl rfl)
theorem dL_law_1941 : decode cL_law 1941 = .ok (.iaload, 1) := dk_46 (dk_at dksL_law_77 15 rfl rfl)
theorem dL_law_1942 : decode cL_law 1942 = .ok (.aload 4, 2) := dk_25 4 (dk_at dksL_law_77 16 rfl rfl)
theorem dL_law_1944 : decode cL_law 1944 = .ok (.invokestatic 238, 3) := dk_184 0 238 (dk_at dksL_law_77 18 rfl rfl)
theorem dL_law_1947 : decode cL_law 1947 = .ok (.istore 6, 2) := dk_54 6 (dk_at dksL_law_77 21 rfl rfl)
theorem dL_law_1949 : decode cL_law 1949 = .ok (.aload_n 2, 1) := dk_44 (dk_at dksL_law_77 23 rfl rfl)
theorem dL_law_1950 : decode cL_law 1950 = .ok (.aload_n 0, 1) := dk_42 (dk_at dksL_law_78 0 rfl rfl)
theorem dL_law_1951 : decode cL_law 1951 = .ok (.iload 5, 2) := dk_21 5 (dk_at dksL_law_78 1 rfl rfl)
theorem dL_law_1953 : decode cL_law 1953 = .ok (.iconst 1, 1) := dk_4 (dk_at dksL_law_78 3 rfl rfl)
theorem dL_law_1954 : decode cL_law 1954 = .ok (.iadd, 1) := dk_96 (dk_at dksL_law_78 4 rfl rfl)
theorem dL_law_1955 : decode cL_law 1955 = .ok (.iaload, 1) := dk_46 (dk_at dksL_law_78 5 rfl rfl)
theorem dL_law_1956 : decode cL_law 1956 = .ok (.aload_n 0, 1) := dk_42 (dk_at dksL_law_78 6 rfl rfl)
theorem dL_law_1957 : decode cL_law 1957 = .ok (.iload 5, 2) := dk_21 5 (dk_at dksL_law_78 7 rfl rfl)
theorem dL_law_1959 : decode cL_law 1959 = .ok (.iconst 2, 1) := dk_5 (dk_at dksL_law_78 9 rfl rfl)
theorem dL_law_1960 : decode cL_law 1960 = .ok (.iadd, 1) := dk_96 (dk_at dksL_law_78 10 rfl rfl)
theorem dL_law_1961 : decode cL_law 1961 = .ok (.iaload, 1) := dk_46 (dk_at dksL_law_78 11 rfl rfl)
theorem dL_law_1962 : decode cL_law 1962 = .ok (.invokevirtual 241, 3) := dk_182 0 241 (dk_at dksL_law_78 12 rfl rfl)
theorem dL_law_1965 : decode cL_law 1965 = .ok (.dstore 7, 2) := dk_57 7 (dk_at dksL_law_78 15 rfl rfl)
theorem dL_law_1967 : decode cL_law 1967 = .ok (.aload_n 2, 1) := dk_44 (dk_at dksL_law_78 17 rfl rfl)
theorem dL_law_1968 : decode cL_law 1968 = .ok (.invokevirtual 156, 3) := dk_182 0 156 (dk_at dksL_law_78 18 rfl rfl)
theorem dL_law_1971 : decode cL_law 1971 = .ok (.iload 6, 2) := dk_21 6 (dk_at dksL_law_78 21 rfl rfl)
theorem dL_law_1973 : decode cL_law 1973 = .ok (.if_icmp .eq 5, 3) := dk_159 0 5 (dk_at dksL_law_79 0 rfl rfl)
theorem dL_law_1976 : decode cL_law 1976 = .ok (.iconst 0, 1) := dk_3 (dk_at dksL_law_79 3 rfl rfl)
theorem dL_law_1977 : decode cL_law 1977 = .ok (.ireturn, 1) := dk_172 (dk_at dksL_law_79 4 rfl rfl)
theorem dL_law_1978 : decode cL_law 1978 = .ok (.iload 6, 2) := dk_21 6 (dk_at dksL_law_79 5 rfl rfl)
theorem dL_law_1980 : decode cL_law 1980 = .ok (.ifCond .ne 35, 3) := dk_154 0 35 (dk_at dksL_law_79 7 rfl rfl)
theorem dL_law_1983 : decode cL_law 1983 = .ok (.aload 4, 2) := dk_25 4 (dk_at dksL_law_79 10 rfl rfl)
theorem dL_law_1985 : decode cL_law 1985 = .ok (.iconst 0, 1) := dk_3 (dk_at dksL_law_79 12 rfl rfl)
theorem dL_law_1986 : decode cL_law 1986 = .ok (.daload, 1) := dk_49 (dk_at dksL_law_79 13 rfl rfl)
theorem dL_law_1987 : decode cL_law 1987 = .ok (.dload 7, 2) := dk_24 7 (dk_at dksL_law_79 14 rfl rfl)
theorem dL_law_1989 : decode cL_law 1989 = .ok (.dcmp .l, 1) := dk_151 (dk_at dksL_law_79 16 rfl rfl)
theorem dL_law_1990 : decode cL_law 1990 = .ok (.ifCond .eq 25, 3) := dk_153 0 25 (dk_at dksL_law_79 17 rfl rfl)
theorem dL_law_1993 : decode cL_law 1993 = .ok (.aload 4, 2) := dk_25 4 (dk_at dksL_law_79 20 rfl rfl)
theorem dL_law_1995 : decode cL_law 1995 = .ok (.iconst 0, 1) := dk_3 (dk_at dksL_law_79 22 rfl rfl)
theorem dL_law_1996 : decode cL_law 1996 = .ok (.daload, 1) := dk_49 (dk_at dksL_law_79 23 rfl rfl)
theorem dL_law_1997 : decode cL_law 1997 = .ok (.aload 4, 2) := dk_25 4 (dk_at dksL_law_80 0 rfl rfl)
theorem dL_law_1999 : decode cL_law 1999 = .ok (.iconst 0, 1) := dk_3 (dk_at dksL_law_80 2 rfl rfl)
theorem dL_law_2000 : decode cL_law 2000 = .ok (.daload, 1) := dk_49 (dk_at dksL_law_80 3 rfl rfl)
theorem dL_law_2001 : decode cL_law 2001 = .ok (.dcmp .l, 1) := dk_151 (dk_at dksL_law_80 4 rfl rfl)
theorem dL_law_2002 : decode cL_law 2002 = .ok (.ifCond .eq 11, 3) := dk_153 0 11 (dk_at dksL_law_80 5 rfl rfl)
theorem dL_law_2005 : decode cL_law 2005 = .ok (.dload 7, 2) := dk_24 7 (dk_at dksL_law_80 8 rfl rfl)
theorem dL_law_2007 : decode cL_law 2007 = .ok (.dload 7, 2) := dk_24 7 (dk_at dksL_law_80 10 rfl rfl)
theorem dL_law_2009 : decode cL_law 2009 = .ok (.dcmp .l, 1) := dk_151 (dk_at dksL_law_80 12 rfl rfl)
theorem dL_law_2010 : decode cL_law 2010 = .ok (.ifCond .ne 5, 3) := dk_154 0 5 (dk_at dksL_law_80 13 rfl rfl)
theorem dL_law_2013 : decode cL_law 2013 = .ok (.iconst 0, 1) := dk_3 (dk_at dksL_law_80 16 rfl rfl)
theorem dL_law_2014 : decode cL_law 2014 = .ok (.ireturn, 1) := dk_172 (dk_at dksL_law_80 17 rfl rfl)
theorem dL_law_2015 : decode cL_law 2015 = .ok (.goto 635, 3) := dk_167 2 123 (dk_at dksL_law_80 18 rfl rfl)
theorem dL_law_2018 : decode cL_law 2018 = .ok (.aload_n 1, 1) := dk_43 (dk_at dksL_law_80 21 rfl rfl)
theorem dL_law_2019 : decode cL_law 2019 = .ok (.aload_n 0, 1) := dk_42 (dk_at dksL_law_80 22 rfl rfl)
theorem dL_law_2020 : decode cL_law 2020 = .ok (.iload 5, 2) := dk_21 5 (dk_at dksL_law_81 0 rfl rfl)
theorem dL_law_2022 : decode cL_law 2022 = .ok (.iconst 1, 1) := dk_4 (dk_at dksL_law_81 2 rfl rfl)
theorem dL_law_2023 : decode cL_law 2023 = .ok (.iadd, 1) := dk_96 (dk_at dksL_law_81 3 rfl rfl)
theorem dL_law_2024 : decode cL_law 2024 = .ok (.iaload, 1) := dk_46 (dk_at dksL_law_81 4 rfl rfl)
theorem dL_law_2025 : decode cL_law 2025 = .ok (.aload_n 0, 1) := dk_42 (dk_at dksL_law_81 5 rfl rfl)
theorem dL_law_2026 : decode cL_law 2026 = .ok (.iload 5, 2) := dk_21 5 (dk_at dksL_law_81 6 rfl rfl)
theorem dL_law_2028 : decode cL_law 2028 = .ok (.iconst 2, 1) := dk_5 (dk_at dksL_law_81 8 rfl rfl)
theorem dL_law_2029 : decode cL_law 2029 = .ok (.iadd, 1) := dk_96 (dk_at dksL_law_81 9 rfl rfl)
theorem dL_law_2030 : decode cL_law 2030 = .ok (.iaload, 1) := dk_46 (dk_at dksL_law_81 10 rfl rfl)
theorem dL_law_2031 : decode cL_law 2031 = .ok (.aload_n 3, 1) := dk_45 (dk_at dksL_law_81 11 rfl rfl)
theorem dL_law_2032 : decode cL_law 2032 = .ok (.invokestatic 242, 3) := dk_184 0 242 (dk_at dksL_law_81 12 rfl rfl)
theorem dL_law_2035 : decode cL_law 2035 = .ok (.istore 6, 2) := dk_54 6 (dk_at dksL_law_81 15 rfl rfl)
theorem dL_law_2037 : decode cL_law 2037 = .ok (.aload_n 2, 1) := dk_44 (dk_at dksL_law_81 17 rfl rfl)
theorem dL_law_2038 : decode cL_law 2038 = .ok (.aload_n 0, 1) := dk_42 (dk_at dksL_law_81 18 rfl rfl)
theorem dL_law_2039 : decode cL_law 2039 = .ok (.iload 5, 2) := dk_21 5 (dk_at dksL_law_81 19 rfl rfl)
theorem dL_law_2041 : decode cL_law 2041 = .ok (.iconst 1, 1) := dk_4 (dk_at dksL_law_81 21 rfl rfl)
theorem dL_law_2042 : decode cL_law 2042 = .ok (.iadd, 1) := dk_96 (dk_at dksL_law_81 22 rfl rfl)
theorem dL_law_2043 : decode cL_law 2043 = .ok (.iaload, 1) := dk_46 (dk_at dksL_law_81 23 rfl rfl)
theorem dL_law_2044 : decode cL_law 2044 = .ok (.aload_n 0, 1) := dk_42 (dk_at dksL_law_82 0 rfl rfl)
theorem dL_law_2045 : decode cL_law 2045 = .ok (.iload 5, 2) := dk_21 5 (dk_at dksL_law_82 1 rfl rfl)
theorem dL_law_2047 : decode cL_law 2047 = .ok (.iconst 2, 1) := dk_5 (dk_at dksL_law_82 3 rfl rfl)
theorem dL_law_2048 : decode cL_law 2048 = .ok (.iadd, 1) := dk_96 (dk_at dksL_law_82 4 rfl rfl)
theorem dL_law_2049 : decode cL_law 2049 = .ok (.iaload, 1) := dk_46 (dk_at dksL_law_82 5 rfl rfl)
theorem dL_law_2050 : decode cL_law 2050 = .ok (.invokevirtual 244, 3) := dk_182 0 244 (dk_at dksL_law_82 6 rfl rfl)
theorem dL_law_2053 : decode cL_law 2053 = .ok (.istore 7, 2) := dk_54 7 (dk_at dksL_law_82 9 rfl rfl)
theorem dL_law_2055 : decode cL_law 2055 = .ok (.aload_n 2, 1) := dk_44 (dk_at dksL_law_82 11 rfl rfl)
theorem dL_law_2056 : decode cL_law 2056 = .ok (.invokevirtual 156, 3) := dk_182 0 156 (dk_at dksL_law_82 12 rfl rfl)
theorem dL_law_2059 : decode cL_law 2059 = .ok (.iload 6, 2) := dk_21 6 (dk_at dksL_law_82 15 rfl rfl)
theorem dL_law_2061 : decode cL_law 2061 = .ok (.if_icmp .eq 5, 3) := dk_159 0 5 (dk_at dksL_law_82 17 rfl rfl)
theorem dL_law_2064 : decode cL_law 2064 = .ok (.iconst 0, 1) := dk_3 (dk_at dksL_law_82 20 rfl rfl)
theorem dL_law_2065 : decode cL_law 2065 = .ok (.ireturn, 1) := dk_172 (dk_at dksL_law_82 21 rfl rfl)
theorem dL_law_2066 : decode cL_law 2066 = .ok (.iload 6, 2) := dk_21 6 (dk_at dksL_law_82 22 rfl rfl)
theorem dL_law_2068 : decode cL_law 2068 = .ok (.ifCond .ne 15, 3) := dk_154 0 15 (dk_at dksL_law_83 0 rfl rfl)
theorem dL_law_2071 : decode cL_law 2071 = .ok (.aload_n 3, 1) := dk_45 (dk_at dksL_law_83 3 rfl rfl)
theorem dL_law_2072 : decode cL_law 2072 = .ok (.iconst 0, 1) := dk_3 (dk_at dksL_law_83 4 rfl rfl)
theorem dL_law_2073 : decode cL_law 2073 = .ok (.laload, 1) := dk_47 (dk_at dksL_law_83 5 rfl rfl)
theorem dL_law_2074 : decode cL_law 2074 = .ok (.iload 7, 2) := dk_21 7 (dk_at dksL_law_83 6 rfl rfl)
theorem dL_law_2076 : decode cL_law 2076 = .ok (.i2l, 1) := dk_133 (dk_at dksL_law_83 8 rfl rfl)
theorem dL_law_2077 : decode cL_law 2077 = .ok (.lcmp, 1) := dk_148 (dk_at dksL_law_83 9 rfl rfl)
theorem dL_law_2078 : decode cL_law 2078 = .ok (.ifCond .eq 5, 3) := dk_153 0 5 (dk_at dksL_law_83 10 rfl rfl)
theorem dL_law_2081 : decode cL_law 2081 = .ok (.iconst 0, 1) := dk_3 (dk_at dksL_law_83 13 rfl rfl)
theorem dL_law_2082 : decode cL_law 2082 = .ok (.ireturn, 1) := dk_172 (dk_at dksL_law_83 14 rfl rfl)
theorem dL_law_2083 : decode cL_law 2083 = .ok (.goto 567, 3) := dk_167 2 55 (dk_at dksL_law_83 15 rfl rfl)
theorem dL_law_2086 : decode cL_law 2086 = .ok (.aload_n 1, 1) := dk_43 (dk_at dksL_law_83 18 rfl rfl)
theorem dL_law_2087 : decode cL_law 2087 = .ok (.aload_n 3, 1) := dk_45 (dk_at dksL_law_83 19 rfl rfl)
theorem dL_law_2088 : decode cL_law 2088 = .ok (.invokestatic 245, 3) := dk_184 0 245 (dk_at dksL_law_83 20 rfl rfl)
theorem dL_law_2091 : decode cL_law 2091 = .ok (.istore 6, 2) := dk_54 6 (dk_at dksL_law_84 0 rfl rfl)
theorem dL_law_2093 : decode cL_law 2093 = .ok (.aload_n 2, 1) := dk_44 (dk_at dksL_law_84 2 rfl rfl)
theorem dL_law_2094 : decode cL_law 2094 = .ok (.invokevirtual 247, 3) := dk_182 0 247 (dk_at dksL_law_84 3 rfl rfl)
theorem dL_law_2097 : decode cL_law 2097 = .ok (.istore 7, 2) := dk_54 7 (dk_at dksL_law_84 6 rfl rfl)
theorem dL_law_2099 : decode cL_law 2099 = .ok (.aload_n 2, 1) := dk_44 (dk_at dksL_law_84 8 rfl rfl)
theorem dL_law_2100 : decode cL_law 2100 = .ok (.invokevirtual 156, 3) := dk_182 0 156 (dk_at dksL_law_84 9 rfl rfl)
theorem dL_law_2103 : decode cL_law 2103 = .ok (.iload 6, 2) := dk_21 6 (dk_at dksL_law_84 12 rfl rfl)
theorem dL_law_2105 : decode cL_law 2105 = .ok (.if_icmp .eq 5, 3) := dk_159 0 5 (dk_at dksL_law_84 14 rfl rfl)
theorem dL_law_2108 : decode cL_law 2108 = .ok (.iconst 0, 1) := dk_3 (dk_at dksL_law_84 17 rfl rfl)
theorem dL_law_2109 : decode cL_law 2109 = .ok (.ireturn, 1) := dk_172 (dk_at dksL_law_84 18 rfl rfl)
theorem dL_law_2110 : decode cL_law 2110 = .ok (.iload 6, 2) := dk_21 6 (dk_at dksL_law_84 19 rfl rfl)
theorem dL_law_2112 : decode cL_law 2112 = .ok (.ifCond .ne 15, 3) := dk_154 0 15 (dk_at dksL_law_84 21 rfl rfl)
theorem dL_law_2115 : decode cL_law 2115 = .ok (.aload_n 3, 1) := dk_45 (dk_at dksL_law_85 0 rfl rfl)
theorem dL_law_2116 : decode cL_law 2116 = .ok (.iconst 0, 1) := dk_3 (dk_at dksL_law_85 1 rfl rfl)
theorem dL_law_2117 : decode cL_law 2117 = .ok (.laload, 1) := dk_47 (dk_at dksL_law_85 2 rfl rfl)
theorem dL_law_2118 : decode cL_law 2118 = .ok (.iload 7, 2) := dk_21 7 (dk_at dksL_law_85 3 rfl rfl)
theorem dL_law_2120 : decode cL_law 2120 = .ok (.i2l, 1) := dk_133 (dk_at dksL_law_85 5 rfl rfl)
theorem dL_law_2121 : decode cL_law 2121 = .ok (.lcmp, 1) := dk_148 (dk_at dksL_law_85 6 rfl rfl)
theorem dL_law_2122 : decode cL_law 2122 = .ok (.ifCond .eq 5, 3) := dk_153 0 5 (dk_at dksL_law_85 7 rfl rfl)
theorem dL_law_2125 : decode cL_law 2125 = .ok (.iconst 0, 1) := dk_3 (dk_at dksL_law_85 10 rfl rfl)
theorem dL_law_2126 : decode cL_law 2126 = .ok (.ireturn, 1) := dk_172 (dk_at dksL_law_85 11 rfl rfl)
theorem dL_law_2127 : decode cL_law 2127 = .ok (.goto 523, 3) := dk_167 2 11 (dk_at dksL_law_85 12 rfl rfl)
theorem dL_law_2130 : decode cL_law 2130 = .ok (.aload_n 1, 1) := dk_43 (dk_at dksL_law_85 15 rfl rfl)
theorem dL_law_2131 : decode cL_law 2131 = .ok (.aload_n 0, 1) := dk_42 (dk_at dksL_law_85 16 rfl rfl)
theorem dL_law_2132 : decode cL_law 2132 = .ok (.iload 5, 2) := dk_21 5 (dk_at dksL_law_85 17 rfl rfl)
theorem dL_law_2134 : decode cL_law 2134 = .ok (.iconst 1, 1) := dk_4 (dk_at dksL_law_85 19 rfl rfl)
theorem dL_law_2135 : decode cL_law 2135 = .ok (.iadd, 1) := dk_96 (dk_at dksL_law_85 20 rfl rfl)
theorem dL_law_2136 : decode cL_law 2136 = .ok (.iaload, 1) := dk_46 (dk_at dksL_law_85 21 rfl rfl)
theorem dL_law_2137 : decode cL_law 2137 = .ok (.aload_n 3, 1) := dk_45 (dk_at dksL_law_85 22 rfl rfl)
theorem dL_law_2138 : decode cL_law 2138 = .ok (.invokestatic 248, 3) := dk_184 0 248 (dk_at dksL_law_86 0 rfl rfl)
theorem dL_law_2141 : decode cL_law 2141 = .ok (.istore 6, 2) := dk_54 6 (dk_at dksL_law_86 3 rfl rfl)
theorem dL_law_2143 : decode cL_law 2143 = .ok (.aload_n 2, 1) := dk_44 (dk_at dksL_law_86 5 rfl rfl)
theorem dL_law_2144 : decode cL_law 2144 = .ok (.aload_n 0, 1) := dk_42 (dk_at dksL_law_86 6 rfl rfl)
theorem dL_law_2145 : decode cL_law 2145 = .ok (.iload 5, 2) := dk_21 5 (dk_at dksL_law_86 7 rfl rfl)
theorem dL_law_2147 : decode cL_law 2147 = .ok (.iconst 1, 1) := dk_4 (dk_at dksL_law_86 9 rfl rfl)
theorem dL_law_2148 : decode cL_law 2148 = .ok (.iadd, 1) := dk_96 (dk_at dksL_law_86 10 rfl rfl)
theorem dL_law_2149 : decode cL_law 2149 = .ok (.iaload, 1) := dk_46 (dk_at dksL_law_86 11 rfl rfl)
theorem dL_law_2150 : decode cL_law 2150 = .ok (.invokevirtual 250, 3) := dk_182 0 250 (dk_at dksL_law_86 12 rfl rfl)
theorem dL_law_2153 : decode cL_law 2153 = .ok (.istore 7, 2) := dk_54 7 (dk_at dksL_law_86 15 rfl rfl)
theorem dL_law_2155 : decode cL_law 2155 = .ok (.aload_n 2, 1) := dk_44 (dk_at dksL_law_86 17 rfl rfl)
theorem dL_law_2156 : decode cL_law 2156 = .ok (.invokevirtual 156, 3) := dk_182 0 156 (dk_at dksL_law_86 18 rfl rfl)
theorem dL_law_2159 : decode cL_law 2159 = .ok (.iload 6, 2) := dk_21 6 (dk_at dksL_law_86 21 rfl rfl)
theorem dL_law_2161 : decode cL_law 2161 = .ok (.if_icmp .eq 5, 3) := dk_159 0 5 (dk_at dksL_law_87 0 rfl rfl)
theorem dL_law_2164 : decode cL_law 2164 = .ok (.iconst 0, 1) := dk_3 (dk_at dksL_law_87 3 rfl rfl)
theorem dL_law_2165 : decode cL_law 2165 = .ok (.ireturn, 1) := dk_172 (dk_at dksL_law_87 4 rfl rfl)
theorem dL_law_2166 : decode cL_law 2166 = .ok (.iload 6, 2) := dk_21 6 (dk_at dksL_law_87 5 rfl rfl)
theorem dL_law_2168 : decode cL_law 2168 = .ok (.ifCond .ne 15, 3) := dk_154 0 15 (dk_at dksL_law_87 7 rfl rfl)
theorem dL_law_2171 : decode cL_law 2171 = .ok (.aload_n 3, 1) := dk_45 (dk_at dksL_law_87 10 rfl rfl)
theorem dL_law_2172 : decode cL_law 2172 = .ok (.iconst 0, 1) := dk_3 (dk_at dksL_law_87 11 rfl rfl)
theorem dL_law_2173 : decode cL_law 2173 = .ok (.laload, 1) := dk_47 (dk_at dksL_law_87 12 rfl rfl)
theorem dL_law_2174 : decode cL_law 2174 = .ok (.iload 7, 2) := dk_21 7 (dk_at dksL_law_87 13 rfl rfl)
theorem dL_law_2176 : decode cL_law 2176 = .ok (.i2l, 1) := dk_133 (dk_at dksL_law_87 15 rfl rfl)
theorem dL_law_2177 : decode cL_law 2177 = .ok (.lcmp, 1) := dk_148 (dk_at dksL_law_87 16 rfl rfl)
theorem dL_law_2178 : decode cL_law 2178 = .ok (.ifCond .eq 5, 3) := dk_153 0 5 (dk_at dksL_law_87 17 rfl rfl)
theorem dL_law_2181 : decode cL_law 2181 = .ok (.iconst 0, 1) := dk_3 (dk_at dksL_law_87 20 rfl rfl)
theorem dL_law_2182 : decode cL_law 2182 = .ok (.ireturn, 1) := dk_172 (dk_at dksL_law_87 21 rfl rfl)
theorem dL_law_2183 : decode cL_law 2183 = .ok (.goto 467, 3) := dk_167 1 211 (dk_at dksL_law_88 0 rfl rfl)
theorem dL_law_2186 : decode cL_law 2186 = .ok (.aload_n 1, 1) := dk_43 (dk_at dksL_law_88 3 rfl rfl)
theorem dL_law_2187 : decode cL_law 2187 = .ok (.aload_n 0, 1) := dk_42 (dk_at dksL_law_88 4 rfl rfl)
theorem dL_law_2188 : decode cL_law 2188 = .ok (.iload 5, 2) := dk_21 5 (dk_at dksL_law_88 5 rfl rfl)
theorem dL_law_2190 : decode cL_law 2190 = .ok (.iconst 1, 1) := dk_4 (dk_at dksL_law_88 7 rfl rfl)
theorem dL_law_2191 : decode cL_law 2191 = .ok (.iadd, 1) := dk_96 (dk_at dksL_law_88 8 rfl rfl)
theorem dL_law_2192 : decode cL_law 2192 = .ok (.iaload, 1) := dk_46 (dk_at dksL_law_88 9 rfl rfl)
theorem dL_law_2193 : decode cL_law 2193 = .ok (.aload_n 3, 1) := dk_45 (dk_at dksL_law_88 10 rfl rfl)
theorem dL_law_2194 : decode cL_law 2194 = .ok (.invokestatic 251, 3) := dk_184 0 251 (dk_at dksL_law_88 11 rfl rfl)
theorem dL_law_2197 : decode cL_law 2197 = .ok (.istore 6, 2) := dk_54 6 (dk_at dksL_law_88 14 rfl rfl)
theorem dL_law_2199 : decode cL_law 2199 = .ok (.aload_n 2, 1) := dk_44 (dk_at dksL_law_88 16 rfl rfl)
theorem dL_law_2200 : decode cL_law 2200 = .ok (.aload_n 0, 1) := dk_42 (dk_at dksL_law_88 17 rfl rfl)
theorem dL_law_2201 : decode cL_law 2201 = .ok (.iload 5, 2) := dk_21 5 (dk_at dksL_law_88 18 rfl rfl)
theorem dL_law_2203 : decode cL_law 2203 = .ok (.iconst 1, 1) := dk_4 (dk_at dksL_law_88 20 rfl rfl)
theorem dL_law_2204 : decode cL_law 2204 = .ok (.iadd, 1) := dk_96 (dk_at dksL_law_88 21 rfl rfl)
theorem dL_law_2205 : decode cL_law 2205 = .ok (.iaload, 1) := dk_46 (dk_at dksL_law_88 22 rfl rfl)
theorem dL_law_2206 : decode cL_law 2206 = .ok (.invokevirtual 253, 3) := dk_182 0 253 (dk_at dksL_law_89 0 rfl rfl)
theorem dL_law_2209 : decode cL_law 2209 = .ok (.istore 7, 2) := dk_54 7 (dk_at dksL_law_89 3 rfl rfl)
theorem dL_law_2211 : decode cL_law 2211 = .ok (.aload_n 2, 1) := dk_44 (dk_at dksL_law_89 5 rfl rfl)
theorem dL_law_2212 : decode cL_law 2212 = .ok (.invokevirtual 156, 3) := dk_182 0 156 (dk_at dksL_law_89 6 rfl rfl)
theorem dL_law_2215 : decode cL_law 2215 = .ok (.iload 6, 2) := dk_21 6 (dk_at dksL_law_89 9 rfl rfl)
theorem dL_law_2217 : decode cL_law 2217 = .ok (.if_icmp .eq 5, 3) := dk_159 0 5 (dk_at dksL_law_89 11 rfl rfl)
theorem dL_law_2220 : decode cL_law 2220 = .ok (.iconst 0, 1) := dk_3 (dk_at dksL_law_89 14 rfl rfl)
theorem dL_law_2221 : decode cL_law 2221 = .ok (.ireturn, 1) := dk_172 (dk_at dksL_law_89 15 rfl rfl)
theorem dL_law_2222 : decode cL_law 2222 = .ok (.iload 6, 2) := dk_21 6 (dk_at dksL_law_89 16 rfl rfl)
theorem dL_law_2224 : decode cL_law 2224 = .ok (.ifCond .ne 15, 3) := dk_154 0 15 (dk_at dksL_law_89 18 rfl rfl)
theorem dL_law_2227 : decode cL_law 2227 = .ok (.aload_n 3, 1) := dk_45 (dk_at dksL_law_89 21 rfl rfl)
theorem dL_law_2228 : decode cL_law 2228 = .ok (.iconst 0, 1) := dk_3 (dk_at dksL_law_89 22 rfl rfl)
theorem dL_law_2229 : decode cL_law 2229 = .ok (.laload, 1) := dk_47 (dk_at dksL_law_89 23 rfl rfl)
theorem dL_law_2230 : decode cL_law 2230 = .ok (.iload 7, 2) := dk_21 7 (dk_at dksL_law_90 0 rfl rfl)
theorem dL_law_2232 : decode cL_law 2232 = .ok (.i2l, 1) := dk_133 (dk_at dksL_law_90 2 rfl rfl)
theorem dL_law_2233 : decode cL_law 2233 = .ok (.lcmp, 1) := dk_148 (dk_at dksL_law_90 3 rfl rfl)
theorem dL_law_2234 : decode cL_law 2234 = .ok (.ifCond .eq 5, 3) := dk_153 0 5 (dk_at dksL_law_90 4 rfl rfl)
theorem dL_law_2237 : decode cL_law 2237 = .ok (.iconst 0, 1) := dk_3 (dk_at dksL_law_90 7 rfl rfl)
theorem dL_law_2238 : decode cL_law 2238 = .ok (.ireturn, 1) := dk_172 (dk_at dksL_law_90 8 rfl rfl)
theorem dL_law_2239 : decode cL_law 2239 = .ok (.goto 411, 3) := dk_167 1 155 (dk_at dksL_law_90 9 rfl rfl)
theorem dL_law_2242 : decode cL_law 2242 = .ok (.aload_n 1, 1) := dk_43 (dk_at dksL_law_90 12 rfl rfl)
theorem dL_law_2243 : decode cL_law 2243 = .ok (.aload_n 0, 1) := dk_42 (dk_at dksL_law_90 13 rfl rfl)
theorem dL_law_2244 : decode cL_law 2244 = .ok (.iload 5, 2) := dk_21 5 (dk_at dksL_law_90 14 rfl rfl)
theorem dL_law_2246 : decode cL_law 2246 = .ok (.iconst 1, 1) := dk_4 (dk_at dksL_law_90 16 rfl rfl)
theorem dL_law_2247 : decode cL_law 2247 = .ok (.iadd, 1) := dk_96 (dk_at dksL_law_90 17 rfl rfl)
theorem dL_law_2248 : decode cL_law 2248 = .ok (.iaload, 1) := dk_46 (dk_at dksL_law_90 18 rfl rfl)
theorem dL_law_2249 : decode cL_law 2249 = .ok (.aload_n 3, 1) := dk_45 (dk_at dksL_law_90 19 rfl rfl)
theorem dL_law_2250 : decode cL_law 2250 = .ok (.invokestatic 254, 3) := dk_184 0 254 (dk_at dksL_law_90 20 rfl rfl)
theorem dL_law_2253 : decode cL_law 2253 = .ok (.istore 6, 2) := dk_54 6 (dk_at dksL_law_91 0 rfl rfl)
theorem dL_law_2255 : decode cL_law 2255 = .ok (.aload_n 2, 1) := dk_44 (dk_at dksL_law_91 2 rfl rfl)
theorem dL_law_2256 : decode cL_law 2256 = .ok (.aload_n 0, 1) := dk_42 (dk_at dksL_law_91 3 rfl rfl)
theorem dL_law_2257 : decode cL_law 2257 = .ok (.iload 5, 2) := dk_21 5 (dk_at dksL_law_91 4 rfl rfl)
theorem dL_law_2259 : decode cL_law 2259 = .ok (.iconst 1, 1) := dk_4 (dk_at dksL_law_91 6 rfl rfl)
theorem dL_law_2260 : decode cL_law 2260 = .ok (.iadd, 1) := dk_96 (dk_at dksL_law_91 7 rfl rfl)
theorem dL_law_2261 : decode cL_law 2261 = .ok (.iaload, 1) := dk_46 (dk_at dksL_law_91 8 rfl rfl)
theorem dL_law_2262 : decode cL_law 2262 = .ok (.invokevirtual 256, 3) := dk_182 1 0 (dk_at dksL_law_91 9 rfl rfl)
theorem dL_law_2265 : decode cL_law 2265 = .ok (.istore 7, 2) := dk_54 7 (dk_at dksL_law_91 12 rfl rfl)
theorem dL_law_2267 : decode cL_law 2267 = .ok (.aload_n 2, 1) := dk_44 (dk_at dksL_law_91 14 rfl rfl)
theorem dL_law_2268 : decode cL_law 2268 = .ok (.invokevirtual 156, 3) := dk_182 0 156 (dk_at dksL_law_91 15 rfl rfl)
theorem dL_law_2271 : decode cL_law 2271 = .ok (.iload 6, 2) := dk_21 6 (dk_at dksL_law_91 18 rfl rfl)
theorem dL_law_2273 : decode cL_law 2273 = .ok (.if_icmp .eq 5, 3) := dk_159 0 5 (dk_at dksL_law_91 20 rfl rfl)
theorem dL_law_2276 : decode cL_law 2276 = .ok (.iconst 0, 1) := dk_3 (dk_at dksL_law_91 23 rfl rfl)
theorem dL_law_2277 : decode cL_law 2277 = .ok (.ireturn, 1) := dk_172 (dk_at dksL_law_92 0 rfl rfl)
theorem dL_law_2278 : decode cL_law 2278 = .ok (.iload 6, 2) := dk_21 6 (dk_at dksL_law_92 1 rfl rfl)
theorem dL_law_2280 : decode cL_law 2280 = .ok (.ifCond .ne 15, 3) := dk_154 0 15 (dk_at dksL_law_92 3 rfl rfl)
theorem dL_law_2283 : decode cL_law 2283 = .ok (.aload_n 3, 1) := dk_45 (dk_at dksL_law_92 6 rfl rfl)
theorem dL_law_2284 : decode cL_law 2284 = .ok (.iconst 0, 1) := dk_3 (dk_at dksL_law_92 7 rfl rfl)
theorem dL_law_2285 : decode cL_law 2285 = .ok (.laload, 1) := dk_47 (dk_at dksL_law_92 8 rfl rfl)
theorem dL_law_2286 : decode cL_law 2286 = .ok (.iload 7, 2) := dk_21 7 (dk_at dksL_law_92 9 rfl rfl)
theorem dL_law_2288 : decode cL_law 2288 = .ok (.i2l, 1) := dk_133 (dk_at dksL_law_92 11 rfl rfl)
theorem dL_law_2289 : decode cL_law 2289 = .ok (.lcmp, 1) := dk_148 (dk_at dksL_law_92 12 rfl rfl)
theorem dL_law_2290 : decode cL_law 2290 = .ok (.ifCond .eq 5, 3) := dk_153 0 5 (dk_at dksL_law_92 13 rfl rfl)
theorem dL_law_2293 : decode cL_law 2293 = .ok (.iconst 0, 1) := dk_3 (dk_at dksL_law_92 16 rfl rfl)
theorem dL_law_2294 : decode cL_law 2294 = .ok (.ireturn, 1) := dk_172 (dk_at dksL_law_92 17 rfl rfl)
theorem dL_law_2295 : decode cL_law 2295 = .ok (.goto 355, 3) := dk_167 1 99 (dk_at dksL_law_92 18 rfl rfl)
theorem dL_law_2298 : decode cL_law 2298 = .ok (.aload_n 1, 1) := dk_43 (dk_at dksL_law_92 21 rfl rfl)
theorem dL_law_2299 : decode cL_law 2299 = .ok (.aload_n 0, 1) := dk_42 (dk_at dksL_law_92 22 rfl rfl)
theorem dL_law_2300 : decode cL_law 2300 = .ok (.iload 5, 2) := dk_21 5 (dk_at dksL_law_93 0 rfl rfl)
theorem dL_law_2302 : decode cL_law 2302 = .ok (.iconst 1, 1) := dk_4 (dk_at dksL_law_93 2 rfl rfl)
theorem dL_law_2303 : decode cL_law 2303 = .ok (.iadd, 1) := dk_96 (dk_at dksL_law_93 3 rfl rfl)
theorem dL_law_2304 : decode cL_law 2304 = .ok (.iaload, 1) := dk_46 (dk_at dksL_law_93 4 rfl rfl)
theorem dL_law_2305 : decode cL_law 2305 = .ok (.aload_n 3, 1) := dk_45 (dk_at dksL_law_93 5 rfl rfl)
theorem dL_law_2306 : decode cL_law 2306 = .ok (.invokestatic 257, 3) := dk_184 1 1 (dk_at dksL_law_93 6 rfl rfl)
theorem dL_law_2309 : decode cL_law 2309 = .ok (.istore 6, 2) := dk_54 6 (dk_at dksL_law_93 9 rfl rfl)
theorem dL_law_2311 : decode cL_law 2311 = .ok (.aload_n 2, 1) := dk_44 (dk_at dksL_law_93 11 rfl rfl)
theorem dL_law_2312 : decode cL_law 2312 = .ok (.aload_n 0, 1) := dk_42 (dk_at dksL_law_93 12 rfl rfl)
theorem dL_law_2313 : decode cL_law 2313 = .ok (.iload 5, 2) := dk_21 5 (dk_at dksL_law_93 13 rfl rfl)
theorem dL_law_2315 : decode cL_law 2315 = .ok (.iconst 1, 1) := dk_4 (dk_at dksL_law_93 15 rfl rfl)
theorem dL_law_2316 : decode cL_law 2316 = .ok (.iadd, 1) := dk_96 (dk_at dksL_law_93 16 rfl rfl)
theorem dL_law_2317 : decode cL_law 2317 = .ok (.iaload, 1) := dk_46 (dk_at dksL_law_93 17 rfl rfl)
theorem dL_law_2318 : decode cL_law 2318 = .ok (.invokevirtual 259, 3) := dk_182 1 3 (dk_at dksL_law_93 18 rfl rfl)
theorem dL_law_2321 : decode cL_law 2321 = .ok (.istore 7, 2) := dk_54 7 (dk_at dksL_law_93 21 rfl rfl)
theorem dL_law_2323 : decode cL_law 2323 = .ok (.aload_n 2, 1) := dk_44 (dk_at dksL_law_93 23 rfl rfl)
theorem dL_law_2324 : decode cL_law 2324 = .ok (.invokevirtual 156, 3) := dk_182 0 156 (dk_at dksL_law_94 0 rfl rfl)
theorem dL_law_2327 : decode cL_law 2327 = .ok (.iload 6, 2) := dk_21 6 (dk_at dksL_law_94 3 rfl rfl)
theorem dL_law_2329 : decode cL_law 2329 = .ok (.if_icmp .eq 5, 3) := dk_159 0 5 (dk_at dksL_law_94 5 rfl rfl)
theorem dL_law_2332 : decode cL_law 2332 = .ok (.iconst 0, 1) := dk_3 (dk_at dksL_law_94 8 rfl rfl)
theorem dL_law_2333 : decode cL_law 2333 = .ok (.ireturn, 1) := dk_172 (dk_at dksL_law_94 9 rfl rfl)
theorem dL_law_2334 : decode cL_law 2334 = .ok (.iload 6, 2) := dk_21 6 (dk_at dksL_law_94 10 rfl rfl)
theorem dL_law_2336 : decode cL_law 2336 = .ok (.ifCond .ne 15, 3) := dk_154 0 15 (dk_at dksL_law_94 12 rfl rfl)
theorem dL_law_2339 : decode cL_law 2339 = .ok (.aload_n 3, 1) := dk_45 (dk_at dksL_law_94 15 rfl rfl)
theorem dL_law_2340 : decode cL_law 2340 = .ok (.iconst 0, 1) := dk_3 (dk_at dksL_law_94 16 rfl rfl)
theorem dL_law_2341 : decode cL_law 2341 = .ok (.laload, 1) := dk_47 (dk_at dksL_law_94 17 rfl rfl)
theorem dL_law_2342 : decode cL_law 2342 = .ok (.iload 7, 2) := dk_21 7 (dk_at dksL_law_94 18 rfl rfl)
theorem dL_law_2344 : decode cL_law 2344 = .ok (.i2l, 1) := dk_133 (dk_at dksL_law_94 20 rfl rfl)
theorem dL_law_2345 : decode cL_law 2345 = .ok (.lcmp, 1) := dk_148 (dk_at dksL_law_94 21 rfl rfl)
theorem dL_law_2346 : decode cL_law 2346 = .ok (.ifCond .eq 5, 3) := dk_153 0 5 (dk_at dksL_law_95 0 rfl rfl)
theorem dL_law_2349 : decode cL_law 2349 = .ok (.iconst 0, 1) := dk_3 (dk_at dksL_law_95 3 rfl rfl)
theorem dL_law_2350 : decode cL_law 2350 = .ok (.ireturn, 1) := dk_172 (dk_at dksL_law_95 4 rfl rfl)
theorem dL_law_2351 : decode cL_law 2351 = .ok (.goto 299, 3) := dk_167 1 43 (dk_at dksL_law_95 5 rfl rfl)
theorem dL_law_2354 : decode cL_law 2354 = .ok (.aload_n 1, 1) := dk_43 (dk_at dksL_law_95 8 rfl rfl)
theorem dL_law_2355 : decode cL_law 2355 = .ok (.aload_n 3, 1) := dk_45 (dk_at dksL_law_95 9 rfl rfl)
theorem dL_law_2356 : decode cL_law 2356 = .ok (.invokestatic 260, 3) := dk_184 1 4 (dk_at dksL_law_95 10 rfl rfl)
theorem dL_law_2359 : decode cL_law 2359 = .ok (.istore 6, 2) := dk_54 6 (dk_at dksL_law_95 13 rfl rfl)
theorem dL_law_2361 : decode cL_law 2361 = .ok (.aload_n 2, 1) := dk_44 (dk_at dksL_law_95 15 rfl rfl)
theorem dL_law_2362 : decode cL_law 2362 = .ok (.invokevirtual 262, 3) := dk_182 1 6 (dk_at dksL_law_95 16 rfl rfl)
theorem dL_law_2365 : decode cL_law 2365 = .ok (.istore 7, 2) := dk_54 7 (dk_at dksL_law_95 19 rfl rfl)
theorem dL_law_2367 : decode cL_law 2367 = .ok (.aload_n 2, 1) := dk_44 (dk_at dksL_law_95 21 rfl rfl)
theorem dL_law_2368 : decode cL_law 2368 = .ok (.invokevirtual 156, 3) := dk_182 0 156 (dk_at dksL_law_96 0 rfl rfl)
theorem dL_law_2371 : decode cL_law 2371 = .ok (.iload 6, 2) := dk_21 6 (dk_at dksL_law_96 3 rfl rfl)
theorem dL_law_2373 : decode cL_law 2373 = .ok (.if_icmp .eq 5, 3) := dk_159 0 5 (dk_at dksL_law_96 5 rfl rfl)
theorem dL_law_2376 : decode cL_law 2376 = .ok (.iconst 0, 1) := dk_3 (dk_at dksL_law_96 8 rfl rfl)
theorem dL_law_2377 : decode cL_law 2377 = .ok (.ireturn, 1) := dk_172 (dk_at dksL_law_96 9 rfl rfl)
theorem dL_law_2378 : decode cL_law 2378 = .ok (.iload 6, 2) := dk_21 6 (dk_at dksL_law_96 10 rfl rfl)
theorem dL_law_2380 : decode cL_law 2380 = .ok (.ifCond .ne 15, 3) := dk_154 0 15 (dk_at dksL_law_96 12 rfl rfl)
theorem dL_law_2383 : decode cL_law 2383 = .ok (.aload_n 3, 1) := dk_45 (dk_at dksL_law_96 15 rfl rfl)
theorem dL_law_2384 : decode cL_law 2384 = .ok (.iconst 0, 1) := dk_3 (dk_at dksL_law_96 16 rfl rfl)
theorem dL_law_2385 : decode cL_law 2385 = .ok (.laload, 1) := dk_47 (dk_at dksL_law_96 17 rfl rfl)
theorem dL_law_2386 : decode cL_law 2386 = .ok (.iload 7, 2) := dk_21 7 (dk_at dksL_law_96 18 rfl rfl)
theorem dL_law_2388 : decode cL_law 2388 = .ok (.i2l, 1) := dk_133 (dk_at dksL_law_96 20 rfl rfl)
theorem dL_law_2389 : decode cL_law 2389 = .ok (.lcmp, 1) := dk_148 (dk_at dksL_law_96 21 rfl rfl)
theorem dL_law_2390 : decode cL_law 2390 = .ok (.ifCond .eq 5, 3) := dk_153 0 5 (dk_at dksL_law_97 0 rfl rfl)
theorem dL_law_2393 : decode cL_law 2393 = .ok (.iconst 0, 1) := dk_3 (dk_at dksL_law_97 3 rfl rfl)
theorem dL_law_2394 : decode cL_law 2394 = .ok (.ireturn, 1) := dk_172 (dk_at dksL_law_97 4 rfl rfl)
theorem dL_law_2395 : decode cL_law 2395 = .ok (.goto 255, 3) := dk_167 0 255 (dk_at dksL_law_97 5 rfl rfl)
theorem dL_law_2398 : decode cL_law 2398 = .ok (.aload_n 1, 1) := dk_43 (dk_at dksL_law_97 8 rfl rfl)
theorem dL_law_2399 : decode cL_law 2399 = .ok (.aload_n 3, 1) := dk_45 (dk_at dksL_law_97 9 rfl rfl)
theorem dL_law_2400 : decode cL_law 2400 = .ok (.invokestatic 263, 3) := dk_184 1 7 (dk_at dksL_law_97 10 rfl rfl)
theorem dL_law_2403 : decode cL_law 2403 = .ok (.istore 6, 2) := dk_54 6 (dk_at dksL_law_97 13 rfl rfl)
theorem dL_law_2405 : decode cL_law 2405 = .ok (.aload_n 2, 1) := dk_44 (dk_at dksL_law_97 15 rfl rfl)
theorem dL_law_2406 : decode cL_law 2406 = .ok (.invokevirtual 265, 3) := dk_182 1 9 (dk_at dksL_law_97 16 rfl rfl)
theorem dL_law_2409 : decode cL_law 2409 = .ok (.istore 7, 2) := dk_54 7 (dk_at dksL_law_97 19 rfl rfl)
theorem dL_law_2411 : decode cL_law 2411 = .ok (.aload_n 2, 1) := dk_44 (dk_at dksL_law_97 21 rfl rfl)
theorem dL_law_2412 : decode cL_law 2412 = .ok (.invokevirtual 156, 3) := dk_182 0 156 (dk_at dksL_law_98 0 rfl rfl)
theorem dL_law_2415 : decode cL_law 2415 = .ok (.iload 6, 2) := dk_21 6 (dk_at dksL_law_98 3 rfl rfl)
theorem dL_law_2417 : decode cL_law 2417 = .ok (.if_icmp .eq 5, 3) := dk_159 0 5 (dk_at dksL_law_98 5 rfl rfl)
theorem dL_law_2420 : decode cL_law 2420 = .ok (.iconst 0, 1) := dk_3 (dk_at dksL_law_98 8 rfl rfl)
theorem dL_law_2421 : decode cL_law 2421 = .ok (.ireturn, 1) := dk_172 (dk_at dksL_law_98 9 rfl rfl)
theorem dL_law_2422 : decode cL_law 2422 = .ok (.iload 6, 2) := dk_21 6 (dk_at dksL_law_98 10 rfl rfl)
theorem dL_law_2424 : decode cL_law 2424 = .ok (.ifCond .ne 15, 3) := dk_154 0 15 (dk_at dksL_law_98 12 rfl rfl)
theorem dL_law_2427 : decode cL_law 2427 = .ok (.aload_n 3, 1) := dk_45 (dk_at dksL_law_98 15 rfl rfl)
theorem dL_law_2428 : decode cL_law 2428 = .ok (.iconst 0, 1) := dk_3 (dk_at dksL_law_98 16 rfl rfl)
theorem dL_law_2429 : decode cL_law 2429 = .ok (.laload, 1) := dk_47 (dk_at dksL_law_98 17 rfl rfl)
theorem dL_law_2430 : decode cL_law 2430 = .ok (.iload 7, 2) := dk_21 7 (dk_at dksL_law_98 18 rfl rfl)
theorem dL_law_2432 : decode cL_law 2432 = .ok (.i2l, 1) := dk_133 (dk_at dksL_law_98 20 rfl rfl)
theorem dL_law_2433 : decode cL_law 2433 = .ok (.lcmp, 1) := dk_148 (dk_at dksL_law_98 21 rfl rfl)
theorem dL_law_2434 : decode cL_law 2434 = .ok (.ifCond .eq 5, 3) := dk_153 0 5 (dk_at dksL_law_99 0 rfl rfl)
theorem dL_law_2437 : decode cL_law 2437 = .ok (.iconst 0, 1) := dk_3 (dk_at dksL_law_99 3 rfl rfl)
theorem dL_law_2438 : decode cL_law 2438 = .ok (.ireturn, 1) := dk_172 (dk_at dksL_law_99 4 rfl rfl)
theorem dL_law_2439 : decode cL_law 2439 = .ok (.goto 211, 3) := dk_167 0 211 (dk_at dksL_law_99 5 rfl rfl)
theorem dL_law_2442 : decode cL_law 2442 = .ok (.aload_n 1, 1) := dk_43 (dk_at dksL_law_99 8 rfl rfl)
theorem dL_law_2443 : decode cL_law 2443 = .ok (.aload_n 3, 1) := dk_45 (dk_at dksL_law_99 9 rfl rfl)
theorem dL_law_2444 : decode cL_law 2444 = .ok (.invokestatic 266, 3) := dk_184 1 10 (dk_at dksL_law_99 10 rfl rfl)
theorem dL_law_2447 : decode cL_law 2447 = .ok (.istore 6, 2) := dk_54 6 (dk_at dksL_law_99 13 rfl rfl)
theorem dL_law_2449 : decode cL_law 2449 = .ok (.aload_n 2, 1) := dk_44 (dk_at dksL_law_99 15 rfl rfl)
theorem dL_law_2450 : decode cL_law 2450 = .ok (.invokevirtual 268, 3) := dk_182 1 12 (dk_at dksL_law_99 16 rfl rfl)
theorem dL_law_2453 : decode cL_law 2453 = .ok (.istore 7, 2) := dk_54 7 (dk_at dksL_law_99 19 rfl rfl)
theorem dL_law_2455 : decode cL_law 2455 = .ok (.aload_n 2, 1) := dk_44 (dk_at dksL_law_99 21 rfl rfl)
theorem dL_law_2456 : decode cL_law 2456 = .ok (.invokevirtual 156, 3) := dk_182 0 156 (dk_at dksL_law_100 0 rfl rfl)
theorem dL_law_2459 : decode cL_law 2459 = .ok (.iload 6, 2) := dk_21 6 (dk_at dksL_law_100 3 rfl rfl)
theorem dL_law_2461 : decode cL_law 2461 = .ok (.if_icmp .eq 5, 3) := dk_159 0 5 (dk_at dksL_law_100 5 rfl rfl)
theorem dL_law_2464 : decode cL_law 2464 = .ok (.iconst 0, 1) := dk_3 (dk_at dksL_law_100 8 rfl rfl)
theorem dL_law_2465 : decode cL_law 2465 = .ok (.ireturn, 1) := dk_172 (dk_at dksL_law_100 9 rfl rfl)
theorem dL_law_2466 : decode cL_law 2466 = .ok (.iload 6, 2) := dk_21 6 (dk_at dksL_law_100 10 rfl rfl)
theorem dL_law_2468 : decode cL_law 2468 = .ok (.ifCond .ne 22, 3) := dk_154 0 22 (dk_at dksL_law_100 12 rfl rfl)
theorem dL_law_2471 : decode cL_law 2471 = .ok (.aload_n 3, 1) := dk_45 (dk_at dksL_law_100 15 rfl rfl)
theorem dL_law_2472 : decode cL_law 2472 = .ok (.iconst 0, 1) := dk_3 (dk_at dksL_law_100 16 rfl rfl)
theorem dL_law_2473 : decode cL_law 2473 = .ok (.laload, 1) := dk_47 (dk_at dksL_law_100 17 rfl rfl)
theorem dL_law_2474 : decode cL_law 2474 = .ok (.iload 7, 2) := dk_21 7 (dk_at dksL_law_100 18 rfl rfl)
theorem dL_law_2476 : decode cL_law 2476 = .ok (.ifCond .eq 7, 3) := dk_153 0 7 (dk_at dksL_law_100 20 rfl rfl)
theorem dL_law_2479 : decode cL_law 2479 = .ok (.lconst 1, 1) := dk_10 (dk_at dksL_law_100 23 rfl rfl)
theorem dL_law_2480 : decode cL_law 2480 = .ok (.goto 4, 3) := dk_167 0 4 (dk_at dksL_law_101 0 rfl rfl)
theorem dL_law_2483 : decode cL_law 2483 = .ok (.lconst 0, 1) := dk_9 (dk_at dksL_law_101 3 rfl rfl)
theorem dL_law_2484 : decode cL_law 2484 = .ok (.lcmp, 1) := dk_148 (dk_at dksL_law_101 4 rfl rfl)
theorem dL_law_2485 : decode cL_law 2485 = .ok (.ifCond .eq 5, 3) := dk_153 0 5 (dk_at dksL_law_101 5 rfl rfl)
theorem dL_law_2488 : decode cL_law 2488 = .ok (.iconst 0, 1) := dk_3 (dk_at dksL_law_101 8 rfl rfl)
theorem dL_law_2489 : decode cL_law 2489 = .ok (.ireturn, 1) := dk_172 (dk_at dksL_law_101 9 rfl rfl)
theorem dL_law_2490 : decode cL_law 2490 = .ok (.goto 160, 3) := dk_167 0 160 (dk_at dksL_law_101 10 rfl rfl)
theorem dL_law_2493 : decode cL_law 2493 = .ok (.aload_n 1, 1) := dk_43 (dk_at dksL_law_101 13 rfl rfl)
theorem dL_law_2494 : decode cL_law 2494 = .ok (.aload_n 0, 1) := dk_42 (dk_at dksL_law_101 14 rfl rfl)
theorem dL_law_2495 : decode cL_law 2495 = .ok (.iload 5, 2) := dk_21 5 (dk_at dksL_law_101 15 rfl rfl)
theorem dL_law_2497 : decode cL_law 2497 = .ok (.iconst 1, 1) := dk_4 (dk_at dksL_law_101 17 rfl rfl)
theorem dL_law_2498 : decode cL_law 2498 = .ok (.iadd, 1) := dk_96 (dk_at dksL_law_101 18 rfl rfl)
theorem dL_law_2499 : decode cL_law 2499 = .ok (.iaload, 1) := dk_46 (dk_at dksL_law_101 19 rfl rfl)
theorem dL_law_2500 : decode cL_law 2500 = .ok (.aload_n 3, 1) := dk_45 (dk_at dksL_law_101 20 rfl rfl)
theorem dL_law_2501 : decode cL_law 2501 = .ok (.invokestatic 269, 3) := dk_184 1 13 (dk_at dksL_law_101 21 rfl rfl)
theorem dL_law_2504 : decode cL_law 2504 = .ok (.istore 6, 2) := dk_54 6 (dk_at dksL_law_102 0 rfl rfl)
theorem dL_law_2506 : decode cL_law 2506 = .ok (.aload_n 2, 1) := dk_44 (dk_at dksL_law_102 2 rfl rfl)
theorem dL_law_2507 : decode cL_law 2507 = .ok (.aload_n 0, 1) := dk_42 (dk_at dksL_law_102 3 rfl rfl)
theorem dL_law_2508 : decode cL_law 2508 = .ok (.iload 5, 2) := dk_21 5 (dk_at dksL_law_102 4 rfl rfl)
theorem dL_law_2510 : decode cL_law 2510 = .ok (.iconst 1, 1) := dk_4 (dk_at dksL_law_102 6 rfl rfl)
theorem dL_law_2511 : decode cL_law 2511 = .ok (.iadd, 1) := dk_96 (dk_at dksL_law_102 7 rfl rfl)
theorem dL_law_2512 : decode cL_law 2512 = .ok (.iaload, 1) := dk_46 (dk_at dksL_law_102 8 rfl rfl)
theorem dL_law_2513 : decode cL_law 2513 = .ok (.invokevirtual 271, 3) := dk_182 1 15 (dk_at dksL_law_102 9 rfl rfl)
theorem dL_law_2516 : decode cL_law 2516 = .ok (.istore 7, 2) := dk_54 7 (dk_at dksL_law_102 12 rfl rfl)
theorem dL_law_2518 : decode cL_law 2518 = .ok (.aload_n 2, 1) := dk_44 (dk_at dksL_law_102 14 rfl rfl)
theorem dL_law_2519 : decode cL_law 2519 = .ok (.invokevirtual 156, 3) := dk_182 0 156 (dk_at dksL_law_102 15 rfl rfl)
theorem dL_law_2522 : decode cL_law 2522 = .ok (.iload 6, 2) := dk_21 6 (dk_at dksL_law_102 18 rfl rfl)
theorem dL_law_2524 : decode cL_law 2524 = .ok (.if_icmp .eq 5, 3) := dk_159 0 5 (dk_at dksL_law_102 20 rfl rfl)
theorem dL_law_2527 : decode cL_law 2527 = .ok (.iconst 0, 1) := dk_3 (dk_at dksL_law_102 23 rfl rfl)
theorem dL_law_2528 : decode cL_law 2528 = .ok (.ireturn, 1) := dk_172 (dk_at dksL_law_103 0 rfl rfl)
theorem dL_law_2529 : decode cL_law 2529 = .ok (.iload 6, 2) := dk_21 6 (dk_at dksL_law_103 1 rfl rfl)
theorem dL_law_2531 : decode cL_law 2531 = .ok (.ifCond .ne 15, 3) := dk_154 0 15 (dk_at dksL_law_103 3 rfl rfl)
theorem dL_law_2534 : decode cL_law 2534 = .ok (.aload_n 3, 1) := dk_45 (dk_at dksL_law_103 6 rfl rfl)
theorem dL_law_2535 : decode cL_law 2535 = .ok (.iconst 0, 1) := dk_3 (dk_at dksL_law_103 7 rfl rfl)
theorem dL_law_2536 : decode cL_law 2536 = .ok (.laload, 1) := dk_47 (dk_at dksL_law_103 8 rfl rfl)
theorem dL_law_2537 : decode cL_law 2537 = .ok (.iload 7, 2) := dk_21 7 (dk_at dksL_law_103 9 rfl rfl)
theorem dL_law_2539 : decode cL_law 2539 = .ok (.i2l, 1) := dk_133 (dk_at dksL_law_103 11 rfl rfl)
theorem dL_law_2540 : decode cL_law 2540 = .ok (.lcmp, 1) := dk_148 (dk_at dksL_law_103 12 rfl rfl)
theorem dL_law_2541 : decode cL_law 2541 = .ok (.ifCond .eq 5, 3) := dk_153 0 5 (dk_at dksL_law_103 13 rfl rfl)
theorem dL_law_2544 : decode cL_law 2544 = .ok (.iconst 0, 1) := dk_3 (dk_at dksL_law_103 16 rfl rfl)
theorem dL_law_2545 : decode cL_law 2545 = .ok (.ireturn, 1) := dk_172 (dk_at dksL_law_103 17 rfl rfl)
theorem dL_law_2546 : decode cL_law 2546 = .ok (.goto 104, 3) := dk_167 0 104 (dk_at dksL_law_103 18 rfl rfl)
theorem dL_law_2549 : decode cL_law 2549 = .ok (.aload_n 1, 1) := dk_43 (dk_at dksL_law_103 21 rfl rfl)
theorem dL_law_2550 : decode cL_law 2550 = .ok (.aload_n 3, 1) := dk_45 (dk_at dksL_law_103 22 rfl rfl)
theorem dL_law_2551 : decode cL_law 2551 = .ok (.invokestatic 272, 3) := dk_184 1 16 (dk_at dksL_law_104 0 rfl rfl)
theorem dL_law_2554 : decode cL_law 2554 = .ok (.istore 6, 2) := dk_54 6 (dk_at dksL_law_104 3 rfl rfl)
theorem dL_law_2556 : decode cL_law 2556 = .ok (.aload_n 2, 1) := dk_44 (dk_at dksL_law_104 5 rfl rfl)
theorem dL_law_2557 : decode cL_law 2557 = .ok (.invokevirtual 274, 3) := dk_182 1 18 (dk_at dksL_law_104 6 rfl rfl)
theorem dL_law_2560 : decode cL_law 2560 = .ok (.istore 7, 2) := dk_54 7 (dk_at dksL_law_104 9 rfl rfl)
theorem dL_law_2562 : decode cL_law 2562 = .ok (.aload_n 2, 1) := dk_44 (dk_at dksL_law_104 11 rfl rfl)
theorem dL_law_2563 : decode cL_law 2563 = .ok (.invokevirtual 156, 3) := dk_182 0 156 (dk_at dksL_law_104 12 rfl rfl)
theorem dL_law_2566 : decode cL_law 2566 = .ok (.iload 6, 2) := dk_21 6 (dk_at dksL_law_104 15 rfl rfl)
theorem dL_law_2568 : decode cL_law 2568 = .ok (.if_icmp .eq 5, 3) := dk_159 0 5 (dk_at dksL_law_104 17 rfl rfl)
theorem dL_law_2571 : decode cL_law 2571 = .ok (.iconst 0, 1) := dk_3 (dk_at dksL_law_104 20 rfl rfl)
theorem dL_law_2572 : decode cL_law 2572 = .ok (.ireturn, 1) := dk_172 (dk_at dksL_law_104 21 rfl rfl)
theorem dL_law_2573 : decode cL_law 2573 = .ok (.iload 6, 2) := dk_21 6 (dk_at dksL_law_104 22 rfl rfl)
theorem dL_law_2575 : decode cL_law 2575 = .ok (.ifCond .ne 15, 3) := dk_154 0 15 (dk_at dksL_law_105 0 rfl rfl)
theorem dL_law_2578 : decode cL_law 2578 = .ok (.aload_n 3, 1) := dk_45 (dk_at dksL_law_105 3 rfl rfl)
theorem dL_law_2579 : decode cL_law 2579 = .ok (.iconst 0, 1) := dk_3 (dk_at dksL_law_105 4 rfl rfl)
theorem dL_law_2580 : decode cL_law 2580 = .ok (.laload, 1) := dk_47 (dk_at dksL_law_105 5 rfl rfl)
theorem dL_law_2581 : decode cL_law 2581 = .ok (.iload 7, 2) := dk_21 7 (dk_at dksL_law_105 6 rfl rfl)
theorem dL_law_2583 : decode cL_law 2583 = .ok (.i2l, 1) := dk_133 (dk_at dksL_law_105 8 rfl rfl)
theorem dL_law_2584 : decode cL_law 2584 = .ok (.lcmp, 1) := dk_148 (dk_at dksL_law_105 9 rfl rfl)
theorem dL_law_2585 : decode cL_law 2585 = .ok (.ifCond .eq 5, 3) := dk_153 0 5 (dk_at dksL_law_105 10 rfl rfl)
theorem dL_law_2588 : decode cL_law 2588 = .ok (.iconst 0, 1) := dk_3 (dk_at dksL_law_105 13 rfl rfl)
theorem dL_law_2589 : decode cL_law 2589 = .ok (.ireturn, 1) := dk_172 (dk_at dksL_law_105 14 rfl rfl)
theorem dL_law_2590 : decode cL_law 2590 = .ok (.goto 60, 3) := dk_167 0 60 (dk_at dksL_law_105 15 rfl rfl)
theorem dL_law_2593 : decode cL_law 2593 = .ok (.aload_n 1, 1) := dk_43 (dk_at dksL_law_105 18 rfl rfl)
theorem dL_law_2594 : decode cL_law 2594 = .ok (.aload_n 3, 1) := dk_45 (dk_at dksL_law_105 19 rfl rfl)
theorem dL_law_2595 : decode cL_law 2595 = .ok (.invokestatic 275, 3) := dk_184 1 19 (dk_at dksL_law_105 20 rfl rfl)
theorem dL_law_2598 : decode cL_law 2598 = .ok (.istore 6, 2) := dk_54 6 (dk_at dksL_law_106 0 rfl rfl)
theorem dL_law_2600 : decode cL_law 2600 = .ok (.aload_n 2, 1) := dk_44 (dk_at dksL_law_106 2 rfl rfl)
theorem dL_law_2601 : decode cL_law 2601 = .ok (.invokevirtual 277, 3) := dk_182 1 21 (dk_at dksL_law_106 3 rfl rfl)
theorem dL_law_2604 : decode cL_law 2604 = .ok (.istore 7, 2) := dk_54 7 (dk_at dksL_law_106 6 rfl rfl)
theorem dL_law_2606 : decode cL_law 2606 = .ok (.aload_n 2, 1) := dk_44 (dk_at dksL_law_106 8 rfl rfl)
theorem dL_law_2607 : decode cL_law 2607 = .ok (.invokevirtual 156, 3) := dk_182 0 156 (dk_at dksL_law_106 9 rfl rfl)
theorem dL_law_2610 : decode cL_law 2610 = .ok (.iload 6, 2) := dk_21 6 (dk_at dksL_law_106 12 rfl rfl)
theorem dL_law_2612 : decode cL_law 2612 = .ok (.if_icmp .eq 5, 3) := dk_159 0 5 (dk_at dksL_law_106 14 rfl rfl)
theorem dL_law_2615 : decode cL_law 2615 = .ok (.iconst 0, 1) := dk_3 (dk_at dksL_law_106 17 rfl rfl)
theorem dL_law_2616 : decode cL_law 2616 = .ok (.ireturn, 1) := dk_172 (dk_at dksL_law_106 18 rfl rfl)
theorem dL_law_2617 : decode cL_law 2617 = .ok (.iload 6, 2) := dk_21 6 (dk_at dksL_law_106 19 rfl rfl)
theorem dL_law_2619 : decode cL_law 2619 = .ok (.ifCond .ne 15, 3) := dk_154 0 15 (dk_at dksL_law_106 21 rfl rfl)
theorem dL_law_2622 : decode cL_law 2622 = .ok (.aload_n 3, 1) := dk_45 (dk_at dksL_law_107 0 rfl rfl)
theorem dL_law_2623 : decode cL_law 2623 = .ok (.iconst 0, 1) := dk_3 (dk_at dksL_law_107 1 rfl rfl)
theorem dL_law_2624 : decode cL_law 2624 = .ok (.laload, 1) := dk_47 (dk_at dksL_law_107 2 rfl rfl)
theorem dL_law_2625 : decode cL_law 2625 = .ok (.iload 7, 2) := dk_21 7 (dk_at dksL_law_107 3 rfl rfl)
theorem dL_law_2627 : decode cL_law 2627 = .ok (.i2l, 1) := dk_133 (dk_at dksL_law_107 5 rfl rfl)
theorem dL_law_2628 : decode cL_law 2628 = .ok (.lcmp, 1) := dk_148 (dk_at dksL_law_107 6 rfl rfl)
theorem dL_law_2629 : decode cL_law 2629 = .ok (.ifCond .eq 5, 3) := dk_153 0 5 (dk_at dksL_law_107 7 rfl rfl)
theorem dL_law_2632 : decode cL_law 2632 = .ok (.iconst 0, 1) := dk_3 (dk_at dksL_law_107 10 rfl rfl)
theorem dL_law_2633 : decode cL_law 2633 = .ok (.ireturn, 1) := dk_172 (dk_at dksL_law_107 11 rfl rfl)
theorem dL_law_2634 : decode cL_law 2634 = .ok (.goto 16, 3) := dk_167 0 16 (dk_at dksL_law_107 12 rfl rfl)
theorem dL_law_2637 : decode cL_law 2637 = .ok (.aload_n 1, 1) := dk_43 (dk_at dksL_law_107 15 rfl rfl)
theorem dL_law_2638 : decode cL_law 2638 = .ok (.invokevirtual 278, 3) := dk_182 1 22 (dk_at dksL_law_107 16 rfl rfl)
theorem dL_law_2641 : decode cL_law 2641 = .ok (.aload_n 2, 1) := dk_44 (dk_at dksL_law_107 19 rfl rfl)
theorem dL_law_2642 : decode cL_law 2642 = .ok (.invokevirtual 281, 3) := dk_182 1 25 (dk_at dksL_law_107 20 rfl rfl)
theorem dL_law_2645 : decode cL_law 2645 = .ok (.if_icmp .eq 5, 3) := dk_159 0 5 (dk_at dksL_law_108 0 rfl rfl)
theorem dL_law_2648 : decode cL_law 2648 = .ok (.iconst 0, 1) := dk_3 (dk_at dksL_law_108 3 rfl rfl)
theorem dL_law_2649 : decode cL_law 2649 = .ok (.ireturn, 1) := dk_172 (dk_at dksL_law_108 4 rfl rfl)
theorem dL_law_2650 : decode cL_law 2650 = .ok (.iinc 5 5, 3) := dk_132 5 5 (dk_at dksL_law_108 5 rfl rfl)
theorem dL_law_2653 : decode cL_law 2653 = .ok (.goto (-2625), 3) := dk_167 245 191 (dk_at dksL_law_108 8 rfl rfl)
theorem dL_law_2656 : decode cL_law 2656 = .ok (.iconst 1, 1) := dk_4 (dk_at dksL_law_108 11 rfl rfl)
theorem dL_law_2657 : decode cL_law 2657 = .ok (.ireturn, 1) := dk_172 (dk_at dksL_law_108 12 rfl rfl)

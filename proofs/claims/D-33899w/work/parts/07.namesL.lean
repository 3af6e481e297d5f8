/-! ClockworkOrreriesLaw -/
set_option maxRecDepth 100000
def RX0 : String := "ClockworkOrreriesLaw"
abbrev cX0_addAxle : ByteArray := method_3_code
def yX0_addAxle : MethodName := ⟨RX0, "addAxle", "(LClockworkOrreries;[J)I"⟩
def dkwX0_addAxle_0 : List UInt8 := [43, 3, 42, 182, 0, 7, 133, 80, 167, 0, 6, 77, 4, 172, 3, 172]
abbrev dktX0_addAxle_0 : List UInt8 := dkwX0_addAxle_0 ++ []
theorem dksX0_addAxle_0 : cX0_addAxle.data.toList.drop 0 = dktX0_addAxle_0 := by decide +kernel
theorem dX0_addAxle_0 : decode cX0_addAxle 0 = .ok (.aload_n 1, 1) := dk_43 (dk_at dksX0_addAxle_0 0 rfl rfl)
theorem dX0_addAxle_1 : decode cX0_addAxle 1 = .ok (.iconst 0, 1) := dk_3 (dk_at dksX0_addAxle_0 1 rfl rfl)
theorem dX0_addAxle_2 : decode cX0_addAxle 2 = .ok (.aload_n 0, 1) := dk_42 (dk_at dksX0_addAxle_0 2 rfl rfl)
theorem dX0_addAxle_3 : decode cX0_addAxle 3 = .ok (.invokevirtual 7, 3) := dk_182 0 7 (dk_at dksX0_addAxle_0 3 rfl rfl)
theorem dX0_addAxle_6 : decode cX0_addAxle 6 = .ok (.i2l, 1) := dk_133 (dk_at dksX0_addAxle_0 6 rfl rfl)
theorem dX0_addAxle_7 : decode cX0_addAxle 7 = .ok (.lastore, 1) := dk_80 (dk_at dksX0_addAxle_0 7 rfl rfl)
theorem dX0_addAxle_8 : decode cX0_addAxle 8 = .ok (.goto 6, 3) := dk_167 0 6 (dk_at dksX0_addAxle_0 8 rfl rfl)
theorem dX0_addAxle_11 : decode cX0_addAxle 11 = .ok (.astore_n 2, 1) := dk_77 (dk_at dksX0_addAxle_0 11 rfl rfl)
theorem dX0_addAxle_12 : decode cX0_addAxle 12 = .ok (.iconst 1, 1) := dk_4 (dk_at dksX0_addAxle_0 12 rfl rfl)
theorem dX0_addAxle_13 : decode cX0_addAxle 13 = .ok (.ireturn, 1) := dk_172 (dk_at dksX0_addAxle_0 13 rfl rfl)
theorem dX0_addAxle_14 : decode cX0_addAxle 14 = .ok (.iconst 0, 1) := dk_3 (dk_at dksX0_addAxle_0 14 rfl rfl)
theorem dX0_addAxle_15 : decode cX0_addAxle 15 = .ok (.ireturn, 1) := dk_172 (dk_at dksX0_addAxle_0 15 rfl rfl)
abbrev cX0_addWheel : ByteArray := method_4_code
def yX0_addWheel : MethodName := ⟨RX0, "addWheel", "(LClockworkOrreries;II[J)I"⟩
def dkwX0_addWheel_0 : List UInt8 := [45, 3, 42, 27, 28, 182, 0, 15, 133, 80, 167, 0, 11, 58, 4, 4, 172, 58, 4, 5, 172, 3, 172]
abbrev dktX0_addWheel_0 : List UInt8 := dkwX0_addWheel_0 ++ []
theorem dksX0_addWheel_0 : cX0_addWheel.data.toList.drop 0 = dktX0_addWheel_0 := by decide +kernel
theorem dX0_addWheel_0 : decode cX0_addWheel 0 = .ok (.aload_n 3, 1) := dk_45 (dk_at dksX0_addWheel_0 0 rfl rfl)
theorem dX0_addWheel_1 : decode cX0_addWheel 1 = .ok (.iconst 0, 1) := dk_3 (dk_at dksX0_addWheel_0 1 rfl rfl)
theorem dX0_addWheel_2 : decode cX0_addWheel 2 = .ok (.aload_n 0, 1) := dk_42 (dk_at dksX0_addWheel_0 2 rfl rfl)
theorem dX0_addWheel_3 : decode cX0_addWheel 3 = .ok (.iload_n 1, 1) := dk_27 (dk_at dksX0_addWheel_0 3 rfl rfl)
theorem dX0_addWheel_4 : decode cX0_addWheel 4 = .ok (.iload_n 2, 1) := dk_28 (dk_at dksX0_addWheel_0 4 rfl rfl)
theorem dX0_addWheel_5 : decode cX0_addWheel 5 = .ok (.invokevirtual 15, 3) := dk_182 0 15 (dk_at dksX0_addWheel_0 5 rfl rfl)
theorem dX0_addWheel_8 : decode cX0_addWheel 8 = .ok (.i2l, 1) := dk_133 (dk_at dksX0_addWheel_0 8 rfl rfl)
theorem dX0_addWheel_9 : decode cX0_addWheel 9 = .ok (.lastore, 1) := dk_80 (dk_at dksX0_addWheel_0 9 rfl rfl)
theorem dX0_addWheel_10 : decode cX0_addWheel 10 = .ok (.goto 11, 3) := dk_167 0 11 (dk_at dksX0_addWheel_0 10 rfl rfl)
theorem dX0_addWheel_13 : decode cX0_addWheel 13 = .ok (.astore 4, 2) := dk_58 4 (dk_at dksX0_addWheel_0 13 rfl rfl)
theorem dX0_addWheel_15 : decode cX0_addWheel 15 = .ok (.iconst 1, 1) := dk_4 (dk_at dksX0_addWheel_0 15 rfl rfl)
theorem dX0_addWheel_16 : decode cX0_addWheel 16 = .ok (.ireturn, 1) := dk_172 (dk_at dksX0_addWheel_0 16 rfl rfl)
theorem dX0_addWheel_17 : decode cX0_addWheel 17 = .ok (.astore 4, 2) := dk_58 4 (dk_at dksX0_addWheel_0 17 rfl rfl)
theorem dX0_addWheel_19 : decode cX0_addWheel 19 = .ok (.iconst 2, 1) := dk_5 (dk_at dksX0_addWheel_0 19 rfl rfl)
theorem dX0_addWheel_20 : decode cX0_addWheel 20 = .ok (.ireturn, 1) := dk_172 (dk_at dksX0_addWheel_0 20 rfl rfl)
theorem dX0_addWheel_21 : decode cX0_addWheel 21 = .ok (.iconst 0, 1) := dk_3 (dk_at dksX0_addWheel_0 21 rfl rfl)
theorem dX0_addWheel_22 : decode cX0_addWheel 22 = .ok (.ireturn, 1) := dk_172 (dk_at dksX0_addWheel_0 22 rfl rfl)
abbrev cX0_mesh : ByteArray := method_5_code
def yX0_mesh : MethodName := ⟨RX0, "mesh", "(LClockworkOrreries;II[J)I"⟩
def dkwX0_mesh_0 : List UInt8 := [45, 3, 42, 27, 28, 182, 0, 21, 133, 80, 167, 0, 11, 58, 4, 4, 172, 58, 4, 5, 172, 3, 172]
abbrev dktX0_mesh_0 : List UInt8 := dkwX0_mesh_0 ++ []
theorem dksX0_mesh_0 : cX0_mesh.data.toList.drop 0 = dktX0_mesh_0 := by decide +kernel
theorem dX0_mesh_0 : decode cX0_mesh 0 = .ok (.aload_n 3, 1) := dk_45 (dk_at dksX0_mesh_0 0 rfl rfl)
theorem dX0_mesh_1 : decode cX0_mesh 1 = .ok (.iconst 0, 1) := dk_3 (dk_at dksX0_mesh_0 1 rfl rfl)
theorem dX0_mesh_2 : decode cX0_mesh 2 = .ok (.aload_n 0, 1) := dk_42 (dk_at dksX0_mesh_0 2 rfl rfl)
theorem dX0_mesh_3 : decode cX0_mesh 3 = .ok (.iload_n 1, 1) := dk_27 (dk_at dksX0_mesh_0 3 rfl rfl)
theorem dX0_mesh_4 : decode cX0_mesh 4 = .ok (.iload_n 2, 1) := dk_28 (dk_at dksX0_mesh_0 4 rfl rfl)
theorem dX0_mesh_5 : decode cX0_mesh 5 = .ok (.invokevirtual 21, 3) := dk_182 0 21 (dk_at dksX0_mesh_0 5 rfl rfl)
theorem dX0_mesh_8 : decode cX0_mesh 8 = .ok (.i2l, 1) := dk_133 (dk_at dksX0_mesh_0 8 rfl rfl)
theorem dX0_mesh_9 : decode cX0_mesh 9 = .ok (.lastore, 1) := dk_80 (dk_at dksX0_mesh_0 9 rfl rfl)
theorem dX0_mesh_10 : decode cX0_mesh 10 = .ok (.goto 11, 3) := dk_167 0 11 (dk_at dksX0_mesh_0 10 rfl rfl)
theorem dX0_mesh_13 : decode cX0_mesh 13 = .ok (.astore 4, 2) := dk_58 4 (dk_at dksX0_mesh_0 13 rfl rfl)
theorem dX0_mesh_15 : decode cX0_mesh 15 = .ok (.iconst 1, 1) := dk_4 (dk_at dksX0_mesh_0 15 rfl rfl)
theorem dX0_mesh_16 : decode cX0_mesh 16 = .ok (.ireturn, 1) := dk_172 (dk_at dksX0_mesh_0 16 rfl rfl)
theorem dX0_mesh_17 : decode cX0_mesh 17 = .ok (.astore 4, 2) := dk_58 4 (dk_at dksX0_mesh_0 17 rfl rfl)
theorem dX0_mesh_19 : decode cX0_mesh 19 = .ok (.iconst 2, 1) := dk_5 (dk_at dksX0_mesh_0 19 rfl rfl)
theorem dX0_mesh_20 : decode cX0_mesh 20 = .ok (.ireturn, 1) := dk_172 (dk_at dksX0_mesh_0 20 rfl rfl)
theorem dX0_mesh_21 : decode cX0_mesh 21 = .ok (.iconst 0, 1) := dk_3 (dk_at dksX0_mesh_0 21 rfl rfl)
theorem dX0_mesh_22 : decode cX0_mesh 22 = .ok (.ireturn, 1) := dk_172 (dk_at dksX0_mesh_0 22 rfl rfl)
abbrev cX0_unmesh : ByteArray := method_6_code
def yX0_unmesh : MethodName := ⟨RX0, "unmesh", "(LClockworkOrreries;I[J)I"⟩
def dkwX0_unmesh_0 : List UInt8 := [44, 3, 42, 27, 182, 0, 24, 133, 80, 167, 0, 9, 78, 4, 172, 78, 5, 172, 3, 172]
abbrev dktX0_unmesh_0 : List UInt8 := dkwX0_unmesh_0 ++ []
theorem dksX0_unmesh_0 : cX0_unmesh.data.toList.drop 0 = dktX0_unmesh_0 := by decide +kernel
theorem dX0_unmesh_0 : decode cX0_unmesh 0 = .ok (.aload_n 2, 1) := dk_44 (dk_at dksX0_unmesh_0 0 rfl rfl)
theorem dX0_unmesh_1 : decode cX0_unmesh 1 = .ok (.iconst 0, 1) := dk_3 (dk_at dksX0_unmesh_0 1 rfl rfl)
theorem dX0_unmesh_2 : decode cX0_unmesh 2 = .ok (.aload_n 0, 1) := dk_42 (dk_at dksX0_unmesh_0 2 rfl rfl)
theorem dX0_unmesh_3 : decode cX0_unmesh 3 = .ok (.iload_n 1, 1) := dk_27 (dk_at dksX0_unmesh_0 3 rfl rfl)
theorem dX0_unmesh_4 : decode cX0_unmesh 4 = .ok (.invokevirtual 24, 3) := dk_182 0 24 (dk_at dksX0_unmesh_0 4 rfl rfl)
theorem dX0_unmesh_7 : decode cX0_unmesh 7 = .ok (.i2l, 1) := dk_133 (dk_at dksX0_unmesh_0 7 rfl rfl)
theorem dX0_unmesh_8 : decode cX0_unmesh 8 = .ok (.lastore, 1) := dk_80 (dk_at dksX0_unmesh_0 8 rfl rfl)
theorem dX0_unmesh_9 : decode cX0_unmesh 9 = .ok (.goto 9, 3) := dk_167 0 9 (dk_at dksX0_unmesh_0 9 rfl rfl)
theorem dX0_unmesh_12 : decode cX0_unmesh 12 = .ok (.astore_n 3, 1) := dk_78 (dk_at dksX0_unmesh_0 12 rfl rfl)
theorem dX0_unmesh_13 : decode cX0_unmesh 13 = .ok (.iconst 1, 1) := dk_4 (dk_at dksX0_unmesh_0 13 rfl rfl)
theorem dX0_unmesh_14 : decode cX0_unmesh 14 = .ok (.ireturn, 1) := dk_172 (dk_at dksX0_unmesh_0 14 rfl rfl)
theorem dX0_unmesh_15 : decode cX0_unmesh 15 = .ok (.astore_n 3, 1) := dk_78 (dk_at dksX0_unmesh_0 15 rfl rfl)
theorem dX0_unmesh_16 : decode cX0_unmesh 16 = .ok (.iconst 2, 1) := dk_5 (dk_at dksX0_unmesh_0 16 rfl rfl)
theorem dX0_unmesh_17 : decode cX0_unmesh 17 = .ok (.ireturn, 1) := dk_172 (dk_at dksX0_unmesh_0 17 rfl rfl)
theorem dX0_unmesh_18 : decode cX0_unmesh 18 = .ok (.iconst 0, 1) := dk_3 (dk_at dksX0_unmesh_0 18 rfl rfl)
theorem dX0_unmesh_19 : decode cX0_unmesh 19 = .ok (.ireturn, 1) := dk_172 (dk_at dksX0_unmesh_0 19 rfl rfl)
abbrev cX0_setTeeth : ByteArray := method_7_code
def yX0_setTeeth : MethodName := ⟨RX0, "setTeeth", "(LClockworkOrreries;II[J)I"⟩
def dkwX0_setTeeth_0 : List UInt8 := [45, 3, 42, 27, 28, 182, 0, 28, 133, 80, 167, 0, 11, 58, 4, 4, 172, 58, 4, 5, 172, 3, 172]
abbrev dktX0_setTeeth_0 : List UInt8 := dkwX0_setTeeth_0 ++ []
theorem dksX0_setTeeth_0 : cX0_setTeeth.data.toList.drop 0 = dktX0_setTeeth_0 := by decide +kernel
theorem dX0_setTeeth_0 : decode cX0_setTeeth 0 = .ok (.aload_n 3, 1) := dk_45 (dk_at dksX0_setTeeth_0 0 rfl rfl)
theorem dX0_setTeeth_1 : decode cX0_setTeeth 1 = .ok (.iconst 0, 1) := dk_3 (dk_at dksX0_setTeeth_0 1 rfl rfl)
theorem dX0_setTeeth_2 : decode cX0_setTeeth 2 = .ok (.aload_n 0, 1) := dk_42 (dk_at dksX0_setTeeth_0 2 rfl rfl)
theorem dX0_setTeeth_3 : decode cX0_setTeeth 3 = .ok (.iload_n 1, 1) := dk_27 (dk_at dksX0_setTeeth_0 3 rfl rfl)
theorem dX0_setTeeth_4 : decode cX0_setTeeth 4 = .ok (.iload_n 2, 1) := dk_28 (dk_at dksX0_setTeeth_0 4 rfl rfl)
theorem dX0_setTeeth_5 : decode cX0_setTeeth 5 = .ok (.invokevirtual 28, 3) := dk_182 0 28 (dk_at dksX0_setTeeth_0 5 rfl rfl)
theorem dX0_setTeeth_8 : decode cX0_setTeeth 8 = .ok (.i2l, 1) := dk_133 (dk_at dksX0_setTeeth_0 8 rfl rfl)
theorem dX0_setTeeth_9 : decode cX0_setTeeth 9 = .ok (.lastore, 1) := dk_80 (dk_at dksX0_setTeeth_0 9 rfl rfl)
theorem dX0_setTeeth_10 : decode cX0_setTeeth 10 = .ok (.goto 11, 3) := dk_167 0 11 (dk_at dksX0_setTeeth_0 10 rfl rfl)
theorem dX0_setTeeth_13 : decode cX0_setTeeth 13 = .ok (.astore 4, 2) := dk_58 4 (dk_at dksX0_setTeeth_0 13 rfl rfl)
theorem dX0_setTeeth_15 : decode cX0_setTeeth 15 = .ok (.iconst 1, 1) := dk_4 (dk_at dksX0_setTeeth_0 15 rfl rfl)
theorem dX0_setTeeth_16 : decode cX0_setTeeth 16 = .ok (.ireturn, 1) := dk_172 (dk_at dksX0_setTeeth_0 16 rfl rfl)
theorem dX0_setTeeth_17 : decode cX0_setTeeth 17 = .ok (.astore 4, 2) := dk_58 4 (dk_at dksX0_setTeeth_0 17 rfl rfl)
theorem dX0_setTeeth_19 : decode cX0_setTeeth 19 = .ok (.iconst 2, 1) := dk_5 (dk_at dksX0_setTeeth_0 19 rfl rfl)
theorem dX0_setTeeth_20 : decode cX0_setTeeth 20 = .ok (.ireturn, 1) := dk_172 (dk_at dksX0_setTeeth_0 20 rfl rfl)
theorem dX0_setTeeth_21 : decode cX0_setTeeth 21 = .ok (.iconst 0, 1) := dk_3 (dk_at dksX0_setTeeth_0 21 rfl rfl)
theorem dX0_setTeeth_22 : decode cX0_setTeeth 22 = .ok (.ireturn, 1) := dk_172 (dk_at dksX0_setTeeth_0 22 rfl rfl)
abbrev cX0_addArm : ByteArray := method_8_code
def yX0_addArm : MethodName := ⟨RX0, "addArm", "(LClockworkOrreries;II[J)I"⟩
def dkwX0_addArm_0 : List UInt8 := [45, 3, 42, 27, 28, 182, 0, 31, 133, 80, 167, 0, 11, 58, 4, 4, 172, 58, 4, 5, 172, 3, 172]
abbrev dktX0_addArm_0 : List UInt8 := dkwX0_addArm_0 ++ []
theorem dksX0_addArm_0 : cX0_addArm.data.toList.drop 0 = dktX0_addArm_0 := by decide +kernel
theorem dX0_addArm_0 : decode cX0_addArm 0 = .ok (.aload_n 3, 1) := dk_45 (dk_at dksX0_addArm_0 0 rfl rfl)
theorem dX0_addArm_1 : decode cX0_addArm 1 = .ok (.iconst 0, 1) := dk_3 (dk_at dksX0_addArm_0 1 rfl rfl)
theorem dX0_addArm_2 : decode cX0_addArm 2 = .ok (.aload_n 0, 1) := dk_42 (dk_at dksX0_addArm_0 2 rfl rfl)
theorem dX0_addArm_3 : decode cX0_addArm 3 = .ok (.iload_n 1, 1) := dk_27 (dk_at dksX0_addArm_0 3 rfl rfl)
theorem dX0_addArm_4 : decode cX0_addArm 4 = .ok (.iload_n 2, 1) := dk_28 (dk_at dksX0_addArm_0 4 rfl rfl)
theorem dX0_addArm_5 : decode cX0_addArm 5 = .ok (.invokevirtual 31, 3) := dk_182 0 31 (dk_at dksX0_addArm_0 5 rfl rfl)
theorem dX0_addArm_8 : decode cX0_addArm 8 = .ok (.i2l, 1) := dk_133 (dk_at dksX0_addArm_0 8 rfl rfl)
theorem dX0_addArm_9 : decode cX0_addArm 9 = .ok (.lastore, 1) := dk_80 (dk_at dksX0_addArm_0 9 rfl rfl)
theorem dX0_addArm_10 : decode cX0_addArm 10 = .ok (.goto 11, 3) := dk_167 0 11 (dk_at dksX0_addArm_0 10 rfl rfl)
theorem dX0_addArm_13 : decode cX0_addArm 13 = .ok (.astore 4, 2) := dk_58 4 (dk_at dksX0_addArm_0 13 rfl rfl)
theorem dX0_addArm_15 : decode cX0_addArm 15 = .ok (.iconst 1, 1) := dk_4 (dk_at dksX0_addArm_0 15 rfl rfl)
theorem dX0_addArm_16 : decode cX0_addArm 16 = .ok (.ireturn, 1) := dk_172 (dk_at dksX0_addArm_0 16 rfl rfl)
theorem dX0_addArm_17 : decode cX0_addArm 17 = .ok (.astore 4, 2) := dk_58 4 (dk_at dksX0_addArm_0 17 rfl rfl)
theorem dX0_addArm_19 : decode cX0_addArm 19 = .ok (.iconst 2, 1) := dk_5 (dk_at dksX0_addArm_0 19 rfl rfl)
theorem dX0_addArm_20 : decode cX0_addArm 20 = .ok (.ireturn, 1) := dk_172 (dk_at dksX0_addArm_0 20 rfl rfl)
theorem dX0_addArm_21 : decode cX0_addArm 21 = .ok (.iconst 0, 1) := dk_3 (dk_at dksX0_addArm_0 21 rfl rfl)
theorem dX0_addArm_22 : decode cX0_addArm 22 = .ok (.ireturn, 1) := dk_172 (dk_at dksX0_addArm_0 22 rfl rfl)
abbrev cX0_setBend : ByteArray := method_9_code
def yX0_setBend : MethodName := ⟨RX0, "setBend", "(LClockworkOrreries;II[J)I"⟩
def dkwX0_setBend_0 : List UInt8 := [45, 3, 42, 27, 28, 182, 0, 34, 133, 80, 167, 0, 7, 58, 4, 4, 172, 3, 172]
abbrev dktX0_setBend_0 : List UInt8 := dkwX0_setBend_0 ++ []
theorem dksX0_setBend_0 : cX0_setBend.data.toList.drop 0 = dktX0_setBend_0 := by decide +kernel
theorem dX0_setBend_0 : decode cX0_setBend 0 = .ok (.aload_n 3, 1) := dk_45 (dk_at dksX0_setBend_0 0 rfl rfl)
theorem dX0_setBend_1 : decode cX0_setBend 1 = .ok (.iconst 0, 1) := dk_3 (dk_at dksX0_setBend_0 1 rfl rfl)
theorem dX0_setBend_2 : decode cX0_setBend 2 = .ok (.aload_n 0, 1) := dk_42 (dk_at dksX0_setBend_0 2 rfl rfl)
theorem dX0_setBend_3 : decode cX0_setBend 3 = .ok (.iload_n 1, 1) := dk_27 (dk_at dksX0_setBend_0 3 rfl rfl)
theorem dX0_setBend_4 : decode cX0_setBend 4 = .ok (.iload_n 2, 1) := dk_28 (dk_at dksX0_setBend_0 4 rfl rfl)
theorem dX0_setBend_5 : decode cX0_setBend 5 = .ok (.invokevirtual 34, 3) := dk_182 0 34 (dk_at dksX0_setBend_0 5 rfl rfl)
theorem dX0_setBend_8 : decode cX0_setBend 8 = .ok (.i2l, 1) := dk_133 (dk_at dksX0_setBend_0 8 rfl rfl)
theorem dX0_setBend_9 : decode cX0_setBend 9 = .ok (.lastore, 1) := dk_80 (dk_at dksX0_setBend_0 9 rfl rfl)
theorem dX0_setBend_10 : decode cX0_setBend 10 = .ok (.goto 7, 3) := dk_167 0 7 (dk_at dksX0_setBend_0 10 rfl rfl)
theorem dX0_setBend_13 : decode cX0_setBend 13 = .ok (.astore 4, 2) := dk_58 4 (dk_at dksX0_setBend_0 13 rfl rfl)
theorem dX0_setBend_15 : decode cX0_setBend 15 = .ok (.iconst 1, 1) := dk_4 (dk_at dksX0_setBend_0 15 rfl rfl)
theorem dX0_setBend_16 : decode cX0_setBend 16 = .ok (.ireturn, 1) := dk_172 (dk_at dksX0_setBend_0 16 rfl rfl)
theorem dX0_setBend_17 : decode cX0_setBend 17 = .ok (.iconst 0, 1) := dk_3 (dk_at dksX0_setBend_0 17 rfl rfl)
theorem dX0_setBend_18 : decode cX0_setBend 18 = .ok (.ireturn, 1) := dk_172 (dk_at dksX0_setBend_0 18 rfl rfl)
abbrev cX0_addMoon : ByteArray := method_10_code
def yX0_addMoon : MethodName := ⟨RX0, "addMoon", "(LClockworkOrreries;II[J)I"⟩
def dkwX0_addMoon_0 : List UInt8 := [45, 3, 42, 27, 28, 182, 0, 37, 133, 80, 167, 0, 11, 58, 4, 4, 172, 58, 4, 5, 172, 3, 172]
abbrev dktX0_addMoon_0 : List UInt8 := dkwX0_addMoon_0 ++ []
theorem dksX0_addMoon_0 : cX0_addMoon.data.toList.drop 0 = dktX0_addMoon_0 := by decide +kernel
theorem dX0_addMoon_0 : decode cX0_addMoon 0 = .ok (.aload_n 3, 1) := dk_45 (dk_at dksX0_addMoon_0 0 rfl rfl)
theorem dX0_addMoon_1 : decode cX0_addMoon 1 = .ok (.iconst 0, 1) := dk_3 (dk_at dksX0_addMoon_0 1 rfl rfl)
theorem dX0_addMoon_2 : decode cX0_addMoon 2 = .ok (.aload_n 0, 1) := dk_42 (dk_at dksX0_addMoon_0 2 rfl rfl)
theorem dX0_addMoon_3 : decode cX0_addMoon 3 = .ok (.iload_n 1, 1) := dk_27 (dk_at dksX0_addMoon_0 3 rfl rfl)
theorem dX0_addMoon_4 : decode cX0_addMoon 4 = .ok (.iload_n 2, 1) := dk_28 (dk_at dksX0_addMoon_0 4 rfl rfl)
theorem dX0_addMoon_5 : decode cX0_addMoon 5 = .ok (.invokevirtual 37, 3) := dk_182 0 37 (dk_at dksX0_addMoon_0 5 rfl rfl)
theorem dX0_addMoon_8 : decode cX0_addMoon 8 = .ok (.i2l, 1) := dk_133 (dk_at dksX0_addMoon_0 8 rfl rfl)
theorem dX0_addMoon_9 : decode cX0_addMoon 9 = .ok (.lastore, 1) := dk_80 (dk_at dksX0_addMoon_0 9 rfl rfl)
theorem dX0_addMoon_10 : decode cX0_addMoon 10 = .ok (.goto 11, 3) := dk_167 0 11 (dk_at dksX0_addMoon_0 10 rfl rfl)
theorem dX0_addMoon_13 : decode cX0_addMoon 13 = .ok (.astore 4, 2) := dk_58 4 (dk_at dksX0_addMoon_0 13 rfl rfl)
theorem dX0_addMoon_15 : decode cX0_addMoon 15 = .ok (.iconst 1, 1) := dk_4 (dk_at dksX0_addMoon_0 15 rfl rfl)
theorem dX0_addMoon_16 : decode cX0_addMoon 16 = .ok (.ireturn, 1) := dk_172 (dk_at dksX0_addMoon_0 16 rfl rfl)
theorem dX0_addMoon_17 : decode cX0_addMoon 17 = .ok (.astore 4, 2) := dk_58 4 (dk_at dksX0_addMoon_0 17 rfl rfl)
theorem dX0_addMoon_19 : decode cX0_addMoon 19 = .ok (.iconst 2, 1) := dk_5 (dk_at dksX0_addMoon_0 19 rfl rfl)
theorem dX0_addMoon_20 : decode cX0_addMoon 20 = .ok (.ireturn, 1) := dk_172 (dk_at dksX0_addMoon_0 20 rfl rfl)
theorem dX0_addMoon_21 : decode cX0_addMoon 21 = .ok (.iconst 0, 1) := dk_3 (dk_at dksX0_addMoon_0 21 rfl rfl)
theorem dX0_addMoon_22 : decode cX0_addMoon 22 = .ok (.ireturn, 1) := dk_172 (dk_at dksX0_addMoon_0 22 rfl rfl)
abbrev cX0_setPeriod : ByteArray := method_11_code
def yX0_setPeriod : MethodName := ⟨RX0, "setPeriod", "(LClockworkOrreries;II[J)I"⟩
def dkwX0_setPeriod_0 : List UInt8 := [45, 3, 42, 27, 28, 182, 0, 40, 133, 80, 167, 0, 7, 58, 4, 4, 172, 3, 172]
abbrev dktX0_setPeriod_0 : List UInt8 := dkwX0_setPeriod_0 ++ []
theorem dksX0_setPeriod_0 : cX0_setPeriod.data.toList.drop 0 = dktX0_setPeriod_0 := by decide +kernel
theorem dX0_setPeriod_0 : decode cX0_setPeriod 0 = .ok (.aload_n 3, 1) := dk_45 (dk_at dksX0_setPeriod_0 0 rfl rfl)
theorem dX0_setPeriod_1 : decode cX0_setPeriod 1 = .ok (.iconst 0, 1) := dk_3 (dk_at dksX0_setPeriod_0 1 rfl rfl)
theorem dX0_setPeriod_2 : decode cX0_setPeriod 2 = .ok (.aload_n 0, 1) := dk_42 (dk_at dksX0_setPeriod_0 2 rfl rfl)
theorem dX0_setPeriod_3 : decode cX0_setPeriod 3 = .ok (.iload_n 1, 1) := dk_27 (dk_at dksX0_setPeriod_0 3 rfl rfl)
theorem dX0_setPeriod_4 : decode cX0_setPeriod 4 = .ok (.iload_n 2, 1) := dk_28 (dk_at dksX0_setPeriod_0 4 rfl rfl)
theorem dX0_setPeriod_5 : decode cX0_setPeriod 5 = .ok (.invokevirtual 40, 3) := dk_182 0 40 (dk_at dksX0_setPeriod_0 5 rfl rfl)
theorem dX0_setPeriod_8 : decode cX0_setPeriod 8 = .ok (.i2l, 1) := dk_133 (dk_at dksX0_setPeriod_0 8 rfl rfl)
theorem dX0_setPeriod_9 : decode cX0_setPeriod 9 = .ok (.lastore, 1) := dk_80 (dk_at dksX0_setPeriod_0 9 rfl rfl)
theorem dX0_setPeriod_10 : decode cX0_setPeriod 10 = .ok (.goto 7, 3) := dk_167 0 7 (dk_at dksX0_setPeriod_0 10 rfl rfl)
theorem dX0_setPeriod_13 : decode cX0_setPeriod 13 = .ok (.astore 4, 2) := dk_58 4 (dk_at dksX0_setPeriod_0 13 rfl rfl)
theorem dX0_setPeriod_15 : decode cX0_setPeriod 15 = .ok (.iconst 1, 1) := dk_4 (dk_at dksX0_setPeriod_0 15 rfl rfl)
theorem dX0_setPeriod_16 : decode cX0_setPeriod 16 = .ok (.ireturn, 1) := dk_172 (dk_at dksX0_setPeriod_0 16 rfl rfl)
theorem dX0_setPeriod_17 : decode cX0_setPeriod 17 = .ok (.iconst 0, 1) := dk_3 (dk_at dksX0_setPeriod_0 17 rfl rfl)
theorem dX0_setPeriod_18 : decode cX0_setPeriod 18 = .ok (.ireturn, 1) := dk_172 (dk_at dksX0_setPeriod_0 18 rfl rfl)
abbrev cX0_pass : ByteArray := method_12_code
def yX0_pass : MethodName := ⟨RX0, "pass", "(LClockworkOrreries;I[J)I"⟩
def dkwX0_pass_0 : List UInt8 := [44, 3, 42, 27, 182, 0, 43, 133, 80, 167, 0, 9, 78, 4, 172, 78, 5, 172, 3, 172]
abbrev dktX0_pass_0 : List UInt8 := dkwX0_pass_0 ++ []
theorem dksX0_pass_0 : cX0_pass.data.toList.drop 0 = dktX0_pass_0 := by decide +kernel
theorem dX0_pass_0 : decode cX0_pass 0 = .ok (.aload_n 2, 1) := dk_44 (dk_at dksX0_pass_0 0 rfl rfl)
theorem dX0_pass_1 : decode cX0_pass 1 = .ok (.iconst 0, 1) := dk_3 (dk_at dksX0_pass_0 1 rfl rfl)
theorem dX0_pass_2 : decode cX0_pass 2 = .ok (.aload_n 0, 1) := dk_42 (dk_at dksX0_pass_0 2 rfl rfl)
theorem dX0_pass_3 : decode cX0_pass 3 = .ok (.iload_n 1, 1) := dk_27 (dk_at dksX0_pass_0 3 rfl rfl)
theorem dX0_pass_4 : decode cX0_pass 4 = .ok (.invokevirtual 43, 3) := dk_182 0 43 (dk_at dksX0_pass_0 4 rfl rfl)
theorem dX0_pass_7 : decode cX0_pass 7 = .ok (.i2l, 1) := dk_133 (dk_at dksX0_pass_0 7 rfl rfl)
theorem dX0_pass_8 : decode cX0_pass 8 = .ok (.lastore, 1) := dk_80 (dk_at dksX0_pass_0 8 rfl rfl)
theorem dX0_pass_9 : decode cX0_pass 9 = .ok (.goto 9, 3) := dk_167 0 9 (dk_at dksX0_pass_0 9 rfl rfl)
theorem dX0_pass_12 : decode cX0_pass 12 = .ok (.astore_n 3, 1) := dk_78 (dk_at dksX0_pass_0 12 rfl rfl)
theorem dX0_pass_13 : decode cX0_pass 13 = .ok (.iconst 1, 1) := dk_4 (dk_at dksX0_pass_0 13 rfl rfl)
theorem dX0_pass_14 : decode cX0_pass 14 = .ok (.ireturn, 1) := dk_172 (dk_at dksX0_pass_0 14 rfl rfl)
theorem dX0_pass_15 : decode cX0_pass 15 = .ok (.astore_n 3, 1) := dk_78 (dk_at dksX0_pass_0 15 rfl rfl)
theorem dX0_pass_16 : decode cX0_pass 16 = .ok (.iconst 2, 1) := dk_5 (dk_at dksX0_pass_0 16 rfl rfl)
theorem dX0_pass_17 : decode cX0_pass 17 = .ok (.ireturn, 1) := dk_172 (dk_at dksX0_pass_0 17 rfl rfl)
theorem dX0_pass_18 : decode cX0_pass 18 = .ok (.iconst 0, 1) := dk_3 (dk_at dksX0_pass_0 18 rfl rfl)
theorem dX0_pass_19 : decode cX0_pass 19 = .ok (.ireturn, 1) := dk_172 (dk_at dksX0_pass_0 19 rfl rfl)
abbrev cX0_setDay : ByteArray := method_13_code
def yX0_setDay : MethodName := ⟨RX0, "setDay", "(LClockworkOrreries;I[J)I"⟩
def dkwX0_setDay_0 : List UInt8 := [44, 3, 42, 27, 182, 0, 46, 133, 80, 167, 0, 6, 78, 4, 172, 3, 172]
abbrev dktX0_setDay_0 : List UInt8 := dkwX0_setDay_0 ++ []
theorem dksX0_setDay_0 : cX0_setDay.data.toList.drop 0 = dktX0_setDay_0 := by decide +kernel
theorem dX0_setDay_0 : decode cX0_setDay 0 = .ok (.aload_n 2, 1) := dk_44 (dk_at dksX0_setDay_0 0 rfl rfl)
theorem dX0_setDay_1 : decode cX0_setDay 1 = .ok (.iconst 0, 1) := dk_3 (dk_at dksX0_setDay_0 1 rfl rfl)
theorem dX0_setDay_2 : decode cX0_setDay 2 = .ok (.aload_n 0, 1) := dk_42 (dk_at dksX0_setDay_0 2 rfl rfl)
theorem dX0_setDay_3 : decode cX0_setDay 3 = .ok (.iload_n 1, 1) := dk_27 (dk_at dksX0_setDay_0 3 rfl rfl)
theorem dX0_setDay_4 : decode cX0_setDay 4 = .ok (.invokevirtual 46, 3) := dk_182 0 46 (dk_at dksX0_setDay_0 4 rfl rfl)
theorem dX0_setDay_7 : decode cX0_setDay 7 = .ok (.i2l, 1) := dk_133 (dk_at dksX0_setDay_0 7 rfl rfl)
theorem dX0_setDay_8 : decode cX0_setDay 8 = .ok (.lastore, 1) := dk_80 (dk_at dksX0_setDay_0 8 rfl rfl)
theorem dX0_setDay_9 : decode cX0_setDay 9 = .ok (.goto 6, 3) := dk_167 0 6 (dk_at dksX0_setDay_0 9 rfl rfl)
theorem dX0_setDay_12 : decode cX0_setDay 12 = .ok (.astore_n 3, 1) := dk_78 (dk_at dksX0_setDay_0 12 rfl rfl)
theorem dX0_setDay_13 : decode cX0_setDay 13 = .ok (.iconst 1, 1) := dk_4 (dk_at dksX0_setDay_0 13 rfl rfl)
theorem dX0_setDay_14 : decode cX0_setDay 14 = .ok (.ireturn, 1) := dk_172 (dk_at dksX0_setDay_0 14 rfl rfl)
theorem dX0_setDay_15 : decode cX0_setDay 15 = .ok (.iconst 0, 1) := dk_3 (dk_at dksX0_setDay_0 15 rfl rfl)
theorem dX0_setDay_16 : decode cX0_setDay 16 = .ok (.ireturn, 1) := dk_172 (dk_at dksX0_setDay_0 16 rfl rfl)
abbrev cX0_teethOf : ByteArray := method_14_code
def yX0_teethOf : MethodName := ⟨RX0, "teethOf", "(LClockworkOrreries;I[J)I"⟩
def dkwX0_teethOf_0 : List UInt8 := [44, 3, 42, 27, 182, 0, 49, 133, 80, 167, 0, 6, 78, 4, 172, 3, 172]
abbrev dktX0_teethOf_0 : List UInt8 := dkwX0_teethOf_0 ++ []
theorem dksX0_teethOf_0 : cX0_teethOf.data.toList.drop 0 = dktX0_teethOf_0 := by decide +kernel
theorem dX0_teethOf_0 : decode cX0_teethOf 0 = .ok (.aload_n 2, 1) := dk_44 (dk_at dksX0_teethOf_0 0 rfl rfl)
theorem dX0_teethOf_1 : decode cX0_teethOf 1 = .ok (.iconst 0, 1) := dk_3 (dk_at dksX0_teethOf_0 1 rfl rfl)
theorem dX0_teethOf_2 : decode cX0_teethOf 2 = .ok (.aload_n 0, 1) := dk_42 (dk_at dksX0_teethOf_0 2 rfl rfl)
theorem dX0_teethOf_3 : decode cX0_teethOf 3 = .ok (.iload_n 1, 1) := dk_27 (dk_at dksX0_teethOf_0 3 rfl rfl)
theorem dX0_teethOf_4 : decode cX0_teethOf 4 = .ok (.invokevirtual 49, 3) := dk_182 0 49 (dk_at dksX0_teethOf_0 4 rfl rfl)
theorem dX0_teethOf_7 : decode cX0_teethOf 7 = .ok (.i2l, 1) := dk_133 (dk_at dksX0_teethOf_0 7 rfl rfl)
theorem dX0_teethOf_8 : decode cX0_teethOf 8 = .ok (.lastore, 1) := dk_80 (dk_at dksX0_teethOf_0 8 rfl rfl)
theorem dX0_teethOf_9 : decode cX0_teethOf 9 = .ok (.goto 6, 3) := dk_167 0 6 (dk_at dksX0_teethOf_0 9 rfl rfl)
theorem dX0_teethOf_12 : decode cX0_teethOf 12 = .ok (.astore_n 3, 1) := dk_78 (dk_at dksX0_teethOf_0 12 rfl rfl)
theorem dX0_teethOf_13 : decode cX0_teethOf 13 = .ok (.iconst 1, 1) := dk_4 (dk_at dksX0_teethOf_0 13 rfl rfl)
theorem dX0_teethOf_14 : decode cX0_teethOf 14 = .ok (.ireturn, 1) := dk_172 (dk_at dksX0_teethOf_0 14 rfl rfl)
theorem dX0_teethOf_15 : decode cX0_teethOf 15 = .ok (.iconst 0, 1) := dk_3 (dk_at dksX0_teethOf_0 15 rfl rfl)
theorem dX0_teethOf_16 : decode cX0_teethOf 16 = .ok (.ireturn, 1) := dk_172 (dk_at dksX0_teethOf_0 16 rfl rfl)
abbrev cX0_axleOf : ByteArray := method_15_code
def yX0_axleOf : MethodName := ⟨RX0, "axleOf", "(LClockworkOrreries;I[J)I"⟩
def dkwX0_axleOf_0 : List UInt8 := [44, 3, 42, 27, 182, 0, 52, 133, 80, 167, 0, 6, 78, 4, 172, 3, 172]
abbrev dktX0_axleOf_0 : List UInt8 := dkwX0_axleOf_0 ++ []
theorem dksX0_axleOf_0 : cX0_axleOf.data.toList.drop 0 = dktX0_axleOf_0 := by decide +kernel
theorem dX0_axleOf_0 : decode cX0_axleOf 0 = .ok (.aload_n 2, 1) := dk_44 (dk_at dksX0_axleOf_0 0 rfl rfl)
theorem dX0_axleOf_1 : decode cX0_axleOf 1 = .ok (.iconst 0, 1) := dk_3 (dk_at dksX0_axleOf_0 1 rfl rfl)
theorem dX0_axleOf_2 : decode cX0_axleOf 2 = .ok (.aload_n 0, 1) := dk_42 (dk_at dksX0_axleOf_0 2 rfl rfl)
theorem dX0_axleOf_3 : decode cX0_axleOf 3 = .ok (.iload_n 1, 1) := dk_27 (dk_at dksX0_axleOf_0 3 rfl rfl)
theorem dX0_axleOf_4 : decode cX0_axleOf 4 = .ok (.invokevirtual 52, 3) := dk_182 0 52 (dk_at dksX0_axleOf_0 4 rfl rfl)
theorem dX0_axleOf_7 : decode cX0_axleOf 7 = .ok (.i2l, 1) := dk_133 (dk_at dksX0_axleOf_0 7 rfl rfl)
theorem dX0_axleOf_8 : decode cX0_axleOf 8 = .ok (.lastore, 1) := dk_80 (dk_at dksX0_axleOf_0 8 rfl rfl)
theorem dX0_axleOf_9 : decode cX0_axleOf 9 = .ok (.goto 6, 3) := dk_167 0 6 (dk_at dksX0_axleOf_0 9 rfl rfl)
theorem dX0_axleOf_12 : decode cX0_axleOf 12 = .ok (.astore_n 3, 1) := dk_78 (dk_at dksX0_axleOf_0 12 rfl rfl)
theorem dX0_axleOf_13 : decode cX0_axleOf 13 = .ok (.iconst 1, 1) := dk_4 (dk_at dksX0_axleOf_0 13 rfl rfl)
theorem dX0_axleOf_14 : decode cX0_axleOf 14 = .ok (.ireturn, 1) := dk_172 (dk_at dksX0_axleOf_0 14 rfl rfl)
theorem dX0_axleOf_15 : decode cX0_axleOf 15 = .ok (.iconst 0, 1) := dk_3 (dk_at dksX0_axleOf_0 15 rfl rfl)
theorem dX0_axleOf_16 : decode cX0_axleOf 16 = .ok (.ireturn, 1) := dk_172 (dk_at dksX0_axleOf_0 16 rfl rfl)
abbrev cX0_whyNotMesh : ByteArray := method_16_code
def yX0_whyNotMesh : MethodName := ⟨RX0, "whyNotMesh", "(LClockworkOrreries;II[J)I"⟩
def dkwX0_whyNotMesh_0 : List UInt8 := [45, 3, 42, 27, 28, 182, 0, 55, 133, 80, 167, 0, 7, 58, 4, 4, 172, 3, 172]
abbrev dktX0_whyNotMesh_0 : List UInt8 := dkwX0_whyNotMesh_0 ++ []
theorem dksX0_whyNotMesh_0 : cX0_whyNotMesh.data.toList.drop 0 = dktX0_whyNotMesh_0 := by decide +kernel
theorem dX0_whyNotMesh_0 : decode cX0_whyNotMesh 0 = .ok (.aload_n 3, 1) := dk_45 (dk_at dksX0_whyNotMesh_0 0 rfl rfl)
theorem dX0_whyNotMesh_1 : decode cX0_whyNotMesh 1 = .ok (.iconst 0, 1) := dk_3 (dk_at dksX0_whyNotMesh_0 1 rfl rfl)
theorem dX0_whyNotMesh_2 : decode cX0_whyNotMesh 2 = .ok (.aload_n 0, 1) := dk_42 (dk_at dksX0_whyNotMesh_0 2 rfl rfl)
theorem dX0_whyNotMesh_3 : decode cX0_whyNotMesh 3 = .ok (.iload_n 1, 1) := dk_27 (dk_at dksX0_whyNotMesh_0 3 rfl rfl)
theorem dX0_whyNotMesh_4 : decode cX0_whyNotMesh 4 = .ok (.iload_n 2, 1) := dk_28 (dk_at dksX0_whyNotMesh_0 4 rfl rfl)
theorem dX0_whyNotMesh_5 : decode cX0_whyNotMesh 5 = .ok (.invokevirtual 55, 3) := dk_182 0 55 (dk_at dksX0_whyNotMesh_0 5 rfl rfl)
theorem dX0_whyNotMesh_8 : decode cX0_whyNotMesh 8 = .ok (.i2l, 1) := dk_133 (dk_at dksX0_whyNotMesh_0 8 rfl rfl)
theorem dX0_whyNotMesh_9 : decode cX0_whyNotMesh 9 = .ok (.lastore, 1) := dk_80 (dk_at dksX0_whyNotMesh_0 9 rfl rfl)
theorem dX0_whyNotMesh_10 : decode cX0_whyNotMesh 10 = .ok (.goto 7, 3) := dk_167 0 7 (dk_at dksX0_whyNotMesh_0 10 rfl rfl)
theorem dX0_whyNotMesh_13 : decode cX0_whyNotMesh 13 = .ok (.astore 4, 2) := dk_58 4 (dk_at dksX0_whyNotMesh_0 13 rfl rfl)
theorem dX0_whyNotMesh_15 : decode cX0_whyNotMesh 15 = .ok (.iconst 1, 1) := dk_4 (dk_at dksX0_whyNotMesh_0 15 rfl rfl)
theorem dX0_whyNotMesh_16 : decode cX0_whyNotMesh 16 = .ok (.ireturn, 1) := dk_172 (dk_at dksX0_whyNotMesh_0 16 rfl rfl)
theorem dX0_whyNotMesh_17 : decode cX0_whyNotMesh 17 = .ok (.iconst 0, 1) := dk_3 (dk_at dksX0_whyNotMesh_0 17 rfl rfl)
theorem dX0_whyNotMesh_18 : decode cX0_whyNotMesh 18 = .ok (.ireturn, 1) := dk_172 (dk_at dksX0_whyNotMesh_0 18 rfl rfl)
abbrev cX0_isDriven : ByteArray := method_17_code
def yX0_isDriven : MethodName := ⟨RX0, "isDriven", "(LClockworkOrreries;I[J)I"⟩
def dkwX0_isDriven_0 : List UInt8 := [44, 3, 42, 27, 182, 0, 58, 153, 0, 7, 10, 167, 0, 4, 9, 80, 167, 0, 6, 78, 4, 172, 3, 172]
abbrev dktX0_isDriven_0 : List UInt8 := dkwX0_isDriven_0 ++ []
theorem dksX0_isDriven_0 : cX0_isDriven.data.toList.drop 0 = dktX0_isDriven_0 := by decide +kernel
theorem dX0_isDriven_0 : decode cX0_isDriven 0 = .ok (.aload_n 2, 1) := dk_44 (dk_at dksX0_isDriven_0 0 rfl rfl)
theorem dX0_isDriven_1 : decode cX0_isDriven 1 = .ok (.iconst 0, 1) := dk_3 (dk_at dksX0_isDriven_0 1 rfl rfl)
theorem dX0_isDriven_2 : decode cX0_isDriven 2 = .ok (.aload_n 0, 1) := dk_42 (dk_at dksX0_isDriven_0 2 rfl rfl)
theorem dX0_isDriven_3 : decode cX0_isDriven 3 = .ok (.iload_n 1, 1) := dk_27 (dk_at dksX0_isDriven_0 3 rfl rfl)
theorem dX0_isDriven_4 : decode cX0_isDriven 4 = .ok (.invokevirtual 58, 3) := dk_182 0 58 (dk_at dksX0_isDriven_0 4 rfl rfl)
theorem dX0_isDriven_7 : decode cX0_isDriven 7 = .ok (.ifCond .eq 7, 3) := dk_153 0 7 (dk_at dksX0_isDriven_0 7 rfl rfl)
theorem dX0_isDriven_10 : decode cX0_isDriven 10 = .ok (.lconst 1, 1) := dk_10 (dk_at dksX0_isDriven_0 10 rfl rfl)
theorem dX0_isDriven_11 : decode cX0_isDriven 11 = .ok (.goto 4, 3) := dk_167 0 4 (dk_at dksX0_isDriven_0 11 rfl rfl)
theorem dX0_isDriven_14 : decode cX0_isDriven 14 = .ok (.lconst 0, 1) := dk_9 (dk_at dksX0_isDriven_0 14 rfl rfl)
theorem dX0_isDriven_15 : decode cX0_isDriven 15 = .ok (.lastore, 1) := dk_80 (dk_at dksX0_isDriven_0 15 rfl rfl)
theorem dX0_isDriven_16 : decode cX0_isDriven 16 = .ok (.goto 6, 3) := dk_167 0 6 (dk_at dksX0_isDriven_0 16 rfl rfl)
theorem dX0_isDriven_19 : decode cX0_isDriven 19 = .ok (.astore_n 3, 1) := dk_78 (dk_at dksX0_isDriven_0 19 rfl rfl)
theorem dX0_isDriven_20 : decode cX0_isDriven 20 = .ok (.iconst 1, 1) := dk_4 (dk_at dksX0_isDriven_0 20 rfl rfl)
theorem dX0_isDriven_21 : decode cX0_isDriven 21 = .ok (.ireturn, 1) := dk_172 (dk_at dksX0_isDriven_0 21 rfl rfl)
theorem dX0_isDriven_22 : decode cX0_isDriven 22 = .ok (.iconst 0, 1) := dk_3 (dk_at dksX0_isDriven_0 22 rfl rfl)
theorem dX0_isDriven_23 : decode cX0_isDriven 23 = .ok (.ireturn, 1) := dk_172 (dk_at dksX0_isDriven_0 23 rfl rfl)
abbrev cX0_wayTo : ByteArray := method_18_code
def yX0_wayTo : MethodName := ⟨RX0, "wayTo", "(LClockworkOrreries;I[J)I"⟩
def dkwX0_wayTo_0 : List UInt8 := [44, 3, 42, 27, 182, 0, 62, 133, 80, 167, 0, 9, 78, 4, 172, 78, 5, 172, 3, 172]
abbrev dktX0_wayTo_0 : List UInt8 := dkwX0_wayTo_0 ++ []
theorem dksX0_wayTo_0 : cX0_wayTo.data.toList.drop 0 = dktX0_wayTo_0 := by decide +kernel
theorem dX0_wayTo_0 : decode cX0_wayTo 0 = .ok (.aload_n 2, 1) := dk_44 (dk_at dksX0_wayTo_0 0 rfl rfl)
theorem dX0_wayTo_1 : decode cX0_wayTo 1 = .ok (.iconst 0, 1) := dk_3 (dk_at dksX0_wayTo_0 1 rfl rfl)
theorem dX0_wayTo_2 : decode cX0_wayTo 2 = .ok (.aload_n 0, 1) := dk_42 (dk_at dksX0_wayTo_0 2 rfl rfl)
theorem dX0_wayTo_3 : decode cX0_wayTo 3 = .ok (.iload_n 1, 1) := dk_27 (dk_at dksX0_wayTo_0 3 rfl rfl)
theorem dX0_wayTo_4 : decode cX0_wayTo 4 = .ok (.invokevirtual 62, 3) := dk_182 0 62 (dk_at dksX0_wayTo_0 4 rfl rfl)
theorem dX0_wayTo_7 : decode cX0_wayTo 7 = .ok (.i2l, 1) := dk_133 (dk_at dksX0_wayTo_0 7 rfl rfl)
theorem dX0_wayTo_8 : decode cX0_wayTo 8 = .ok (.lastore, 1) := dk_80 (dk_at dksX0_wayTo_0 8 rfl rfl)
theorem dX0_wayTo_9 : decode cX0_wayTo 9 = .ok (.goto 9, 3) := dk_167 0 9 (dk_at dksX0_wayTo_0 9 rfl rfl)
theorem dX0_wayTo_12 : decode cX0_wayTo 12 = .ok (.astore_n 3, 1) := dk_78 (dk_at dksX0_wayTo_0 12 rfl rfl)
theorem dX0_wayTo_13 : decode cX0_wayTo 13 = .ok (.iconst 1, 1) := dk_4 (dk_at dksX0_wayTo_0 13 rfl rfl)
theorem dX0_wayTo_14 : decode cX0_wayTo 14 = .ok (.ireturn, 1) := dk_172 (dk_at dksX0_wayTo_0 14 rfl rfl)
theorem dX0_wayTo_15 : decode cX0_wayTo 15 = .ok (.astore_n 3, 1) := dk_78 (dk_at dksX0_wayTo_0 15 rfl rfl)
theorem dX0_wayTo_16 : decode cX0_wayTo 16 = .ok (.iconst 2, 1) := dk_5 (dk_at dksX0_wayTo_0 16 rfl rfl)
theorem dX0_wayTo_17 : decode cX0_wayTo 17 = .ok (.ireturn, 1) := dk_172 (dk_at dksX0_wayTo_0 17 rfl rfl)
theorem dX0_wayTo_18 : decode cX0_wayTo 18 = .ok (.iconst 0, 1) := dk_3 (dk_at dksX0_wayTo_0 18 rfl rfl)
theorem dX0_wayTo_19 : decode cX0_wayTo 19 = .ok (.ireturn, 1) := dk_172 (dk_at dksX0_wayTo_0 19 rfl rfl)
abbrev cX0_ratioAbove : ByteArray := method_19_code
def yX0_ratioAbove : MethodName := ⟨RX0, "ratioAbove", "(LClockworkOrreries;I[J)I"⟩
def dkwX0_ratioAbove_0 : List UInt8 := [44, 3, 42, 27, 182, 0, 67, 80, 167, 0, 9, 78, 4, 172, 78, 5, 172, 3, 172]
abbrev dktX0_ratioAbove_0 : List UInt8 := dkwX0_ratioAbove_0 ++ []
theorem dksX0_ratioAbove_0 : cX0_ratioAbove.data.toList.drop 0 = dktX0_ratioAbove_0 := by decide +kernel
theorem dX0_ratioAbove_0 : decode cX0_ratioAbove 0 = .ok (.aload_n 2, 1) := dk_44 (dk_at dksX0_ratioAbove_0 0 rfl rfl)
theorem dX0_ratioAbove_1 : decode cX0_ratioAbove 1 = .ok (.iconst 0, 1) := dk_3 (dk_at dksX0_ratioAbove_0 1 rfl rfl)
theorem dX0_ratioAbove_2 : decode cX0_ratioAbove 2 = .ok (.aload_n 0, 1) := dk_42 (dk_at dksX0_ratioAbove_0 2 rfl rfl)
theorem dX0_ratioAbove_3 : decode cX0_ratioAbove 3 = .ok (.iload_n 1, 1) := dk_27 (dk_at dksX0_ratioAbove_0 3 rfl rfl)
theorem dX0_ratioAbove_4 : decode cX0_ratioAbove 4 = .ok (.invokevirtual 67, 3) := dk_182 0 67 (dk_at dksX0_ratioAbove_0 4 rfl rfl)
theorem dX0_ratioAbove_7 : decode cX0_ratioAbove 7 = .ok (.lastore, 1) := dk_80 (dk_at dksX0_ratioAbove_0 7 rfl rfl)
theorem dX0_ratioAbove_8 : decode cX0_ratioAbove 8 = .ok (.goto 9, 3) := dk_167 0 9 (dk_at dksX0_ratioAbove_0 8 rfl rfl)
theorem dX0_ratioAbove_11 : decode cX0_ratioAbove 11 = .ok (.astore_n 3, 1) := dk_78 (dk_at dksX0_ratioAbove_0 11 rfl rfl)
theorem dX0_ratioAbove_12 : decode cX0_ratioAbove 12 = .ok (.iconst 1, 1) := dk_4 (dk_at dksX0_ratioAbove_0 12 rfl rfl)
theorem dX0_ratioAbove_13 : decode cX0_ratioAbove 13 = .ok (.ireturn, 1) := dk_172 (dk_at dksX0_ratioAbove_0 13 rfl rfl)
theorem dX0_ratioAbove_14 : decode cX0_ratioAbove 14 = .ok (.astore_n 3, 1) := dk_78 (dk_at dksX0_ratioAbove_0 14 rfl rfl)
theorem dX0_ratioAbove_15 : decode cX0_ratioAbove 15 = .ok (.iconst 2, 1) := dk_5 (dk_at dksX0_ratioAbove_0 15 rfl rfl)
theorem dX0_ratioAbove_16 : decode cX0_ratioAbove 16 = .ok (.ireturn, 1) := dk_172 (dk_at dksX0_ratioAbove_0 16 rfl rfl)
theorem dX0_ratioAbove_17 : decode cX0_ratioAbove 17 = .ok (.iconst 0, 1) := dk_3 (dk_at dksX0_ratioAbove_0 17 rfl rfl)
theorem dX0_ratioAbove_18 : decode cX0_ratioAbove 18 = .ok (.ireturn, 1) := dk_172 (dk_at dksX0_ratioAbove_0 18 rfl rfl)
abbrev cX0_ratioBelow : ByteArray := method_20_code
def yX0_ratioBelow : MethodName := ⟨RX0, "ratioBelow", "(LClockworkOrreries;I[J)I"⟩
def dkwX0_ratioBelow_0 : List UInt8 := [44, 3, 42, 27, 182, 0, 71, 80, 167, 0, 9, 78, 4, 172, 78, 5, 172, 3, 172]
abbrev dktX0_ratioBelow_0 : List UInt8 := dkwX0_ratioBelow_0 ++ []
theorem dksX0_ratioBelow_0 : cX0_ratioBelow.data.toList.drop 0 = dktX0_ratioBelow_0 := by decide +kernel
theorem dX0_ratioBelow_0 : decode cX0_ratioBelow 0 = .ok (.aload_n 2, 1) := dk_44 (dk_at dksX0_ratioBelow_0 0 rfl rfl)
theorem dX0_ratioBelow_1 : decode cX0_ratioBelow 1 = .ok (.iconst 0, 1) := dk_3 (dk_at dksX0_ratioBelow_0 1 rfl rfl)
theorem dX0_ratioBelow_2 : decode cX0_ratioBelow 2 = .ok (.aload_n 0, 1) := dk_42 (dk_at dksX0_ratioBelow_0 2 rfl rfl)
theorem dX0_ratioBelow_3 : decode cX0_ratioBelow 3 = .ok (.iload_n 1, 1) := dk_27 (dk_at dksX0_ratioBelow_0 3 rfl rfl)
theorem dX0_ratioBelow_4 : decode cX0_ratioBelow 4 = .ok (.invokevirtual 71, 3) := dk_182 0 71 (dk_at dksX0_ratioBelow_0 4 rfl rfl)
theorem dX0_ratioBelow_7 : decode cX0_ratioBelow 7 = .ok (.lastore, 1) := dk_80 (dk_at dksX0_ratioBelow_0 7 rfl rfl)
theorem dX0_ratioBelow_8 : decode cX0_ratioBelow 8 = .ok (.goto 9, 3) := dk_167 0 9 (dk_at dksX0_ratioBelow_0 8 rfl rfl)
theorem dX0_ratioBelow_11 : decode cX0_ratioBelow 11 = .ok (.astore_n 3, 1) := dk_78 (dk_at dksX0_ratioBelow_0 11 rfl rfl)
theorem dX0_ratioBelow_12 : decode cX0_ratioBelow 12 = .ok (.iconst 1, 1) := dk_4 (dk_at dksX0_ratioBelow_0 12 rfl rfl)
theorem dX0_ratioBelow_13 : decode cX0_ratioBelow 13 = .ok (.ireturn, 1) := dk_172 (dk_at dksX0_ratioBelow_0 13 rfl rfl)
theorem dX0_ratioBelow_14 : decode cX0_ratioBelow 14 = .ok (.astore_n 3, 1) := dk_78 (dk_at dksX0_ratioBelow_0 14 rfl rfl)
theorem dX0_ratioBelow_15 : decode cX0_ratioBelow 15 = .ok (.iconst 2, 1) := dk_5 (dk_at dksX0_ratioBelow_0 15 rfl rfl)
theorem dX0_ratioBelow_16 : decode cX0_ratioBelow 16 = .ok (.ireturn, 1) := dk_172 (dk_at dksX0_ratioBelow_0 16 rfl rfl)
theorem dX0_ratioBelow_17 : decode cX0_ratioBelow 17 = .ok (.iconst 0, 1) := dk_3 (dk_at dksX0_ratioBelow_0 17 rfl rfl)
theorem dX0_ratioBelow_18 : decode cX0_ratioBelow 18 = .ok (.ireturn, 1) := dk_172 (dk_at dksX0_ratioBelow_0 18 rfl rfl)
abbrev cX0_isRatioByTeeth : ByteArray := method_21_code
def yX0_isRatioByTeeth : MethodName := ⟨RX0, "isRatioByTeeth", "(LClockworkOrreries;I[J)I"⟩
def dkwX0_isRatioByTeeth_1 : List UInt8 := [172, 3, 172]
abbrev dktX0_isRatioByTeeth_1 : List UInt8 := dkwX0_isRatioByTeeth_1 ++ []
def dkwX0_isRatioByTeeth_0 : List UInt8 := [44, 3, 42, 27, 182, 0, 74, 153, 0, 7, 10, 167, 0, 4, 9, 80, 167, 0, 9, 78, 4, 172, 78, 5]
abbrev dktX0_isRatioByTeeth_0 : List UInt8 := dkwX0_isRatioByTeeth_0 ++ dktX0_isRatioByTeeth_1
theorem dksX0_isRatioByTeeth_0 : cX0_isRatioByTeeth.data.toList.drop 0 = dktX0_isRatioByTeeth_0 := by decide +kernel
theorem dksX0_isRatioByTeeth_1 : cX0_isRatioByTeeth.data.toList.drop 24 = dktX0_isRatioByTeeth_1 := dk_seg dksX0_isRatioByTeeth_0 24 rfl rfl
theorem dX0_isRatioByTeeth_0 : decode cX0_isRatioByTeeth 0 = .ok (.aload_n 2, 1) := dk_44 (dk_at dksX0_isRatioByTeeth_0 0 rfl rfl)
theorem dX0_isRatioByTeeth_1 : decode cX0_isRatioByTeeth 1 = .ok (.iconst 0, 1) := dk_3 (dk_at dksX0_isRatioByTeeth_0 1 rfl rfl)
theorem dX0_isRatioByTeeth_2 : decode cX0_isRatioByTeeth 2 = .ok (.aload_n 0, 1) := dk_42 (dk_at dksX0_isRatioByTeeth_0 2 rfl rfl)
theorem dX0_isRatioByTeeth_3 : decode cX0_isRatioByTeeth 3 = .ok (.iload_n 1, 1) := dk_27 (dk_at dksX0_isRatioByTeeth_0 3 rfl rfl)
theorem dX0_isRatioByTeeth_4 : decode cX0_isRatioByTeeth 4 = .ok (.invokevirtual 74, 3) := dk_182 0 74 (dk_at dksX0_isRatioByTeeth_0 4 rfl rfl)
theorem dX0_isRatioByTeeth_7 : decode cX0_isRatioByTeeth 7 = .ok (.ifCond .eq 7, 3) := dk_153 0 7 (dk_at dksX0_isRatioByTeeth_0 7 rfl rfl)
theorem dX0_isRatioByTeeth_10 : decode cX0_isRatioByTeeth 10 = .ok (.lconst 1, 1) := dk_10 (dk_at dksX0_isRatioByTeeth_0 10 rfl rfl)
theorem dX0_isRatioByTeeth_11 : decode cX0_isRatioByTeeth 11 = .ok (.goto 4, 3) := dk_167 0 4 (dk_at dksX0_isRatioByTeeth_0 11 rfl rfl)
theorem dX0_isRatioByTeeth_14 : decode cX0_isRatioByTeeth 14 = .ok (.lconst 0, 1) := dk_9 (dk_at dksX0_isRatioByTeeth_0 14 rfl rfl)
theorem dX0_isRatioByTeeth_15 : decode cX0_isRatioByTeeth 15 = .ok (.lastore, 1) := dk_80 (dk_at dksX0_isRatioByTeeth_0 15 rfl rfl)
theorem dX0_isRatioByTeeth_16 : decode cX0_isRatioByTeeth 16 = .ok (.goto 9, 3) := dk_167 0 9 (dk_at dksX0_isRatioByTeeth_0 16 rfl rfl)
theorem dX0_isRatioByTeeth_19 : decode cX0_isRatioByTeeth 19 = .ok (.astore_n 3, 1) := dk_78 (dk_at dksX0_isRatioByTeeth_0 19 rfl rfl)
theorem dX0_isRatioByTeeth_20 : decode cX0_isRatioByTeeth 20 = .ok (.iconst 1, 1) := dk_4 (dk_at dksX0_isRatioByTeeth_0 20 rfl rfl)
theorem dX0_isRatioByTeeth_21 : decode cX0_isRatioByTeeth 21 = .ok (.ireturn, 1) := dk_172 (dk_at dksX0_isRatioByTeeth_0 21 rfl rfl)
theorem dX0_isRatioByTeeth_22 : decode cX0_isRatioByTeeth 22 = .ok (.astore_n 3, 1) := dk_78 (dk_at dksX0_isRatioByTeeth_0 22 rfl rfl)
theorem dX0_isRatioByTeeth_23 : decode cX0_isRatioByTeeth 23 = .ok (.iconst 2, 1) := dk_5 (dk_at dksX0_isRatioByTeeth_0 23 rfl rfl)
theorem dX0_isRatioByTeeth_24 : decode cX0_isRatioByTeeth 24 = .ok (.ireturn, 1) := dk_172 (dk_at dksX0_isRatioByTeeth_1 0 rfl rfl)
theorem dX0_isRatioByTeeth_25 : decode cX0_isRatioByTeeth 25 = .ok (.iconst 0, 1) := dk_3 (dk_at dksX0_isRatioByTeeth_1 1 rfl rfl)
theorem dX0_isRatioByTeeth_26 : decode cX0_isRatioByTeeth 26 = .ok (.ireturn, 1) := dk_172 (dk_at dksX0_isRatioByTeeth_1 2 rfl rfl)
abbrev cX0_turnsOf : ByteArray := method_22_code
def yX0_turnsOf : MethodName := ⟨RX0, "turnsOf", "(LClockworkOrreries;I[J)I"⟩
def dkwX0_turnsOf_0 : List UInt8 := [44, 3, 42, 27, 182, 0, 77, 80, 167, 0, 9, 78, 4, 172, 78, 5, 172, 3, 172]
abbrev dktX0_turnsOf_0 : List UInt8 := dkwX0_turnsOf_0 ++ []
theorem dksX0_turnsOf_0 : cX0_turnsOf.data.toList.drop 0 = dktX0_turnsOf_0 := by decide +kernel
theorem dX0_turnsOf_0 : decode cX0_turnsOf 0 = .ok (.aload_n 2, 1) := dk_44 (dk_at dksX0_turnsOf_0 0 rfl rfl)
theorem dX0_turnsOf_1 : decode cX0_turnsOf 1 = .ok (.iconst 0, 1) := dk_3 (dk_at dksX0_turnsOf_0 1 rfl rfl)
theorem dX0_turnsOf_2 : decode cX0_turnsOf 2 = .ok (.aload_n 0, 1) := dk_42 (dk_at dksX0_turnsOf_0 2 rfl rfl)
theorem dX0_turnsOf_3 : decode cX0_turnsOf 3 = .ok (.iload_n 1, 1) := dk_27 (dk_at dksX0_turnsOf_0 3 rfl rfl)
theorem dX0_turnsOf_4 : decode cX0_turnsOf 4 = .ok (.invokevirtual 77, 3) := dk_182 0 77 (dk_at dksX0_turnsOf_0 4 rfl rfl)
theorem dX0_turnsOf_7 : decode cX0_turnsOf 7 = .ok (.lastore, 1) := dk_80 (dk_at dksX0_turnsOf_0 7 rfl rfl)
theorem dX0_turnsOf_8 : decode cX0_turnsOf 8 = .ok (.goto 9, 3) := dk_167 0 9 (dk_at dksX0_turnsOf_0 8 rfl rfl)
theorem dX0_turnsOf_11 : decode cX0_turnsOf 11 = .ok (.astore_n 3, 1) := dk_78 (dk_at dksX0_turnsOf_0 11 rfl rfl)
theorem dX0_turnsOf_12 : decode cX0_turnsOf 12 = .ok (.iconst 1, 1) := dk_4 (dk_at dksX0_turnsOf_0 12 rfl rfl)
theorem dX0_turnsOf_13 : decode cX0_turnsOf 13 = .ok (.ireturn, 1) := dk_172 (dk_at dksX0_turnsOf_0 13 rfl rfl)
theorem dX0_turnsOf_14 : decode cX0_turnsOf 14 = .ok (.astore_n 3, 1) := dk_78 (dk_at dksX0_turnsOf_0 14 rfl rfl)
theorem dX0_turnsOf_15 : decode cX0_turnsOf 15 = .ok (.iconst 2, 1) := dk_5 (dk_at dksX0_turnsOf_0 15 rfl rfl)
theorem dX0_turnsOf_16 : decode cX0_turnsOf 16 = .ok (.ireturn, 1) := dk_172 (dk_at dksX0_turnsOf_0 16 rfl rfl)
theorem dX0_turnsOf_17 : decode cX0_turnsOf 17 = .ok (.iconst 0, 1) := dk_3 (dk_at dksX0_turnsOf_0 17 rfl rfl)
theorem dX0_turnsOf_18 : decode cX0_turnsOf 18 = .ok (.ireturn, 1) := dk_172 (dk_at dksX0_turnsOf_0 18 rfl rfl)
abbrev cX0_wheelOf : ByteArray := method_23_code
def yX0_wheelOf : MethodName := ⟨RX0, "wheelOf", "(LClockworkOrreries;IZ[J)I"⟩
def dkwX0_wheelOf_0 : List UInt8 := [45, 3, 42, 27, 28, 182, 0, 80, 133, 80, 167, 0, 7, 58, 4, 4, 172, 3, 172]
abbrev dktX0_wheelOf_0 : List UInt8 := dkwX0_wheelOf_0 ++ []
theorem dksX0_wheelOf_0 : cX0_wheelOf.data.toList.drop 0 = dktX0_wheelOf_0 := by decide +kernel
theorem dX0_wheelOf_0 : decode cX0_wheelOf 0 = .ok (.aload_n 3, 1) := dk_45 (dk_at dksX0_wheelOf_0 0 rfl rfl)
theorem dX0_wheelOf_1 : decode cX0_wheelOf 1 = .ok (.iconst 0, 1) := dk_3 (dk_at dksX0_wheelOf_0 1 rfl rfl)
theorem dX0_wheelOf_2 : decode cX0_wheelOf 2 = .ok (.aload_n 0, 1) := dk_42 (dk_at dksX0_wheelOf_0 2 rfl rfl)
theorem dX0_wheelOf_3 : decode cX0_wheelOf 3 = .ok (.iload_n 1, 1) := dk_27 (dk_at dksX0_wheelOf_0 3 rfl rfl)
theorem dX0_wheelOf_4 : decode cX0_wheelOf 4 = .ok (.iload_n 2, 1) := dk_28 (dk_at dksX0_wheelOf_0 4 rfl rfl)
theorem dX0_wheelOf_5 : decode cX0_wheelOf 5 = .ok (.invokevirtual 80, 3) := dk_182 0 80 (dk_at dksX0_wheelOf_0 5 rfl rfl)
theorem dX0_wheelOf_8 : decode cX0_wheelOf 8 = .ok (.i2l, 1) := dk_133 (dk_at dksX0_wheelOf_0 8 rfl rfl)
theorem dX0_wheelOf_9 : decode cX0_wheelOf 9 = .ok (.lastore, 1) := dk_80 (dk_at dksX0_wheelOf_0 9 rfl rfl)
theorem dX0_wheelOf_10 : decode cX0_wheelOf 10 = .ok (.goto 7, 3) := dk_167 0 7 (dk_at dksX0_wheelOf_0 10 rfl rfl)
theorem dX0_wheelOf_13 : decode cX0_wheelOf 13 = .ok (.astore 4, 2) := dk_58 4 (dk_at dksX0_wheelOf_0 13 rfl rfl)
theorem dX0_wheelOf_15 : decode cX0_wheelOf 15 = .ok (.iconst 1, 1) := dk_4 (dk_at dksX0_wheelOf_0 15 rfl rfl)
theorem dX0_wheelOf_16 : decode cX0_wheelOf 16 = .ok (.ireturn, 1) := dk_172 (dk_at dksX0_wheelOf_0 16 rfl rfl)
theorem dX0_wheelOf_17 : decode cX0_wheelOf 17 = .ok (.iconst 0, 1) := dk_3 (dk_at dksX0_wheelOf_0 17 rfl rfl)
theorem dX0_wheelOf_18 : decode cX0_wheelOf 18 = .ok (.ireturn, 1) := dk_172 (dk_at dksX0_wheelOf_0 18 rfl rfl)
abbrev cX0_sameTeethIn : ByteArray := method_24_code
def yX0_sameTeethIn : MethodName := ⟨RX0, "sameTeethIn", "(LClockworkOrreries;I[J)I"⟩
def dkwX0_sameTeethIn_0 : List UInt8 := [44, 3, 42, 27, 182, 0, 84, 133, 80, 167, 0, 6, 78, 4, 172, 3, 172]
abbrev dktX0_sameTeethIn_0 : List UInt8 := dkwX0_sameTeethIn_0 ++ []
theorem dksX0_sameTeethIn_0 : cX0_sameTeethIn.data.toList.drop 0 = dktX0_sameTeethIn_0 := by decide +kernel
theorem dX0_sameTeethIn_0 : decode cX0_sameTeethIn 0 = .ok (.aload_n 2, 1) := dk_44 (dk_at dksX0_sameTeethIn_0 0 rfl rfl)
theorem dX0_sameTeethIn_1 : decode cX0_sameTeethIn 1 = .ok (.iconst 0, 1) := dk_3 (dk_at dksX0_sameTeethIn_0 1 rfl rfl)
theorem dX0_sameTeethIn_2 : decode cX0_sameTeethIn 2 = .ok (.aload_n 0, 1) := dk_42 (dk_at dksX0_sameTeethIn_0 2 rfl rfl)
theorem dX0_sameTeethIn_3 : decode cX0_sameTeethIn 3 = .ok (.iload_n 1, 1) := dk_27 (dk_at dksX0_sameTeethIn_0 3 rfl rfl)
theorem dX0_sameTeethIn_4 : decode cX0_sameTeethIn 4 = .ok (.invokevirtual 84, 3) := dk_182 0 84 (dk_at dksX0_sameTeethIn_0 4 rfl rfl)
theorem dX0_sameTeethIn_7 : decode cX0_sameTeethIn 7 = .ok (.i2l, 1) := dk_133 (dk_at dksX0_sameTeethIn_0 7 rfl rfl)
theorem dX0_sameTeethIn_8 : decode cX0_sameTeethIn 8 = .ok (.lastore, 1) := dk_80 (dk_at dksX0_sameTeethIn_0 8 rfl rfl)
theorem dX0_sameTeethIn_9 : decode cX0_sameTeethIn 9 = .ok (.goto 6, 3) := dk_167 0 6 (dk_at dksX0_sameTeethIn_0 9 rfl rfl)
theorem dX0_sameTeethIn_12 : decode cX0_sameTeethIn 12 = .ok (.astore_n 3, 1) := dk_78 (dk_at dksX0_sameTeethIn_0 12 rfl rfl)
theorem dX0_sameTeethIn_13 : decode cX0_sameTeethIn 13 = .ok (.iconst 1, 1) := dk_4 (dk_at dksX0_sameTeethIn_0 13 rfl rfl)
theorem dX0_sameTeethIn_14 : decode cX0_sameTeethIn 14 = .ok (.ireturn, 1) := dk_172 (dk_at dksX0_sameTeethIn_0 14 rfl rfl)
theorem dX0_sameTeethIn_15 : decode cX0_sameTeethIn 15 = .ok (.iconst 0, 1) := dk_3 (dk_at dksX0_sameTeethIn_0 15 rfl rfl)
theorem dX0_sameTeethIn_16 : decode cX0_sameTeethIn 16 = .ok (.ireturn, 1) := dk_172 (dk_at dksX0_sameTeethIn_0 16 rfl rfl)
abbrev cX0_sameTeethByGoing : ByteArray := method_25_code
def yX0_sameTeethByGoing : MethodName := ⟨RX0, "sameTeethByGoing", "(LClockworkOrreries;I[J)I"⟩
def dkwX0_sameTeethByGoing_0 : List UInt8 := [44, 3, 42, 27, 182, 0, 87, 133, 80, 167, 0, 6, 78, 4, 172, 3, 172]
abbrev dktX0_sameTeethByGoing_0 : List UInt8 := dkwX0_sameTeethByGoing_0 ++ []
theorem dksX0_sameTeethByGoing_0 : cX0_sameTeethByGoing.data.toList.drop 0 = dktX0_sameTeethByGoing_0 := by decide +kernel
theorem dX0_sameTeethByGoing_0 : decode cX0_sameTeethByGoing 0 = .ok (.aload_n 2, 1) := dk_44 (dk_at dksX0_sameTeethByGoing_0 0 rfl rfl)
theorem dX0_sameTeethByGoing_1 : decode cX0_sameTeethByGoing 1 = .ok (.iconst 0, 1) := dk_3 (dk_at dksX0_sameTeethByGoing_0 1 rfl rfl)
theorem dX0_sameTeethByGoing_2 : decode cX0_sameTeethByGoing 2 = .ok (.aload_n 0, 1) := dk_42 (dk_at dksX0_sameTeethByGoing_0 2 rfl rfl)
theorem dX0_sameTeethByGoing_3 : decode cX0_sameTeethByGoing 3 = .ok (.iload_n 1, 1) := dk_27 (dk_at dksX0_sameTeethByGoing_0 3 rfl rfl)
theorem dX0_sameTeethByGoing_4 : decode cX0_sameTeethByGoing 4 = .ok (.invokevirtual 87, 3) := dk_182 0 87 (dk_at dksX0_sameTeethByGoing_0 4 rfl rfl)
theorem dX0_sameTeethByGoing_7 : decode cX0_sameTeethByGoing 7 = .ok (.i2l, 1) := dk_133 (dk_at dksX0_sameTeethByGoing_0 7 rfl rfl)
theorem dX0_sameTeethByGoing_8 : decode cX0_sameTeethByGoing 8 = .ok (.lastore, 1) := dk_80 (dk_at dksX0_sameTeethByGoing_0 8 rfl rfl)
theorem dX0_sameTeethByGoing_9 : decode cX0_sameTeethByGoing 9 = .ok (.goto 6, 3) := dk_167 0 6 (dk_at dksX0_sameTeethByGoing_0 9 rfl rfl)
theorem dX0_sameTeethByGoing_12 : decode cX0_sameTeethByGoing 12 = .ok (.astore_n 3, 1) := dk_78 (dk_at dksX0_sameTeethByGoing_0 12 rfl rfl)
theorem dX0_sameTeethByGoing_13 : decode cX0_sameTeethByGoing 13 = .ok (.iconst 1, 1) := dk_4 (dk_at dksX0_sameTeethByGoing_0 13 rfl rfl)
theorem dX0_sameTeethByGoing_14 : decode cX0_sameTeethByGoing 14 = .ok (.ireturn, 1) := dk_172 (dk_at dksX0_sameTeethByGoing_0 14 rfl rfl)
theorem dX0_sameTeethByGoing_15 : decode cX0_sameTeethByGoing 15 = .ok (.iconst 0, 1) := dk_3 (dk_at dksX0_sameTeethByGoing_0 15 rfl rfl)
theorem dX0_sameTeethByGoing_16 : decode cX0_sameTeethByGoing 16 = .ok (.ireturn, 1) := dk_172 (dk_at dksX0_sameTeethByGoing_0 16 rfl rfl)
abbrev cX0_isEven : ByteArray := method_26_code
def yX0_isEven : MethodName := ⟨RX0, "isEven", "(LClockworkOrreries;I[J)I"⟩
def dkwX0_isEven_0 : List UInt8 := [44, 3, 42, 27, 182, 0, 90, 153, 0, 7, 10, 167, 0, 4, 9, 80, 167, 0, 6, 78, 4, 172, 3, 172]
abbrev dktX0_isEven_0 : List UInt8 := dkwX0_isEven_0 ++ []
theorem dksX0_isEven_0 : cX0_isEven.data.toList.drop 0 = dktX0_isEven_0 := by decide +kernel
theorem dX0_isEven_0 : decode cX0_isEven 0 = .ok (.aload_n 2, 1) := dk_44 (dk_at dksX0_isEven_0 0 rfl rfl)
theorem dX0_isEven_1 : decode cX0_isEven 1 = .ok (.iconst 0, 1) := dk_3 (dk_at dksX0_isEven_0 1 rfl rfl)
theorem dX0_isEven_2 : decode cX0_isEven 2 = .ok (.aload_n 0, 1) := dk_42 (dk_at dksX0_isEven_0 2 rfl rfl)
theorem dX0_isEven_3 : decode cX0_isEven 3 = .ok (.iload_n 1, 1) := dk_27 (dk_at dksX0_isEven_0 3 rfl rfl)
theorem dX0_isEven_4 : decode cX0_isEven 4 = .ok (.invokevirtual 90, 3) := dk_182 0 90 (dk_at dksX0_isEven_0 4 rfl rfl)
theorem dX0_isEven_7 : decode cX0_isEven 7 = .ok (.ifCond .eq 7, 3) := dk_153 0 7 (dk_at dksX0_isEven_0 7 rfl rfl)
theorem dX0_isEven_10 : decode cX0_isEven 10 = .ok (.lconst 1, 1) := dk_10 (dk_at dksX0_isEven_0 10 rfl rfl)
theorem dX0_isEven_11 : decode cX0_isEven 11 = .ok (.goto 4, 3) := dk_167 0 4 (dk_at dksX0_isEven_0 11 rfl rfl)
theorem dX0_isEven_14 : decode cX0_isEven 14 = .ok (.lconst 0, 1) := dk_9 (dk_at dksX0_isEven_0 14 rfl rfl)
theorem dX0_isEven_15 : decode cX0_isEven 15 = .ok (.lastore, 1) := dk_80 (dk_at dksX0_isEven_0 15 rfl rfl)
theorem dX0_isEven_16 : decode cX0_isEven 16 = .ok (.goto 6, 3) := dk_167 0 6 (dk_at dksX0_isEven_0 16 rfl rfl)
theorem dX0_isEven_19 : decode cX0_isEven 19 = .ok (.astore_n 3, 1) := dk_78 (dk_at dksX0_isEven_0 19 rfl rfl)
theorem dX0_isEven_20 : decode cX0_isEven 20 = .ok (.iconst 1, 1) := dk_4 (dk_at dksX0_isEven_0 20 rfl rfl)
theorem dX0_isEven_21 : decode cX0_isEven 21 = .ok (.ireturn, 1) := dk_172 (dk_at dksX0_isEven_0 21 rfl rfl)
theorem dX0_isEven_22 : decode cX0_isEven 22 = .ok (.iconst 0, 1) := dk_3 (dk_at dksX0_isEven_0 22 rfl rfl)
theorem dX0_isEven_23 : decode cX0_isEven 23 = .ok (.ireturn, 1) := dk_172 (dk_at dksX0_isEven_0 23 rfl rfl)
abbrev cX0_teethGone : ByteArray := method_27_code
def yX0_teethGone : MethodName := ⟨RX0, "teethGone", "(LClockworkOrreries;I[J)I"⟩
def dkwX0_teethGone_0 : List UInt8 := [44, 3, 42, 27, 182, 0, 93, 80, 167, 0, 9, 78, 4, 172, 78, 5, 172, 3, 172]
abbrev dktX0_teethGone_0 : List UInt8 := dkwX0_teethGone_0 ++ []
theorem dksX0_teethGone_0 : cX0_teethGone.data.toList.drop 0 = dktX0_teethGone_0 := by decide +kernel
theorem dX0_teethGone_0 : decode cX0_teethGone 0 = .ok (.aload_n 2, 1) := dk_44 (dk_at dksX0_teethGone_0 0 rfl rfl)
theorem dX0_teethGone_1 : decode cX0_teethGone 1 = .ok (.iconst 0, 1) := dk_3 (dk_at dksX0_teethGone_0 1 rfl rfl)
theorem dX0_teethGone_2 : decode cX0_teethGone 2 = .ok (.aload_n 0, 1) := dk_42 (dk_at dksX0_teethGone_0 2 rfl rfl)
theorem dX0_teethGone_3 : decode cX0_teethGone 3 = .ok (.iload_n 1, 1) := dk_27 (dk_at dksX0_teethGone_0 3 rfl rfl)
theorem dX0_teethGone_4 : decode cX0_teethGone 4 = .ok (.invokevirtual 93, 3) := dk_182 0 93 (dk_at dksX0_teethGone_0 4 rfl rfl)
theorem dX0_teethGone_7 : decode cX0_teethGone 7 = .ok (.lastore, 1) := dk_80 (dk_at dksX0_teethGone_0 7 rfl rfl)
theorem dX0_teethGone_8 : decode cX0_teethGone 8 = .ok (.goto 9, 3) := dk_167 0 9 (dk_at dksX0_teethGone_0 8 rfl rfl)
theorem dX0_teethGone_11 : decode cX0_teethGone 11 = .ok (.astore_n 3, 1) := dk_78 (dk_at dksX0_teethGone_0 11 rfl rfl)
theorem dX0_teethGone_12 : decode cX0_teethGone 12 = .ok (.iconst 1, 1) := dk_4 (dk_at dksX0_teethGone_0 12 rfl rfl)
theorem dX0_teethGone_13 : decode cX0_teethGone 13 = .ok (.ireturn, 1) := dk_172 (dk_at dksX0_teethGone_0 13 rfl rfl)
theorem dX0_teethGone_14 : decode cX0_teethGone 14 = .ok (.astore_n 3, 1) := dk_78 (dk_at dksX0_teethGone_0 14 rfl rfl)
theorem dX0_teethGone_15 : decode cX0_teethGone 15 = .ok (.iconst 2, 1) := dk_5 (dk_at dksX0_teethGone_0 15 rfl rfl)
theorem dX0_teethGone_16 : decode cX0_teethGone 16 = .ok (.ireturn, 1) := dk_172 (dk_at dksX0_teethGone_0 16 rfl rfl)
theorem dX0_teethGone_17 : decode cX0_teethGone 17 = .ok (.iconst 0, 1) := dk_3 (dk_at dksX0_teethGone_0 17 rfl rfl)
theorem dX0_teethGone_18 : decode cX0_teethGone 18 = .ok (.ireturn, 1) := dk_172 (dk_at dksX0_teethGone_0 18 rfl rfl)
abbrev cX0_bendOf : ByteArray := method_28_code
def yX0_bendOf : MethodName := ⟨RX0, "bendOf", "(LClockworkOrreries;I[J)I"⟩
def dkwX0_bendOf_0 : List UInt8 := [44, 3, 42, 27, 182, 0, 96, 133, 80, 167, 0, 6, 78, 4, 172, 3, 172]
abbrev dktX0_bendOf_0 : List UInt8 := dkwX0_bendOf_0 ++ []
theorem dksX0_bendOf_0 : cX0_bendOf.data.toList.drop 0 = dktX0_bendOf_0 := by decide +kernel
theorem dX0_bendOf_0 : decode cX0_bendOf 0 = .ok (.aload_n 2, 1) := dk_44 (dk_at dksX0_bendOf_0 0 rfl rfl)
theorem dX0_bendOf_1 : decode cX0_bendOf 1 = .ok (.iconst 0, 1) := dk_3 (dk_at dksX0_bendOf_0 1 rfl rfl)
theorem dX0_bendOf_2 : decode cX0_bendOf 2 = .ok (.aload_n 0, 1) := dk_42 (dk_at dksX0_bendOf_0 2 rfl rfl)
theorem dX0_bendOf_3 : decode cX0_bendOf 3 = .ok (.iload_n 1, 1) := dk_27 (dk_at dksX0_bendOf_0 3 rfl rfl)
theorem dX0_bendOf_4 : decode cX0_bendOf 4 = .ok (.invokevirtual 96, 3) := dk_182 0 96 (dk_at dksX0_bendOf_0 4 rfl rfl)
theorem dX0_bendOf_7 : decode cX0_bendOf 7 = .ok (.i2l, 1) := dk_133 (dk_at dksX0_bendOf_0 7 rfl rfl)
theorem dX0_bendOf_8 : decode cX0_bendOf 8 = .ok (.lastore, 1) := dk_80 (dk_at dksX0_bendOf_0 8 rfl rfl)
theorem dX0_bendOf_9 : decode cX0_bendOf 9 = .ok (.goto 6, 3) := dk_167 0 6 (dk_at dksX0_bendOf_0 9 rfl rfl)
theorem dX0_bendOf_12 : decode cX0_bendOf 12 = .ok (.astore_n 3, 1) := dk_78 (dk_at dksX0_bendOf_0 12 rfl rfl)
theorem dX0_bendOf_13 : decode cX0_bendOf 13 = .ok (.iconst 1, 1) := dk_4 (dk_at dksX0_bendOf_0 13 rfl rfl)
theorem dX0_bendOf_14 : decode cX0_bendOf 14 = .ok (.ireturn, 1) := dk_172 (dk_at dksX0_bendOf_0 14 rfl rfl)
theorem dX0_bendOf_15 : decode cX0_bendOf 15 = .ok (.iconst 0, 1) := dk_3 (dk_at dksX0_bendOf_0 15 rfl rfl)
theorem dX0_bendOf_16 : decode cX0_bendOf 16 = .ok (.ireturn, 1) := dk_172 (dk_at dksX0_bendOf_0 16 rfl rfl)
abbrev cX0_angleOf : ByteArray := method_29_code
def yX0_angleOf : MethodName := ⟨RX0, "angleOf", "(LClockworkOrreries;I[J)I"⟩
def dkwX0_angleOf_0 : List UInt8 := [44, 3, 42, 27, 182, 0, 99, 133, 80, 167, 0, 9, 78, 4, 172, 78, 5, 172, 3, 172]
abbrev dktX0_angleOf_0 : List UInt8 := dkwX0_angleOf_0 ++ []
theorem dksX0_angleOf_0 : cX0_angleOf.data.toList.drop 0 = dktX0_angleOf_0 := by decide +kernel
theorem dX0_angleOf_0 : decode cX0_angleOf 0 = .ok (.aload_n 2, 1) := dk_44 (dk_at dksX0_angleOf_0 0 rfl rfl)
theorem dX0_angleOf_1 : decode cX0_angleOf 1 = .ok (.iconst 0, 1) := dk_3 (dk_at dksX0_angleOf_0 1 rfl rfl)
theorem dX0_angleOf_2 : decode cX0_angleOf 2 = .ok (.aload_n 0, 1) := dk_42 (dk_at dksX0_angleOf_0 2 rfl rfl)
theorem dX0_angleOf_3 : decode cX0_angleOf 3 = .ok (.iload_n 1, 1) := dk_27 (dk_at dksX0_angleOf_0 3 rfl rfl)
theorem dX0_angleOf_4 : decode cX0_angleOf 4 = .ok (.invokevirtual 99, 3) := dk_182 0 99 (dk_at dksX0_angleOf_0 4 rfl rfl)
theorem dX0_angleOf_7 : decode cX0_angleOf 7 = .ok (.i2l, 1) := dk_133 (dk_at dksX0_angleOf_0 7 rfl rfl)
theorem dX0_angleOf_8 : decode cX0_angleOf 8 = .ok (.lastore, 1) := dk_80 (dk_at dksX0_angleOf_0 8 rfl rfl)
theorem dX0_angleOf_9 : decode cX0_angleOf 9 = .ok (.goto 9, 3) := dk_167 0 9 (dk_at dksX0_angleOf_0 9 rfl rfl)
theorem dX0_angleOf_12 : decode cX0_angleOf 12 = .ok (.astore_n 3, 1) := dk_78 (dk_at dksX0_angleOf_0 12 rfl rfl)
theorem dX0_angleOf_13 : decode cX0_angleOf 13 = .ok (.iconst 1, 1) := dk_4 (dk_at dksX0_angleOf_0 13 rfl rfl)
theorem dX0_angleOf_14 : decode cX0_angleOf 14 = .ok (.ireturn, 1) := dk_172 (dk_at dksX0_angleOf_0 14 rfl rfl)
theorem dX0_angleOf_15 : decode cX0_angleOf 15 = .ok (.astore_n 3, 1) := dk_78 (dk_at dksX0_angleOf_0 15 rfl rfl)
theorem dX0_angleOf_16 : decode cX0_angleOf 16 = .ok (.iconst 2, 1) := dk_5 (dk_at dksX0_angleOf_0 16 rfl rfl)
theorem dX0_angleOf_17 : decode cX0_angleOf 17 = .ok (.ireturn, 1) := dk_172 (dk_at dksX0_angleOf_0 17 rfl rfl)
theorem dX0_angleOf_18 : decode cX0_angleOf 18 = .ok (.iconst 0, 1) := dk_3 (dk_at dksX0_angleOf_0 18 rfl rfl)
theorem dX0_angleOf_19 : decode cX0_angleOf 19 = .ok (.ireturn, 1) := dk_172 (dk_at dksX0_angleOf_0 19 rfl rfl)
abbrev cX0_angleByTeeth : ByteArray := method_30_code
def yX0_angleByTeeth : MethodName := ⟨RX0, "angleByTeeth", "(LClockworkOrreries;I[J)I"⟩
def dkwX0_angleByTeeth_0 : List UInt8 := [44, 3, 42, 27, 182, 0, 102, 133, 80, 167, 0, 9, 78, 4, 172, 78, 5, 172, 3, 172]
abbrev dktX0_angleByTeeth_0 : List UInt8 := dkwX0_angleByTeeth_0 ++ []
theorem dksX0_angleByTeeth_0 : cX0_angleByTeeth.data.toList.drop 0 = dktX0_angleByTeeth_0 := by decide +kernel
theorem dX0_angleByTeeth_0 : decode cX0_angleByTeeth 0 = .ok (.aload_n 2, 1) := dk_44 (dk_at dksX0_angleByTeeth_0 0 rfl rfl)
theorem dX0_angleByTeeth_1 : decode cX0_angleByTeeth 1 = .ok (.iconst 0, 1) := dk_3 (dk_at dksX0_angleByTeeth_0 1 rfl rfl)
theorem dX0_angleByTeeth_2 : decode cX0_angleByTeeth 2 = .ok (.aload_n 0, 1) := dk_42 (dk_at dksX0_angleByTeeth_0 2 rfl rfl)
theorem dX0_angleByTeeth_3 : decode cX0_angleByTeeth 3 = .ok (.iload_n 1, 1) := dk_27 (dk_at dksX0_angleByTeeth_0 3 rfl rfl)
theorem dX0_angleByTeeth_4 : decode cX0_angleByTeeth 4 = .ok (.invokevirtual 102, 3) := dk_182 0 102 (dk_at dksX0_angleByTeeth_0 4 rfl rfl)
theorem dX0_angleByTeeth_7 : decode cX0_angleByTeeth 7 = .ok (.i2l, 1) := dk_133 (dk_at dksX0_angleByTeeth_0 7 rfl rfl)
theorem dX0_angleByTeeth_8 : decode cX0_angleByTeeth 8 = .ok (.lastore, 1) := dk_80 (dk_at dksX0_angleByTeeth_0 8 rfl rfl)
theorem dX0_angleByTeeth_9 : decode cX0_angleByTeeth 9 = .ok (.goto 9, 3) := dk_167 0 9 (dk_at dksX0_angleByTeeth_0 9 rfl rfl)
theorem dX0_angleByTeeth_12 : decode cX0_angleByTeeth 12 = .ok (.astore_n 3, 1) := dk_78 (dk_at dksX0_angleByTeeth_0 12 rfl rfl)
theorem dX0_angleByTeeth_13 : decode cX0_angleByTeeth 13 = .ok (.iconst 1, 1) := dk_4 (dk_at dksX0_angleByTeeth_0 13 rfl rfl)
theorem dX0_angleByTeeth_14 : decode cX0_angleByTeeth 14 = .ok (.ireturn, 1) := dk_172 (dk_at dksX0_angleByTeeth_0 14 rfl rfl)
theorem dX0_angleByTeeth_15 : decode cX0_angleByTeeth 15 = .ok (.astore_n 3, 1) := dk_78 (dk_at dksX0_angleByTeeth_0 15 rfl rfl)
theorem dX0_angleByTeeth_16 : decode cX0_angleByTeeth 16 = .ok (.iconst 2, 1) := dk_5 (dk_at dksX0_angleByTeeth_0 16 rfl rfl)
theorem dX0_angleByTeeth_17 : decode cX0_angleByTeeth 17 = .ok (.ireturn, 1) := dk_172 (dk_at dksX0_angleByTeeth_0 17 rfl rfl)
theorem dX0_angleByTeeth_18 : decode cX0_angleByTeeth 18 = .ok (.iconst 0, 1) := dk_3 (dk_at dksX0_angleByTeeth_0 18 rfl rfl)
theorem dX0_angleByTeeth_19 : decode cX0_angleByTeeth 19 = .ok (.ireturn, 1) := dk_172 (dk_at dksX0_angleByTeeth_0 19 rfl rfl)
abbrev cX0_moonAngle : ByteArray := method_31_code
def yX0_moonAngle : MethodName := ⟨RX0, "moonAngle", "(LClockworkOrreries;I[J)I"⟩
def dkwX0_moonAngle_0 : List UInt8 := [44, 3, 42, 27, 182, 0, 105, 133, 80, 167, 0, 9, 78, 4, 172, 78, 5, 172, 3, 172]
abbrev dktX0_moonAngle_0 : List UInt8 := dkwX0_moonAngle_0 ++ []
theorem dksX0_moonAngle_0 : cX0_moonAngle.data.toList.drop 0 = dktX0_moonAngle_0 := by decide +kernel
theorem dX0_moonAngle_0 : decode cX0_moonAngle 0 = .ok (.aload_n 2, 1) := dk_44 (dk_at dksX0_moonAngle_0 0 rfl rfl)
theorem dX0_moonAngle_1 : decode cX0_moonAngle 1 = .ok (.iconst 0, 1) := dk_3 (dk_at dksX0_moonAngle_0 1 rfl rfl)
theorem dX0_moonAngle_2 : decode cX0_moonAngle 2 = .ok (.aload_n 0, 1) := dk_42 (dk_at dksX0_moonAngle_0 2 rfl rfl)
theorem dX0_moonAngle_3 : decode cX0_moonAngle 3 = .ok (.iload_n 1, 1) := dk_27 (dk_at dksX0_moonAngle_0 3 rfl rfl)
theorem dX0_moonAngle_4 : decode cX0_moonAngle 4 = .ok (.invokevirtual 105, 3) := dk_182 0 105 (dk_at dksX0_moonAngle_0 4 rfl rfl)
theorem dX0_moonAngle_7 : decode cX0_moonAngle 7 = .ok (.i2l, 1) := dk_133 (dk_at dksX0_moonAngle_0 7 rfl rfl)
theorem dX0_moonAngle_8 : decode cX0_moonAngle 8 = .ok (.lastore, 1) := dk_80 (dk_at dksX0_moonAngle_0 8 rfl rfl)
theorem dX0_moonAngle_9 : decode cX0_moonAngle 9 = .ok (.goto 9, 3) := dk_167 0 9 (dk_at dksX0_moonAngle_0 9 rfl rfl)
theorem dX0_moonAngle_12 : decode cX0_moonAngle 12 = .ok (.astore_n 3, 1) := dk_78 (dk_at dksX0_moonAngle_0 12 rfl rfl)
theorem dX0_moonAngle_13 : decode cX0_moonAngle 13 = .ok (.iconst 1, 1) := dk_4 (dk_at dksX0_moonAngle_0 13 rfl rfl)
theorem dX0_moonAngle_14 : decode cX0_moonAngle 14 = .ok (.ireturn, 1) := dk_172 (dk_at dksX0_moonAngle_0 14 rfl rfl)
theorem dX0_moonAngle_15 : decode cX0_moonAngle 15 = .ok (.astore_n 3, 1) := dk_78 (dk_at dksX0_moonAngle_0 15 rfl rfl)
theorem dX0_moonAngle_16 : decode cX0_moonAngle 16 = .ok (.iconst 2, 1) := dk_5 (dk_at dksX0_moonAngle_0 16 rfl rfl)
theorem dX0_moonAngle_17 : decode cX0_moonAngle 17 = .ok (.ireturn, 1) := dk_172 (dk_at dksX0_moonAngle_0 17 rfl rfl)
theorem dX0_moonAngle_18 : decode cX0_moonAngle 18 = .ok (.iconst 0, 1) := dk_3 (dk_at dksX0_moonAngle_0 18 rfl rfl)
theorem dX0_moonAngle_19 : decode cX0_moonAngle 19 = .ok (.ireturn, 1) := dk_172 (dk_at dksX0_moonAngle_0 19 rfl rfl)
abbrev cX0_isSlow : ByteArray := method_32_code
def yX0_isSlow : MethodName := ⟨RX0, "isSlow", "(LClockworkOrreries;I[J)I"⟩
def dkwX0_isSlow_1 : List UInt8 := [172, 3, 172]
abbrev dktX0_isSlow_1 : List UInt8 := dkwX0_isSlow_1 ++ []
def dkwX0_isSlow_0 : List UInt8 := [44, 3, 42, 27, 182, 0, 108, 153, 0, 7, 10, 167, 0, 4, 9, 80, 167, 0, 9, 78, 4, 172, 78, 5]
abbrev dktX0_isSlow_0 : List UInt8 := dkwX0_isSlow_0 ++ dktX0_isSlow_1
theorem dksX0_isSlow_0 : cX0_isSlow.data.toList.drop 0 = dktX0_isSlow_0 := by decide +kernel
theorem dksX0_isSlow_1 : cX0_isSlow.data.toList.drop 24 = dktX0_isSlow_1 := dk_seg dksX0_isSlow_0 24 rfl rfl
theorem dX0_isSlow_0 : decode cX0_isSlow 0 = .ok (.aload_n 2, 1) := dk_44 (dk_at dksX0_isSlow_0 0 rfl rfl)
theorem dX0_isSlow_1 : decode cX0_isSlow 1 = .ok (.iconst 0, 1) := dk_3 (dk_at dksX0_isSlow_0 1 rfl rfl)
theorem dX0_isSlow_2 : decode cX0_isSlow 2 = .ok (.aload_n 0, 1) := dk_42 (dk_at dksX0_isSlow_0 2 rfl rfl)
theorem dX0_isSlow_3 : decode cX0_isSlow 3 = .ok (.iload_n 1, 1) := dk_27 (dk_at dksX0_isSlow_0 3 rfl rfl)
theorem dX0_isSlow_4 : decode cX0_isSlow 4 = .ok (.invokevirtual 108, 3) := dk_182 0 108 (dk_at dksX0_isSlow_0 4 rfl rfl)
theorem dX0_isSlow_7 : decode cX0_isSlow 7 = .ok (.ifCond .eq 7, 3) := dk_153 0 7 (dk_at dksX0_isSlow_0 7 rfl rfl)
theorem dX0_isSlow_10 : decode cX0_isSlow 10 = .ok (.lconst 1, 1) := dk_10 (dk_at dksX0_isSlow_0 10 rfl rfl)
theorem dX0_isSlow_11 : decode cX0_isSlow 11 = .ok (.goto 4, 3) := dk_167 0 4 (dk_at dksX0_isSlow_0 11 rfl rfl)
theorem dX0_isSlow_14 : decode cX0_isSlow 14 = .ok (.lconst 0, 1) := dk_9 (dk_at dksX0_isSlow_0 14 rfl rfl)
theorem dX0_isSlow_15 : decode cX0_isSlow 15 = .ok (.lastore, 1) := dk_80 (dk_at dksX0_isSlow_0 15 rfl rfl)
theorem dX0_isSlow_16 : decode cX0_isSlow 16 = .ok (.goto 9, 3) := dk_167 0 9 (dk_at dksX0_isSlow_0 16 rfl rfl)
theorem dX0_isSlow_19 : decode cX0_isSlow 19 = .ok (.astore_n 3, 1) := dk_78 (dk_at dksX0_isSlow_0 19 rfl rfl)
theorem dX0_isSlow_20 : decode cX0_isSlow 20 = .ok (.iconst 1, 1) := dk_4 (dk_at dksX0_isSlow_0 20 rfl rfl)
theorem dX0_isSlow_21 : decode cX0_isSlow 21 = .ok (.ireturn, 1) := dk_172 (dk_at dksX0_isSlow_0 21 rfl rfl)
theorem dX0_isSlow_22 : decode cX0_isSlow 22 = .ok (.astore_n 3, 1) := dk_78 (dk_at dksX0_isSlow_0 22 rfl rfl)
theorem dX0_isSlow_23 : decode cX0_isSlow 23 = .ok (.iconst 2, 1) := dk_5 (dk_at dksX0_isSlow_0 23 rfl rfl)
theorem dX0_isSlow_24 : decode cX0_isSlow 24 = .ok (.ireturn, 1) := dk_172 (dk_at dksX0_isSlow_1 0 rfl rfl)
theorem dX0_isSlow_25 : decode cX0_isSlow 25 = .ok (.iconst 0, 1) := dk_3 (dk_at dksX0_isSlow_1 1 rfl rfl)
theorem dX0_isSlow_26 : decode cX0_isSlow 26 = .ok (.ireturn, 1) := dk_172 (dk_at dksX0_isSlow_1 2 rfl rfl)
abbrev cX0_meetIn : ByteArray := method_33_code
def yX0_meetIn : MethodName := ⟨RX0, "meetIn", "(LClockworkOrreries;III[J)I"⟩
def dkwX0_meetIn_1 : List UInt8 := [172]
abbrev dktX0_meetIn_1 : List UInt8 := dkwX0_meetIn_1 ++ []
def dkwX0_meetIn_0 : List UInt8 := [25, 4, 3, 42, 27, 28, 29, 182, 0, 111, 133, 80, 167, 0, 11, 58, 5, 4, 172, 58, 5, 5, 172, 3]
abbrev dktX0_meetIn_0 : List UInt8 := dkwX0_meetIn_0 ++ dktX0_meetIn_1
theorem dksX0_meetIn_0 : cX0_meetIn.data.toList.drop 0 = dktX0_meetIn_0 := by decide +kernel
theorem dksX0_meetIn_1 : cX0_meetIn.data.toList.drop 24 = dktX0_meetIn_1 := dk_seg dksX0_meetIn_0 24 rfl rfl
theorem dX0_meetIn_0 : decode cX0_meetIn 0 = .ok (.aload 4, 2) := dk_25 4 (dk_at dksX0_meetIn_0 0 rfl rfl)
theorem dX0_meetIn_2 : decode cX0_meetIn 2 = .ok (.iconst 0, 1) := dk_3 (dk_at dksX0_meetIn_0 2 rfl rfl)
theorem dX0_meetIn_3 : decode cX0_meetIn 3 = .ok (.aload_n 0, 1) := dk_42 (dk_at dksX0_meetIn_0 3 rfl rfl)
theorem dX0_meetIn_4 : decode cX0_meetIn 4 = .ok (.iload_n 1, 1) := dk_27 (dk_at dksX0_meetIn_0 4 rfl rfl)
theorem dX0_meetIn_5 : decode cX0_meetIn 5 = .ok (.iload_n 2, 1) := dk_28 (dk_at dksX0_meetIn_0 5 rfl rfl)
theorem dX0_meetIn_6 : decode cX0_meetIn 6 = .ok (.iload_n 3, 1) := dk_29 (dk_at dksX0_meetIn_0 6 rfl rfl)
theorem dX0_meetIn_7 : decode cX0_meetIn 7 = .ok (.invokevirtual 111, 3) := dk_182 0 111 (dk_at dksX0_meetIn_0 7 rfl rfl)
theorem dX0_meetIn_10 : decode cX0_meetIn 10 = .ok (.i2l, 1) := dk_133 (dk_at dksX0_meetIn_0 10 rfl rfl)
theorem dX0_meetIn_11 : decode cX0_meetIn 11 = .ok (.lastore, 1) := dk_80 (dk_at dksX0_meetIn_0 11 rfl rfl)
theorem dX0_meetIn_12 : decode cX0_meetIn 12 = .ok (.goto 11, 3) := dk_167 0 11 (dk_at dksX0_meetIn_0 12 rfl rfl)
theorem dX0_meetIn_15 : decode cX0_meetIn 15 = .ok (.astore 5, 2) := dk_58 5 (dk_at dksX0_meetIn_0 15 rfl rfl)
theorem dX0_meetIn_17 : decode cX0_meetIn 17 = .ok (.iconst 1, 1) := dk_4 (dk_at dksX0_meetIn_0 17 rfl rfl)
theorem dX0_meetIn_18 : decode cX0_meetIn 18 = .ok (.ireturn, 1) := dk_172 (dk_at dksX0_meetIn_0 18 rfl rfl)
theorem dX0_meetIn_19 : decode cX0_meetIn 19 = .ok (.astore 5, 2) := dk_58 5 (dk_at dksX0_meetIn_0 19 rfl rfl)
theorem dX0_meetIn_21 : decode cX0_meetIn 21 = .ok (.iconst 2, 1) := dk_5 (dk_at dksX0_meetIn_0 21 rfl rfl)
theorem dX0_meetIn_22 : decode cX0_meetIn 22 = .ok (.ireturn, 1) := dk_172 (dk_at dksX0_meetIn_0 22 rfl rfl)
theorem dX0_meetIn_23 : decode cX0_meetIn 23 = .ok (.iconst 0, 1) := dk_3 (dk_at dksX0_meetIn_0 23 rfl rfl)
theorem dX0_meetIn_24 : decode cX0_meetIn 24 = .ok (.ireturn, 1) := dk_172 (dk_at dksX0_meetIn_1 0 rfl rfl)
abbrev cX0_meetings : ByteArray := method_34_code
def yX0_meetings : MethodName := ⟨RX0, "meetings", "(LClockworkOrreries;III[J)I"⟩
def dkwX0_meetings_1 : List UInt8 := [172]
abbrev dktX0_meetings_1 : List UInt8 := dkwX0_meetings_1 ++ []
def dkwX0_meetings_0 : List UInt8 := [25, 4, 3, 42, 27, 28, 29, 182, 0, 115, 133, 80, 167, 0, 11, 58, 5, 4, 172, 58, 5, 5, 172, 3]
abbrev dktX0_meetings_0 : List UInt8 := dkwX0_meetings_0 ++ dktX0_meetings_1
theorem dksX0_meetings_0 : cX0_meetings.data.toList.drop 0 = dktX0_meetings_0 := by decide +kernel
theorem dksX0_meetings_1 : cX0_meetings.data.toList.drop 24 = dktX0_meetings_1 := dk_seg dksX0_meetings_0 24 rfl rfl
theorem dX0_meetings_0 : decode cX0_meetings 0 = .ok (.aload 4, 2) := dk_25 4 (dk_at dksX0_meetings_0 0 rfl rfl)
theorem dX0_meetings_2 : decode cX0_meetings 2 = .ok (.iconst 0, 1) := dk_3 (dk_at dksX0_meetings_0 2 rfl rfl)
theorem dX0_meetings_3 : decode cX0_meetings 3 = .ok (.aload_n 0, 1) := dk_42 (dk_at dksX0_meetings_0 3 rfl rfl)
theorem dX0_meetings_4 : decode cX0_meetings 4 = .ok (.iload_n 1, 1) := dk_27 (dk_at dksX0_meetings_0 4 rfl rfl)
theorem dX0_meetings_5 : decode cX0_meetings 5 = .ok (.iload_n 2, 1) := dk_28 (dk_at dksX0_meetings_0 5 rfl rfl)
theorem dX0_meetings_6 : decode cX0_meetings 6 = .ok (.iload_n 3, 1) := dk_29 (dk_at dksX0_meetings_0 6 rfl rfl)
theorem dX0_meetings_7 : decode cX0_meetings 7 = .ok (.invokevirtual 115, 3) := dk_182 0 115 (dk_at dksX0_meetings_0 7 rfl rfl)
theorem dX0_meetings_10 : decode cX0_meetings 10 = .ok (.i2l, 1) := dk_133 (dk_at dksX0_meetings_0 10 rfl rfl)
theorem dX0_meetings_11 : decode cX0_meetings 11 = .ok (.lastore, 1) := dk_80 (dk_at dksX0_meetings_0 11 rfl rfl)
theorem dX0_meetings_12 : decode cX0_meetings 12 = .ok (.goto 11, 3) := dk_167 0 11 (dk_at dksX0_meetings_0 12 rfl rfl)
theorem dX0_meetings_15 : decode cX0_meetings 15 = .ok (.astore 5, 2) := dk_58 5 (dk_at dksX0_meetings_0 15 rfl rfl)
theorem dX0_meetings_17 : decode cX0_meetings 17 = .ok (.iconst 1, 1) := dk_4 (dk_at dksX0_meetings_0 17 rfl rfl)
theorem dX0_meetings_18 : decode cX0_meetings 18 = .ok (.ireturn, 1) := dk_172 (dk_at dksX0_meetings_0 18 rfl rfl)
theorem dX0_meetings_19 : decode cX0_meetings 19 = .ok (.astore 5, 2) := dk_58 5 (dk_at dksX0_meetings_0 19 rfl rfl)
theorem dX0_meetings_21 : decode cX0_meetings 21 = .ok (.iconst 2, 1) := dk_5 (dk_at dksX0_meetings_0 21 rfl rfl)
theorem dX0_meetings_22 : decode cX0_meetings 22 = .ok (.ireturn, 1) := dk_172 (dk_at dksX0_meetings_0 22 rfl rfl)
theorem dX0_meetings_23 : decode cX0_meetings 23 = .ok (.iconst 0, 1) := dk_3 (dk_at dksX0_meetings_0 23 rfl rfl)
theorem dX0_meetings_24 : decode cX0_meetings 24 = .ok (.ireturn, 1) := dk_172 (dk_at dksX0_meetings_1 0 rfl rfl)
abbrev cX0_differenceAbove : ByteArray := method_35_code
def yX0_differenceAbove : MethodName := ⟨RX0, "differenceAbove", "(LClockworkOrreries;II[J)I"⟩
def dkwX0_differenceAbove_0 : List UInt8 := [45, 3, 42, 27, 28, 182, 0, 118, 80, 167, 0, 11, 58, 4, 4, 172, 58, 4, 5, 172, 3, 172]
abbrev dktX0_differenceAbove_0 : List UInt8 := dkwX0_differenceAbove_0 ++ []
theorem dksX0_differenceAbove_0 : cX0_differenceAbove.data.toList.drop 0 = dktX0_differenceAbove_0 := by decide +kernel
theorem dX0_differenceAbove_0 : decode cX0_differenceAbove 0 = .ok (.aload_n 3, 1) := dk_45 (dk_at dksX0_differenceAbove_0 0 rfl rfl)
theorem dX0_differenceAbove_1 : decode cX0_differenceAbove 1 = .ok (.iconst 0, 1) := dk_3 (dk_at dksX0_differenceAbove_0 1 rfl rfl)
theorem dX0_differenceAbove_2 : decode cX0_differenceAbove 2 = .ok (.aload_n 0, 1) := dk_42 (dk_at dksX0_differenceAbove_0 2 rfl rfl)
theorem dX0_differenceAbove_3 : decode cX0_differenceAbove 3 = .ok (.iload_n 1, 1) := dk_27 (dk_at dksX0_differenceAbove_0 3 rfl rfl)
theorem dX0_differenceAbove_4 : decode cX0_differenceAbove 4 = .ok (.iload_n 2, 1) := dk_28 (dk_at dksX0_differenceAbove_0 4 rfl rfl)
theorem dX0_differenceAbove_5 : decode cX0_differenceAbove 5 = .ok (.invokevirtual 118, 3) := dk_182 0 118 (dk_at dksX0_differenceAbove_0 5 rfl rfl)
theorem dX0_differenceAbove_8 : decode cX0_differenceAbove 8 = .ok (.lastore, 1) := dk_80 (dk_at dksX0_differenceAbove_0 8 rfl rfl)
theorem dX0_differenceAbove_9 : decode cX0_differenceAbove 9 = .ok (.goto 11, 3) := dk_167 0 11 (dk_at dksX0_differenceAbove_0 9 rfl rfl)
theorem dX0_differenceAbove_12 : decode cX0_differenceAbove 12 = .ok (.astore 4, 2) := dk_58 4 (dk_at dksX0_differenceAbove_0 12 rfl rfl)
theorem dX0_differenceAbove_14 : decode cX0_differenceAbove 14 = .ok (.iconst 1, 1) := dk_4 (dk_at dksX0_differenceAbove_0 14 rfl rfl)
theorem dX0_differenceAbove_15 : decode cX0_differenceAbove 15 = .ok (.ireturn, 1) := dk_172 (dk_at dksX0_differenceAbove_0 15 rfl rfl)
theorem dX0_differenceAbove_16 : decode cX0_differenceAbove 16 = .ok (.astore 4, 2) := dk_58 4 (dk_at dksX0_differenceAbove_0 16 rfl rfl)
theorem dX0_differenceAbove_18 : decode cX0_differenceAbove 18 = .ok (.iconst 2, 1) := dk_5 (dk_at dksX0_differenceAbove_0 18 rfl rfl)
theorem dX0_differenceAbove_19 : decode cX0_differenceAbove 19 = .ok (.ireturn, 1) := dk_172 (dk_at dksX0_differenceAbove_0 19 rfl rfl)
theorem dX0_differenceAbove_20 : decode cX0_differenceAbove 20 = .ok (.iconst 0, 1) := dk_3 (dk_at dksX0_differenceAbove_0 20 rfl rfl)
theorem dX0_differenceAbove_21 : decode cX0_differenceAbove 21 = .ok (.ireturn, 1) := dk_172 (dk_at dksX0_differenceAbove_0 21 rfl rfl)
abbrev cX0_comeBackIn : ByteArray := method_36_code
def yX0_comeBackIn : MethodName := ⟨RX0, "comeBackIn", "(LClockworkOrreries;II[J)I"⟩
def dkwX0_comeBackIn_0 : List UInt8 := [45, 3, 42, 27, 28, 182, 0, 122, 80, 167, 0, 11, 58, 4, 4, 172, 58, 4, 5, 172, 3, 172]
abbrev dktX0_comeBackIn_0 : List UInt8 := dkwX0_comeBackIn_0 ++ []
theorem dksX0_comeBackIn_0 : cX0_comeBackIn.data.toList.drop 0 = dktX0_comeBackIn_0 := by decide +kernel
theorem dX0_comeBackIn_0 : decode cX0_comeBackIn 0 = .ok (.aload_n 3, 1) := dk_45 (dk_at dksX0_comeBackIn_0 0 rfl rfl)
theorem dX0_comeBackIn_1 : decode cX0_comeBackIn 1 = .ok (.iconst 0, 1) := dk_3 (dk_at dksX0_comeBackIn_0 1 rfl rfl)
theorem dX0_comeBackIn_2 : decode cX0_comeBackIn 2 = .ok (.aload_n 0, 1) := dk_42 (dk_at dksX0_comeBackIn_0 2 rfl rfl)
theorem dX0_comeBackIn_3 : decode cX0_comeBackIn 3 = .ok (.iload_n 1, 1) := dk_27 (dk_at dksX0_comeBackIn_0 3 rfl rfl)
theorem dX0_comeBackIn_4 : decode cX0_comeBackIn 4 = .ok (.iload_n 2, 1) := dk_28 (dk_at dksX0_comeBackIn_0 4 rfl rfl)
theorem dX0_comeBackIn_5 : decode cX0_comeBackIn 5 = .ok (.invokevirtual 122, 3) := dk_182 0 122 (dk_at dksX0_comeBackIn_0 5 rfl rfl)
theorem dX0_comeBackIn_8 : decode cX0_comeBackIn 8 = .ok (.lastore, 1) := dk_80 (dk_at dksX0_comeBackIn_0 8 rfl rfl)
theorem dX0_comeBackIn_9 : decode cX0_comeBackIn 9 = .ok (.goto 11, 3) := dk_167 0 11 (dk_at dksX0_comeBackIn_0 9 rfl rfl)
theorem dX0_comeBackIn_12 : decode cX0_comeBackIn 12 = .ok (.astore 4, 2) := dk_58 4 (dk_at dksX0_comeBackIn_0 12 rfl rfl)
theorem dX0_comeBackIn_14 : decode cX0_comeBackIn 14 = .ok (.iconst 1, 1) := dk_4 (dk_at dksX0_comeBackIn_0 14 rfl rfl)
theorem dX0_comeBackIn_15 : decode cX0_comeBackIn 15 = .ok (.ireturn, 1) := dk_172 (dk_at dksX0_comeBackIn_0 15 rfl rfl)
theorem dX0_comeBackIn_16 : decode cX0_comeBackIn 16 = .ok (.astore 4, 2) := dk_58 4 (dk_at dksX0_comeBackIn_0 16 rfl rfl)
theorem dX0_comeBackIn_18 : decode cX0_comeBackIn 18 = .ok (.iconst 2, 1) := dk_5 (dk_at dksX0_comeBackIn_0 18 rfl rfl)
theorem dX0_comeBackIn_19 : decode cX0_comeBackIn 19 = .ok (.ireturn, 1) := dk_172 (dk_at dksX0_comeBackIn_0 19 rfl rfl)
theorem dX0_comeBackIn_20 : decode cX0_comeBackIn 20 = .ok (.iconst 0, 1) := dk_3 (dk_at dksX0_comeBackIn_0 20 rfl rfl)
theorem dX0_comeBackIn_21 : decode cX0_comeBackIn 21 = .ok (.ireturn, 1) := dk_172 (dk_at dksX0_comeBackIn_0 21 rfl rfl)
abbrev cX0_allMeetIn : ByteArray := method_37_code
def yX0_allMeetIn : MethodName := ⟨RX0, "allMeetIn", "(LClockworkOrreries;IIII[J)I"⟩
def dkwX0_allMeetIn_1 : List UInt8 := [172, 3, 172]
abbrev dktX0_allMeetIn_1 : List UInt8 := dkwX0_allMeetIn_1 ++ []
def dkwX0_allMeetIn_0 : List UInt8 := [25, 5, 3, 42, 27, 28, 29, 21, 4, 182, 0, 125, 133, 80, 167, 0, 11, 58, 6, 4, 172, 58, 6, 5]
abbrev dktX0_allMeetIn_0 : List UInt8 := dkwX0_allMeetIn_0 ++ dktX0_allMeetIn_1
theorem dksX0_allMeetIn_0 : cX0_allMeetIn.data.toList.drop 0 = dktX0_allMeetIn_0 := by decide +kernel
theorem dksX0_allMeetIn_1 : cX0_allMeetIn.data.toList.drop 24 = dktX0_allMeetIn_1 := dk_seg dksX0_allMeetIn_0 24 rfl rfl
theorem dX0_allMeetIn_0 : decode cX0_allMeetIn 0 = .ok (.aload 5, 2) := dk_25 5 (dk_at dksX0_allMeetIn_0 0 rfl rfl)
theorem dX0_allMeetIn_2 : decode cX0_allMeetIn 2 = .ok (.iconst 0, 1) := dk_3 (dk_at dksX0_allMeetIn_0 2 rfl rfl)
theorem dX0_allMeetIn_3 : decode cX0_allMeetIn 3 = .ok (.aload_n 0, 1) := dk_42 (dk_at dksX0_allMeetIn_0 3 rfl rfl)
theorem dX0_allMeetIn_4 : decode cX0_allMeetIn 4 = .ok (.iload_n 1, 1) := dk_27 (dk_at dksX0_allMeetIn_0 4 rfl rfl)
theorem dX0_allMeetIn_5 : decode cX0_allMeetIn 5 = .ok (.iload_n 2, 1) := dk_28 (dk_at dksX0_allMeetIn_0 5 rfl rfl)
theorem dX0_allMeetIn_6 : decode cX0_allMeetIn 6 = .ok (.iload_n 3, 1) := dk_29 (dk_at dksX0_allMeetIn_0 6 rfl rfl)
theorem dX0_allMeetIn_7 : decode cX0_allMeetIn 7 = .ok (.iload 4, 2) := dk_21 4 (dk_at dksX0_allMeetIn_0 7 rfl rfl)
theorem dX0_allMeetIn_9 : decode cX0_allMeetIn 9 = .ok (.invokevirtual 125, 3) := dk_182 0 125 (dk_at dksX0_allMeetIn_0 9 rfl rfl)
theorem dX0_allMeetIn_12 : decode cX0_allMeetIn 12 = .ok (.i2l, 1) := dk_133 (dk_at dksX0_allMeetIn_0 12 rfl rfl)
theorem dX0_allMeetIn_13 : decode cX0_allMeetIn 13 = .ok (.lastore, 1) := dk_80 (dk_at dksX0_allMeetIn_0 13 rfl rfl)
theorem dX0_allMeetIn_14 : decode cX0_allMeetIn 14 = .ok (.goto 11, 3) := dk_167 0 11 (dk_at dksX0_allMeetIn_0 14 rfl rfl)
theorem dX0_allMeetIn_17 : decode cX0_allMeetIn 17 = .ok (.astore 6, 2) := dk_58 6 (dk_at dksX0_allMeetIn_0 17 rfl rfl)
theorem dX0_allMeetIn_19 : decode cX0_allMeetIn 19 = .ok (.iconst 1, 1) := dk_4 (dk_at dksX0_allMeetIn_0 19 rfl rfl)
theorem dX0_allMeetIn_20 : decode cX0_allMeetIn 20 = .ok (.ireturn, 1) := dk_172 (dk_at dksX0_allMeetIn_0 20 rfl rfl)
theorem dX0_allMeetIn_21 : decode cX0_allMeetIn 21 = .ok (.astore 6, 2) := dk_58 6 (dk_at dksX0_allMeetIn_0 21 rfl rfl)
theorem dX0_allMeetIn_23 : decode cX0_allMeetIn 23 = .ok (.iconst 2, 1) := dk_5 (dk_at dksX0_allMeetIn_0 23 rfl rfl)
theorem dX0_allMeetIn_24 : decode cX0_allMeetIn 24 = .ok (.ireturn, 1) := dk_172 (dk_at dksX0_allMeetIn_1 0 rfl rfl)
theorem dX0_allMeetIn_25 : decode cX0_allMeetIn 25 = .ok (.iconst 0, 1) := dk_3 (dk_at dksX0_allMeetIn_1 1 rfl rfl)
theorem dX0_allMeetIn_26 : decode cX0_allMeetIn 26 = .ok (.ireturn, 1) := dk_172 (dk_at dksX0_allMeetIn_1 2 rfl rfl)
abbrev cX0_farthestIn : ByteArray := method_38_code
def yX0_farthestIn : MethodName := ⟨RX0, "farthestIn", "(LClockworkOrreries;II[J)I"⟩
def dkwX0_farthestIn_0 : List UInt8 := [45, 3, 42, 27, 28, 182, 0, 129, 133, 80, 167, 0, 11, 58, 4, 4, 172, 58, 4, 5, 172, 3, 172]
abbrev dktX0_farthestIn_0 : List UInt8 := dkwX0_farthestIn_0 ++ []
theorem dksX0_farthestIn_0 : cX0_farthestIn.data.toList.drop 0 = dktX0_farthestIn_0 := by decide +kernel
theorem dX0_farthestIn_0 : decode cX0_farthestIn 0 = .ok (.aload_n 3, 1) := dk_45 (dk_at dksX0_farthestIn_0 0 rfl rfl)
theorem dX0_farthestIn_1 : decode cX0_farthestIn 1 = .ok (.iconst 0, 1) := dk_3 (dk_at dksX0_farthestIn_0 1 rfl rfl)
theorem dX0_farthestIn_2 : decode cX0_farthestIn 2 = .ok (.aload_n 0, 1) := dk_42 (dk_at dksX0_farthestIn_0 2 rfl rfl)
theorem dX0_farthestIn_3 : decode cX0_farthestIn 3 = .ok (.iload_n 1, 1) := dk_27 (dk_at dksX0_farthestIn_0 3 rfl rfl)
theorem dX0_farthestIn_4 : decode cX0_farthestIn 4 = .ok (.iload_n 2, 1) := dk_28 (dk_at dksX0_farthestIn_0 4 rfl rfl)
theorem dX0_farthestIn_5 : decode cX0_farthestIn 5 = .ok (.invokevirtual 129, 3) := dk_182 0 129 (dk_at dksX0_farthestIn_0 5 rfl rfl)
theorem dX0_farthestIn_8 : decode cX0_farthestIn 8 = .ok (.i2l, 1) := dk_133 (dk_at dksX0_farthestIn_0 8 rfl rfl)
theorem dX0_farthestIn_9 : decode cX0_farthestIn 9 = .ok (.lastore, 1) := dk_80 (dk_at dksX0_farthestIn_0 9 rfl rfl)
theorem dX0_farthestIn_10 : decode cX0_farthestIn 10 = .ok (.goto 11, 3) := dk_167 0 11 (dk_at dksX0_farthestIn_0 10 rfl rfl)
theorem dX0_farthestIn_13 : decode cX0_farthestIn 13 = .ok (.astore 4, 2) := dk_58 4 (dk_at dksX0_farthestIn_0 13 rfl rfl)
theorem dX0_farthestIn_15 : decode cX0_farthestIn 15 = .ok (.iconst 1, 1) := dk_4 (dk_at dksX0_farthestIn_0 15 rfl rfl)
theorem dX0_farthestIn_16 : decode cX0_farthestIn 16 = .ok (.ireturn, 1) := dk_172 (dk_at dksX0_farthestIn_0 16 rfl rfl)
theorem dX0_farthestIn_17 : decode cX0_farthestIn 17 = .ok (.astore 4, 2) := dk_58 4 (dk_at dksX0_farthestIn_0 17 rfl rfl)
theorem dX0_farthestIn_19 : decode cX0_farthestIn 19 = .ok (.iconst 2, 1) := dk_5 (dk_at dksX0_farthestIn_0 19 rfl rfl)
theorem dX0_farthestIn_20 : decode cX0_farthestIn 20 = .ok (.ireturn, 1) := dk_172 (dk_at dksX0_farthestIn_0 20 rfl rfl)
theorem dX0_farthestIn_21 : decode cX0_farthestIn 21 = .ok (.iconst 0, 1) := dk_3 (dk_at dksX0_farthestIn_0 21 rfl rfl)
theorem dX0_farthestIn_22 : decode cX0_farthestIn 22 = .ok (.ireturn, 1) := dk_172 (dk_at dksX0_farthestIn_0 22 rfl rfl)
abbrev cX0_bendFor : ByteArray := method_39_code
def yX0_bendFor : MethodName := ⟨RX0, "bendFor", "(LClockworkOrreries;II[J)I"⟩
def dkwX0_bendFor_0 : List UInt8 := [45, 3, 42, 27, 28, 182, 0, 132, 133, 80, 167, 0, 11, 58, 4, 4, 172, 58, 4, 5, 172, 3, 172]
abbrev dktX0_bendFor_0 : List UInt8 := dkwX0_bendFor_0 ++ []
theorem dksX0_bendFor_0 : cX0_bendFor.data.toList.drop 0 = dktX0_bendFor_0 := by decide +kernel
theorem dX0_bendFor_0 : decode cX0_bendFor 0 = .ok (.aload_n 3, 1) := dk_45 (dk_at dksX0_bendFor_0 0 rfl rfl)
theorem dX0_bendFor_1 : decode cX0_bendFor 1 = .ok (.iconst 0, 1) := dk_3 (dk_at dksX0_bendFor_0 1 rfl rfl)
theorem dX0_bendFor_2 : decode cX0_bendFor 2 = .ok (.aload_n 0, 1) := dk_42 (dk_at dksX0_bendFor_0 2 rfl rfl)
theorem dX0_bendFor_3 : decode cX0_bendFor 3 = .ok (.iload_n 1, 1) := dk_27 (dk_at dksX0_bendFor_0 3 rfl rfl)
theorem dX0_bendFor_4 : decode cX0_bendFor 4 = .ok (.iload_n 2, 1) := dk_28 (dk_at dksX0_bendFor_0 4 rfl rfl)
theorem dX0_bendFor_5 : decode cX0_bendFor 5 = .ok (.invokevirtual 132, 3) := dk_182 0 132 (dk_at dksX0_bendFor_0 5 rfl rfl)
theorem dX0_bendFor_8 : decode cX0_bendFor 8 = .ok (.i2l, 1) := dk_133 (dk_at dksX0_bendFor_0 8 rfl rfl)
theorem dX0_bendFor_9 : decode cX0_bendFor 9 = .ok (.lastore, 1) := dk_80 (dk_at dksX0_bendFor_0 9 rfl rfl)
theorem dX0_bendFor_10 : decode cX0_bendFor 10 = .ok (.goto 11, 3) := dk_167 0 11 (dk_at dksX0_bendFor_0 10 rfl rfl)
theorem dX0_bendFor_13 : decode cX0_bendFor 13 = .ok (.astore 4, 2) := dk_58 4 (dk_at dksX0_bendFor_0 13 rfl rfl)
theorem dX0_bendFor_15 : decode cX0_bendFor 15 = .ok (.iconst 1, 1) := dk_4 (dk_at dksX0_bendFor_0 15 rfl rfl)
theorem dX0_bendFor_16 : decode cX0_bendFor 16 = .ok (.ireturn, 1) := dk_172 (dk_at dksX0_bendFor_0 16 rfl rfl)
theorem dX0_bendFor_17 : decode cX0_bendFor 17 = .ok (.astore 4, 2) := dk_58 4 (dk_at dksX0_bendFor_0 17 rfl rfl)
theorem dX0_bendFor_19 : decode cX0_bendFor 19 = .ok (.iconst 2, 1) := dk_5 (dk_at dksX0_bendFor_0 19 rfl rfl)
theorem dX0_bendFor_20 : decode cX0_bendFor 20 = .ok (.ireturn, 1) := dk_172 (dk_at dksX0_bendFor_0 20 rfl rfl)
theorem dX0_bendFor_21 : decode cX0_bendFor 21 = .ok (.iconst 0, 1) := dk_3 (dk_at dksX0_bendFor_0 21 rfl rfl)
theorem dX0_bendFor_22 : decode cX0_bendFor 22 = .ok (.ireturn, 1) := dk_172 (dk_at dksX0_bendFor_0 22 rfl rfl)
abbrev cX0_dayOf : ByteArray := method_40_code
def yX0_dayOf : MethodName := ⟨RX0, "dayOf", "(LClockworkOrreries;III[J)I"⟩
def dkwX0_dayOf_0 : List UInt8 := [25, 4, 3, 42, 27, 28, 29, 182, 0, 135, 133, 80, 167, 0, 7, 58, 5, 4, 172, 3, 172]
abbrev dktX0_dayOf_0 : List UInt8 := dkwX0_dayOf_0 ++ []
theorem dksX0_dayOf_0 : cX0_dayOf.data.toList.drop 0 = dktX0_dayOf_0 := by decide +kernel
theorem dX0_dayOf_0 : decode cX0_dayOf 0 = .ok (.aload 4, 2) := dk_25 4 (dk_at dksX0_dayOf_0 0 rfl rfl)
theorem dX0_dayOf_2 : decode cX0_dayOf 2 = .ok (.iconst 0, 1) := dk_3 (dk_at dksX0_dayOf_0 2 rfl rfl)
theorem dX0_dayOf_3 : decode cX0_dayOf 3 = .ok (.aload_n 0, 1) := dk_42 (dk_at dksX0_dayOf_0 3 rfl rfl)
theorem dX0_dayOf_4 : decode cX0_dayOf 4 = .ok (.iload_n 1, 1) := dk_27 (dk_at dksX0_dayOf_0 4 rfl rfl)
theorem dX0_dayOf_5 : decode cX0_dayOf 5 = .ok (.iload_n 2, 1) := dk_28 (dk_at dksX0_dayOf_0 5 rfl rfl)
theorem dX0_dayOf_6 : decode cX0_dayOf 6 = .ok (.iload_n 3, 1) := dk_29 (dk_at dksX0_dayOf_0 6 rfl rfl)
theorem dX0_dayOf_7 : decode cX0_dayOf 7 = .ok (.invokevirtual 135, 3) := dk_182 0 135 (dk_at dksX0_dayOf_0 7 rfl rfl)
theorem dX0_dayOf_10 : decode cX0_dayOf 10 = .ok (.i2l, 1) := dk_133 (dk_at dksX0_dayOf_0 10 rfl rfl)
theorem dX0_dayOf_11 : decode cX0_dayOf 11 = .ok (.lastore, 1) := dk_80 (dk_at dksX0_dayOf_0 11 rfl rfl)
theorem dX0_dayOf_12 : decode cX0_dayOf 12 = .ok (.goto 7, 3) := dk_167 0 7 (dk_at dksX0_dayOf_0 12 rfl rfl)
theorem dX0_dayOf_15 : decode cX0_dayOf 15 = .ok (.astore 5, 2) := dk_58 5 (dk_at dksX0_dayOf_0 15 rfl rfl)
theorem dX0_dayOf_17 : decode cX0_dayOf 17 = .ok (.iconst 1, 1) := dk_4 (dk_at dksX0_dayOf_0 17 rfl rfl)
theorem dX0_dayOf_18 : decode cX0_dayOf 18 = .ok (.ireturn, 1) := dk_172 (dk_at dksX0_dayOf_0 18 rfl rfl)
theorem dX0_dayOf_19 : decode cX0_dayOf 19 = .ok (.iconst 0, 1) := dk_3 (dk_at dksX0_dayOf_0 19 rfl rfl)
theorem dX0_dayOf_20 : decode cX0_dayOf 20 = .ok (.ireturn, 1) := dk_172 (dk_at dksX0_dayOf_0 20 rfl rfl)
abbrev cX0_daysUntil : ByteArray := method_41_code
def yX0_daysUntil : MethodName := ⟨RX0, "daysUntil", "(LClockworkOrreries;II[J)I"⟩
def dkwX0_daysUntil_0 : List UInt8 := [45, 3, 42, 27, 28, 182, 0, 138, 133, 80, 167, 0, 11, 58, 4, 4, 172, 58, 4, 5, 172, 3, 172]
abbrev dktX0_daysUntil_0 : List UInt8 := dkwX0_daysUntil_0 ++ []
theorem dksX0_daysUntil_0 : cX0_daysUntil.data.toList.drop 0 = dktX0_daysUntil_0 := by decide +kernel
theorem dX0_daysUntil_0 : decode cX0_daysUntil 0 = .ok (.aload_n 3, 1) := dk_45 (dk_at dksX0_daysUntil_0 0 rfl rfl)
theorem dX0_daysUntil_1 : decode cX0_daysUntil 1 = .ok (.iconst 0, 1) := dk_3 (dk_at dksX0_daysUntil_0 1 rfl rfl)
theorem dX0_daysUntil_2 : decode cX0_daysUntil 2 = .ok (.aload_n 0, 1) := dk_42 (dk_at dksX0_daysUntil_0 2 rfl rfl)
theorem dX0_daysUntil_3 : decode cX0_daysUntil 3 = .ok (.iload_n 1, 1) := dk_27 (dk_at dksX0_daysUntil_0 3 rfl rfl)
theorem dX0_daysUntil_4 : decode cX0_daysUntil 4 = .ok (.iload_n 2, 1) := dk_28 (dk_at dksX0_daysUntil_0 4 rfl rfl)
theorem dX0_daysUntil_5 : decode cX0_daysUntil 5 = .ok (.invokevirtual 138, 3) := dk_182 0 138 (dk_at dksX0_daysUntil_0 5 rfl rfl)
theorem dX0_daysUntil_8 : decode cX0_daysUntil 8 = .ok (.i2l, 1) := dk_133 (dk_at dksX0_daysUntil_0 8 rfl rfl)
theorem dX0_daysUntil_9 : decode cX0_daysUntil 9 = .ok (.lastore, 1) := dk_80 (dk_at dksX0_daysUntil_0 9 rfl rfl)
theorem dX0_daysUntil_10 : decode cX0_daysUntil 10 = .ok (.goto 11, 3) := dk_167 0 11 (dk_at dksX0_daysUntil_0 10 rfl rfl)
theorem dX0_daysUntil_13 : decode cX0_daysUntil 13 = .ok (.astore 4, 2) := dk_58 4 (dk_at dksX0_daysUntil_0 13 rfl rfl)
theorem dX0_daysUntil_15 : decode cX0_daysUntil 15 = .ok (.iconst 1, 1) := dk_4 (dk_at dksX0_daysUntil_0 15 rfl rfl)
theorem dX0_daysUntil_16 : decode cX0_daysUntil 16 = .ok (.ireturn, 1) := dk_172 (dk_at dksX0_daysUntil_0 16 rfl rfl)
theorem dX0_daysUntil_17 : decode cX0_daysUntil 17 = .ok (.astore 4, 2) := dk_58 4 (dk_at dksX0_daysUntil_0 17 rfl rfl)
theorem dX0_daysUntil_19 : decode cX0_daysUntil 19 = .ok (.iconst 2, 1) := dk_5 (dk_at dksX0_daysUntil_0 19 rfl rfl)
theorem dX0_daysUntil_20 : decode cX0_daysUntil 20 = .ok (.ireturn, 1) := dk_172 (dk_at dksX0_daysUntil_0 20 rfl rfl)
theorem dX0_daysUntil_21 : decode cX0_daysUntil 21 = .ok (.iconst 0, 1) := dk_3 (dk_at dksX0_daysUntil_0 21 rfl rfl)
theorem dX0_daysUntil_22 : decode cX0_daysUntil 22 = .ok (.ireturn, 1) := dk_172 (dk_at dksX0_daysUntil_0 22 rfl rfl)
abbrev cX0_periodOf : ByteArray := method_42_code
def yX0_periodOf : MethodName := ⟨RX0, "periodOf", "(LClockworkOrreries;I[J)I"⟩
def dkwX0_periodOf_0 : List UInt8 := [44, 3, 42, 27, 182, 0, 141, 133, 80, 167, 0, 9, 78, 4, 172, 78, 5, 172, 3, 172]
abbrev dktX0_periodOf_0 : List UInt8 := dkwX0_periodOf_0 ++ []
theorem dksX0_periodOf_0 : cX0_periodOf.data.toList.drop 0 = dktX0_periodOf_0 := by decide +kernel
theorem dX0_periodOf_0 : decode cX0_periodOf 0 = .ok (.aload_n 2, 1) := dk_44 (dk_at dksX0_periodOf_0 0 rfl rfl)
theorem dX0_periodOf_1 : decode cX0_periodOf 1 = .ok (.iconst 0, 1) := dk_3 (dk_at dksX0_periodOf_0 1 rfl rfl)
theorem dX0_periodOf_2 : decode cX0_periodOf 2 = .ok (.aload_n 0, 1) := dk_42 (dk_at dksX0_periodOf_0 2 rfl rfl)
theorem dX0_periodOf_3 : decode cX0_periodOf 3 = .ok (.iload_n 1, 1) := dk_27 (dk_at dksX0_periodOf_0 3 rfl rfl)
theorem dX0_periodOf_4 : decode cX0_periodOf 4 = .ok (.invokevirtual 141, 3) := dk_182 0 141 (dk_at dksX0_periodOf_0 4 rfl rfl)
theorem dX0_periodOf_7 : decode cX0_periodOf 7 = .ok (.i2l, 1) := dk_133 (dk_at dksX0_periodOf_0 7 rfl rfl)
theorem dX0_periodOf_8 : decode cX0_periodOf 8 = .ok (.lastore, 1) := dk_80 (dk_at dksX0_periodOf_0 8 rfl rfl)
theorem dX0_periodOf_9 : decode cX0_periodOf 9 = .ok (.goto 9, 3) := dk_167 0 9 (dk_at dksX0_periodOf_0 9 rfl rfl)
theorem dX0_periodOf_12 : decode cX0_periodOf 12 = .ok (.astore_n 3, 1) := dk_78 (dk_at dksX0_periodOf_0 12 rfl rfl)
theorem dX0_periodOf_13 : decode cX0_periodOf 13 = .ok (.iconst 1, 1) := dk_4 (dk_at dksX0_periodOf_0 13 rfl rfl)
theorem dX0_periodOf_14 : decode cX0_periodOf 14 = .ok (.ireturn, 1) := dk_172 (dk_at dksX0_periodOf_0 14 rfl rfl)
theorem dX0_periodOf_15 : decode cX0_periodOf 15 = .ok (.astore_n 3, 1) := dk_78 (dk_at dksX0_periodOf_0 15 rfl rfl)
theorem dX0_periodOf_16 : decode cX0_periodOf 16 = .ok (.iconst 2, 1) := dk_5 (dk_at dksX0_periodOf_0 16 rfl rfl)
theorem dX0_periodOf_17 : decode cX0_periodOf 17 = .ok (.ireturn, 1) := dk_172 (dk_at dksX0_periodOf_0 17 rfl rfl)
theorem dX0_periodOf_18 : decode cX0_periodOf 18 = .ok (.iconst 0, 1) := dk_3 (dk_at dksX0_periodOf_0 18 rfl rfl)
theorem dX0_periodOf_19 : decode cX0_periodOf 19 = .ok (.ireturn, 1) := dk_172 (dk_at dksX0_periodOf_0 19 rfl rfl)
abbrev cX0_errorBits : ByteArray := method_43_code
def yX0_errorBits : MethodName := ⟨RX0, "errorBits", "(LClockworkOrreries;I[J)I"⟩
def dkwX0_errorBits_0 : List UInt8 := [44, 3, 42, 27, 182, 0, 144, 80, 167, 0, 9, 78, 4, 172, 78, 5, 172, 3, 172]
abbrev dktX0_errorBits_0 : List UInt8 := dkwX0_errorBits_0 ++ []
theorem dksX0_errorBits_0 : cX0_errorBits.data.toList.drop 0 = dktX0_errorBits_0 := by decide +kernel
theorem dX0_errorBits_0 : decode cX0_errorBits 0 = .ok (.aload_n 2, 1) := dk_44 (dk_at dksX0_errorBits_0 0 rfl rfl)
theorem dX0_errorBits_1 : decode cX0_errorBits 1 = .ok (.iconst 0, 1) := dk_3 (dk_at dksX0_errorBits_0 1 rfl rfl)
theorem dX0_errorBits_2 : decode cX0_errorBits 2 = .ok (.aload_n 0, 1) := dk_42 (dk_at dksX0_errorBits_0 2 rfl rfl)
theorem dX0_errorBits_3 : decode cX0_errorBits 3 = .ok (.iload_n 1, 1) := dk_27 (dk_at dksX0_errorBits_0 3 rfl rfl)
theorem dX0_errorBits_4 : decode cX0_errorBits 4 = .ok (.invokevirtual 144, 3) := dk_182 0 144 (dk_at dksX0_errorBits_0 4 rfl rfl)
theorem dX0_errorBits_7 : decode cX0_errorBits 7 = .ok (.lastore, 1) := dk_80 (dk_at dksX0_errorBits_0 7 rfl rfl)
theorem dX0_errorBits_8 : decode cX0_errorBits 8 = .ok (.goto 9, 3) := dk_167 0 9 (dk_at dksX0_errorBits_0 8 rfl rfl)
theorem dX0_errorBits_11 : decode cX0_errorBits 11 = .ok (.astore_n 3, 1) := dk_78 (dk_at dksX0_errorBits_0 11 rfl rfl)
theorem dX0_errorBits_12 : decode cX0_errorBits 12 = .ok (.iconst 1, 1) := dk_4 (dk_at dksX0_errorBits_0 12 rfl rfl)
theorem dX0_errorBits_13 : decode cX0_errorBits 13 = .ok (.ireturn, 1) := dk_172 (dk_at dksX0_errorBits_0 13 rfl rfl)
theorem dX0_errorBits_14 : decode cX0_errorBits 14 = .ok (.astore_n 3, 1) := dk_78 (dk_at dksX0_errorBits_0 14 rfl rfl)
theorem dX0_errorBits_15 : decode cX0_errorBits 15 = .ok (.iconst 2, 1) := dk_5 (dk_at dksX0_errorBits_0 15 rfl rfl)
theorem dX0_errorBits_16 : decode cX0_errorBits 16 = .ok (.ireturn, 1) := dk_172 (dk_at dksX0_errorBits_0 16 rfl rfl)
theorem dX0_errorBits_17 : decode cX0_errorBits 17 = .ok (.iconst 0, 1) := dk_3 (dk_at dksX0_errorBits_0 17 rfl rfl)
theorem dX0_errorBits_18 : decode cX0_errorBits 18 = .ok (.ireturn, 1) := dk_172 (dk_at dksX0_errorBits_0 18 rfl rfl)
abbrev cX0_bestPair : ByteArray := method_44_code
def yX0_bestPair : MethodName := ⟨RX0, "bestPair", "(LClockworkOrreries;II[J)I"⟩
def dkwX0_bestPair_0 : List UInt8 := [45, 3, 42, 27, 28, 182, 0, 147, 133, 80, 167, 0, 7, 58, 4, 4, 172, 3, 172]
abbrev dktX0_bestPair_0 : List UInt8 := dkwX0_bestPair_0 ++ []
theorem dksX0_bestPair_0 : cX0_bestPair.data.toList.drop 0 = dktX0_bestPair_0 := by decide +kernel
theorem dX0_bestPair_0 : decode cX0_bestPair 0 = .ok (.aload_n 3, 1) := dk_45 (dk_at dksX0_bestPair_0 0 rfl rfl)
theorem dX0_bestPair_1 : decode cX0_bestPair 1 = .ok (.iconst 0, 1) := dk_3 (dk_at dksX0_bestPair_0 1 rfl rfl)
theorem dX0_bestPair_2 : decode cX0_bestPair 2 = .ok (.aload_n 0, 1) := dk_42 (dk_at dksX0_bestPair_0 2 rfl rfl)
theorem dX0_bestPair_3 : decode cX0_bestPair 3 = .ok (.iload_n 1, 1) := dk_27 (dk_at dksX0_bestPair_0 3 rfl rfl)
theorem dX0_bestPair_4 : decode cX0_bestPair 4 = .ok (.iload_n 2, 1) := dk_28 (dk_at dksX0_bestPair_0 4 rfl rfl)
theorem dX0_bestPair_5 : decode cX0_bestPair 5 = .ok (.invokevirtual 147, 3) := dk_182 0 147 (dk_at dksX0_bestPair_0 5 rfl rfl)
theorem dX0_bestPair_8 : decode cX0_bestPair 8 = .ok (.i2l, 1) := dk_133 (dk_at dksX0_bestPair_0 8 rfl rfl)
theorem dX0_bestPair_9 : decode cX0_bestPair 9 = .ok (.lastore, 1) := dk_80 (dk_at dksX0_bestPair_0 9 rfl rfl)
theorem dX0_bestPair_10 : decode cX0_bestPair 10 = .ok (.goto 7, 3) := dk_167 0 7 (dk_at dksX0_bestPair_0 10 rfl rfl)
theorem dX0_bestPair_13 : decode cX0_bestPair 13 = .ok (.astore 4, 2) := dk_58 4 (dk_at dksX0_bestPair_0 13 rfl rfl)
theorem dX0_bestPair_15 : decode cX0_bestPair 15 = .ok (.iconst 1, 1) := dk_4 (dk_at dksX0_bestPair_0 15 rfl rfl)
theorem dX0_bestPair_16 : decode cX0_bestPair 16 = .ok (.ireturn, 1) := dk_172 (dk_at dksX0_bestPair_0 16 rfl rfl)
theorem dX0_bestPair_17 : decode cX0_bestPair 17 = .ok (.iconst 0, 1) := dk_3 (dk_at dksX0_bestPair_0 17 rfl rfl)
theorem dX0_bestPair_18 : decode cX0_bestPair 18 = .ok (.ireturn, 1) := dk_172 (dk_at dksX0_bestPair_0 18 rfl rfl)
abbrev cX0_degrees : ByteArray := method_45_code
def yX0_degrees : MethodName := ⟨RX0, "degrees", "(LClockworkOrreries;I[F)I"⟩
def dkwX0_degrees_0 : List UInt8 := [44, 3, 42, 27, 182, 0, 150, 81, 167, 0, 9, 78, 4, 172, 78, 5, 172, 3, 172]
abbrev dktX0_degrees_0 : List UInt8 := dkwX0_degrees_0 ++ []
theorem dksX0_degrees_0 : cX0_degrees.data.toList.drop 0 = dktX0_degrees_0 := by decide +kernel
theorem dX0_degrees_0 : decode cX0_degrees 0 = .ok (.aload_n 2, 1) := dk_44 (dk_at dksX0_degrees_0 0 rfl rfl)
theorem dX0_degrees_1 : decode cX0_degrees 1 = .ok (.iconst 0, 1) := dk_3 (dk_at dksX0_degrees_0 1 rfl rfl)
theorem dX0_degrees_2 : decode cX0_degrees 2 = .ok (.aload_n 0, 1) := dk_42 (dk_at dksX0_degrees_0 2 rfl rfl)
theorem dX0_degrees_3 : decode cX0_degrees 3 = .ok (.iload_n 1, 1) := dk_27 (dk_at dksX0_degrees_0 3 rfl rfl)
theorem dX0_degrees_4 : decode cX0_degrees 4 = .ok (.invokevirtual 150, 3) := dk_182 0 150 (dk_at dksX0_degrees_0 4 rfl rfl)
theorem dX0_degrees_7 : decode cX0_degrees 7 = .ok (.fastore, 1) := dk_81 (dk_at dksX0_degrees_0 7 rfl rfl)
theorem dX0_degrees_8 : decode cX0_degrees 8 = .ok (.goto 9, 3) := dk_167 0 9 (dk_at dksX0_degrees_0 8 rfl rfl)
theorem dX0_degrees_11 : decode cX0_degrees 11 = .ok (.astore_n 3, 1) := dk_78 (dk_at dksX0_degrees_0 11 rfl rfl)
theorem dX0_degrees_12 : decode cX0_degrees 12 = .ok (.iconst 1, 1) := dk_4 (dk_at dksX0_degrees_0 12 rfl rfl)
theorem dX0_degrees_13 : decode cX0_degrees 13 = .ok (.ireturn, 1) := dk_172 (dk_at dksX0_degrees_0 13 rfl rfl)
theorem dX0_degrees_14 : decode cX0_degrees 14 = .ok (.astore_n 3, 1) := dk_78 (dk_at dksX0_degrees_0 14 rfl rfl)
theorem dX0_degrees_15 : decode cX0_degrees 15 = .ok (.iconst 2, 1) := dk_5 (dk_at dksX0_degrees_0 15 rfl rfl)
theorem dX0_degrees_16 : decode cX0_degrees 16 = .ok (.ireturn, 1) := dk_172 (dk_at dksX0_degrees_0 16 rfl rfl)
theorem dX0_degrees_17 : decode cX0_degrees 17 = .ok (.iconst 0, 1) := dk_3 (dk_at dksX0_degrees_0 17 rfl rfl)
theorem dX0_degrees_18 : decode cX0_degrees 18 = .ok (.ireturn, 1) := dk_172 (dk_at dksX0_degrees_0 18 rfl rfl)
abbrev cX0_degreeBits : ByteArray := method_46_code
def yX0_degreeBits : MethodName := ⟨RX0, "degreeBits", "(LClockworkOrreries;I[J)I"⟩
def dkwX0_degreeBits_0 : List UInt8 := [44, 3, 42, 27, 182, 0, 154, 133, 80, 167, 0, 9, 78, 4, 172, 78, 5, 172, 3, 172]
abbrev dktX0_degreeBits_0 : List UInt8 := dkwX0_degreeBits_0 ++ []
theorem dksX0_degreeBits_0 : cX0_degreeBits.data.toList.drop 0 = dktX0_degreeBits_0 := by decide +kernel
theorem dX0_degreeBits_0 : decode cX0_degreeBits 0 = .ok (.aload_n 2, 1) := dk_44 (dk_at dksX0_degreeBits_0 0 rfl rfl)
theorem dX0_degreeBits_1 : decode cX0_degreeBits 1 = .ok (.iconst 0, 1) := dk_3 (dk_at dksX0_degreeBits_0 1 rfl rfl)
theorem dX0_degreeBits_2 : decode cX0_degreeBits 2 = .ok (.aload_n 0, 1) := dk_42 (dk_at dksX0_degreeBits_0 2 rfl rfl)
theorem dX0_degreeBits_3 : decode cX0_degreeBits 3 = .ok (.iload_n 1, 1) := dk_27 (dk_at dksX0_degreeBits_0 3 rfl rfl)
theorem dX0_degreeBits_4 : decode cX0_degreeBits 4 = .ok (.invokevirtual 154, 3) := dk_182 0 154 (dk_at dksX0_degreeBits_0 4 rfl rfl)
theorem dX0_degreeBits_7 : decode cX0_degreeBits 7 = .ok (.i2l, 1) := dk_133 (dk_at dksX0_degreeBits_0 7 rfl rfl)
theorem dX0_degreeBits_8 : decode cX0_degreeBits 8 = .ok (.lastore, 1) := dk_80 (dk_at dksX0_degreeBits_0 8 rfl rfl)
theorem dX0_degreeBits_9 : decode cX0_degreeBits 9 = .ok (.goto 9, 3) := dk_167 0 9 (dk_at dksX0_degreeBits_0 9 rfl rfl)
theorem dX0_degreeBits_12 : decode cX0_degreeBits 12 = .ok (.astore_n 3, 1) := dk_78 (dk_at dksX0_degreeBits_0 12 rfl rfl)
theorem dX0_degreeBits_13 : decode cX0_degreeBits 13 = .ok (.iconst 1, 1) := dk_4 (dk_at dksX0_degreeBits_0 13 rfl rfl)
theorem dX0_degreeBits_14 : decode cX0_degreeBits 14 = .ok (.ireturn, 1) := dk_172 (dk_at dksX0_degreeBits_0 14 rfl rfl)
theorem dX0_degreeBits_15 : decode cX0_degreeBits 15 = .ok (.astore_n 3, 1) := dk_78 (dk_at dksX0_degreeBits_0 15 rfl rfl)
theorem dX0_degreeBits_16 : decode cX0_degreeBits 16 = .ok (.iconst 2, 1) := dk_5 (dk_at dksX0_degreeBits_0 16 rfl rfl)
theorem dX0_degreeBits_17 : decode cX0_degreeBits 17 = .ok (.ireturn, 1) := dk_172 (dk_at dksX0_degreeBits_0 17 rfl rfl)
theorem dX0_degreeBits_18 : decode cX0_degreeBits 18 = .ok (.iconst 0, 1) := dk_3 (dk_at dksX0_degreeBits_0 18 rfl rfl)
theorem dX0_degreeBits_19 : decode cX0_degreeBits 19 = .ok (.ireturn, 1) := dk_172 (dk_at dksX0_degreeBits_0 19 rfl rfl)
abbrev cX0_bestTrain : ByteArray := method_47_code
def yX0_bestTrain : MethodName := ⟨RX0, "bestTrain", "(LClockworkOrreries;I[J)I"⟩
def dkwX0_bestTrain_0 : List UInt8 := [44, 3, 42, 27, 182, 0, 157, 133, 80, 167, 0, 9, 78, 4, 172, 78, 5, 172, 3, 172]
abbrev dktX0_bestTrain_0 : List UInt8 := dkwX0_bestTrain_0 ++ []
theorem dksX0_bestTrain_0 : cX0_bestTrain.data.toList.drop 0 = dktX0_bestTrain_0 := by decide +kernel
theorem dX0_bestTrain_0 : decode cX0_bestTrain 0 = .ok (.aload_n 2, 1) := dk_44 (dk_at dksX0_bestTrain_0 0 rfl rfl)
theorem dX0_bestTrain_1 : decode cX0_bestTrain 1 = .ok (.iconst 0, 1) := dk_3 (dk_at dksX0_bestTrain_0 1 rfl rfl)
theorem dX0_bestTrain_2 : decode cX0_bestTrain 2 = .ok (.aload_n 0, 1) := dk_42 (dk_at dksX0_bestTrain_0 2 rfl rfl)
theorem dX0_bestTrain_3 : decode cX0_bestTrain 3 = .ok (.iload_n 1, 1) := dk_27 (dk_at dksX0_bestTrain_0 3 rfl rfl)
theorem dX0_bestTrain_4 : decode cX0_bestTrain 4 = .ok (.invokevirtual 157, 3) := dk_182 0 157 (dk_at dksX0_bestTrain_0 4 rfl rfl)
theorem dX0_bestTrain_7 : decode cX0_bestTrain 7 = .ok (.i2l, 1) := dk_133 (dk_at dksX0_bestTrain_0 7 rfl rfl)
theorem dX0_bestTrain_8 : decode cX0_bestTrain 8 = .ok (.lastore, 1) := dk_80 (dk_at dksX0_bestTrain_0 8 rfl rfl)
theorem dX0_bestTrain_9 : decode cX0_bestTrain 9 = .ok (.goto 9, 3) := dk_167 0 9 (dk_at dksX0_bestTrain_0 9 rfl rfl)
theorem dX0_bestTrain_12 : decode cX0_bestTrain 12 = .ok (.astore_n 3, 1) := dk_78 (dk_at dksX0_bestTrain_0 12 rfl rfl)
theorem dX0_bestTrain_13 : decode cX0_bestTrain 13 = .ok (.iconst 1, 1) := dk_4 (dk_at dksX0_bestTrain_0 13 rfl rfl)
theorem dX0_bestTrain_14 : decode cX0_bestTrain 14 = .ok (.ireturn, 1) := dk_172 (dk_at dksX0_bestTrain_0 14 rfl rfl)
theorem dX0_bestTrain_15 : decode cX0_bestTrain 15 = .ok (.astore_n 3, 1) := dk_78 (dk_at dksX0_bestTrain_0 15 rfl rfl)
theorem dX0_bestTrain_16 : decode cX0_bestTrain 16 = .ok (.iconst 2, 1) := dk_5 (dk_at dksX0_bestTrain_0 16 rfl rfl)
theorem dX0_bestTrain_17 : decode cX0_bestTrain 17 = .ok (.ireturn, 1) := dk_172 (dk_at dksX0_bestTrain_0 17 rfl rfl)
theorem dX0_bestTrain_18 : decode cX0_bestTrain 18 = .ok (.iconst 0, 1) := dk_3 (dk_at dksX0_bestTrain_0 18 rfl rfl)
theorem dX0_bestTrain_19 : decode cX0_bestTrain 19 = .ok (.ireturn, 1) := dk_172 (dk_at dksX0_bestTrain_0 19 rfl rfl)
abbrev cX0_goBack : ByteArray := method_48_code
def yX0_goBack : MethodName := ⟨RX0, "goBack", "(LClockworkOrreries;[J)I"⟩
def dkwX0_goBack_0 : List UInt8 := [43, 3, 42, 182, 0, 160, 133, 80, 167, 0, 6, 77, 4, 172, 3, 172]
abbrev dktX0_goBack_0 : List UInt8 := dkwX0_goBack_0 ++ []
theorem dksX0_goBack_0 : cX0_goBack.data.toList.drop 0 = dktX0_goBack_0 := by decide +kernel
theorem dX0_goBack_0 : decode cX0_goBack 0 = .ok (.aload_n 1, 1) := dk_43 (dk_at dksX0_goBack_0 0 rfl rfl)
theorem dX0_goBack_1 : decode cX0_goBack 1 = .ok (.iconst 0, 1) := dk_3 (dk_at dksX0_goBack_0 1 rfl rfl)
theorem dX0_goBack_2 : decode cX0_goBack 2 = .ok (.aload_n 0, 1) := dk_42 (dk_at dksX0_goBack_0 2 rfl rfl)
theorem dX0_goBack_3 : decode cX0_goBack 3 = .ok (.invokevirtual 160, 3) := dk_182 0 160 (dk_at dksX0_goBack_0 3 rfl rfl)
theorem dX0_goBack_6 : decode cX0_goBack 6 = .ok (.i2l, 1) := dk_133 (dk_at dksX0_goBack_0 6 rfl rfl)
theorem dX0_goBack_7 : decode cX0_goBack 7 = .ok (.lastore, 1) := dk_80 (dk_at dksX0_goBack_0 7 rfl rfl)
theorem dX0_goBack_8 : decode cX0_goBack 8 = .ok (.goto 6, 3) := dk_167 0 6 (dk_at dksX0_goBack_0 8 rfl rfl)
theorem dX0_goBack_11 : decode cX0_goBack 11 = .ok (.astore_n 2, 1) := dk_77 (dk_at dksX0_goBack_0 11 rfl rfl)
theorem dX0_goBack_12 : decode cX0_goBack 12 = .ok (.iconst 1, 1) := dk_4 (dk_at dksX0_goBack_0 12 rfl rfl)
theorem dX0_goBack_13 : decode cX0_goBack 13 = .ok (.ireturn, 1) := dk_172 (dk_at dksX0_goBack_0 13 rfl rfl)
theorem dX0_goBack_14 : decode cX0_goBack 14 = .ok (.iconst 0, 1) := dk_3 (dk_at dksX0_goBack_0 14 rfl rfl)
theorem dX0_goBack_15 : decode cX0_goBack 15 = .ok (.ireturn, 1) := dk_172 (dk_at dksX0_goBack_0 15 rfl rfl)
abbrev cX0_undo : ByteArray := method_49_code
def yX0_undo : MethodName := ⟨RX0, "undo", "(LClockworkOrreries;[J)I"⟩
def dkwX0_undo_0 : List UInt8 := [43, 3, 42, 182, 0, 163, 133, 80, 167, 0, 6, 77, 4, 172, 3, 172]
abbrev dktX0_undo_0 : List UInt8 := dkwX0_undo_0 ++ []
theorem dksX0_undo_0 : cX0_undo.data.toList.drop 0 = dktX0_undo_0 := by decide +kernel
theorem dX0_undo_0 : decode cX0_undo 0 = .ok (.aload_n 1, 1) := dk_43 (dk_at dksX0_undo_0 0 rfl rfl)
theorem dX0_undo_1 : decode cX0_undo 1 = .ok (.iconst 0, 1) := dk_3 (dk_at dksX0_undo_0 1 rfl rfl)
theorem dX0_undo_2 : decode cX0_undo 2 = .ok (.aload_n 0, 1) := dk_42 (dk_at dksX0_undo_0 2 rfl rfl)
theorem dX0_undo_3 : decode cX0_undo 3 = .ok (.invokevirtual 163, 3) := dk_182 0 163 (dk_at dksX0_undo_0 3 rfl rfl)
theorem dX0_undo_6 : decode cX0_undo 6 = .ok (.i2l, 1) := dk_133 (dk_at dksX0_undo_0 6 rfl rfl)
theorem dX0_undo_7 : decode cX0_undo 7 = .ok (.lastore, 1) := dk_80 (dk_at dksX0_undo_0 7 rfl rfl)
theorem dX0_undo_8 : decode cX0_undo 8 = .ok (.goto 6, 3) := dk_167 0 6 (dk_at dksX0_undo_0 8 rfl rfl)
theorem dX0_undo_11 : decode cX0_undo 11 = .ok (.astore_n 2, 1) := dk_77 (dk_at dksX0_undo_0 11 rfl rfl)
theorem dX0_undo_12 : decode cX0_undo 12 = .ok (.iconst 1, 1) := dk_4 (dk_at dksX0_undo_0 12 rfl rfl)
theorem dX0_undo_13 : decode cX0_undo 13 = .ok (.ireturn, 1) := dk_172 (dk_at dksX0_undo_0 13 rfl rfl)
theorem dX0_undo_14 : decode cX0_undo 14 = .ok (.iconst 0, 1) := dk_3 (dk_at dksX0_undo_0 14 rfl rfl)
theorem dX0_undo_15 : decode cX0_undo 15 = .ok (.ireturn, 1) := dk_172 (dk_at dksX0_undo_0 15 rfl rfl)
abbrev cX0_type : ByteArray := method_50_code
def yX0_type : MethodName := ⟨RX0, "type", "(LClockworkOrreries;I[J)I"⟩
def dkwX0_type_0 : List UInt8 := [44, 3, 42, 27, 182, 0, 166, 133, 80, 167, 0, 9, 78, 4, 172, 78, 5, 172, 3, 172]
abbrev dktX0_type_0 : List UInt8 := dkwX0_type_0 ++ []
theorem dksX0_type_0 : cX0_type.data.toList.drop 0 = dktX0_type_0 := by decide +kernel
theorem dX0_type_0 : decode cX0_type 0 = .ok (.aload_n 2, 1) := dk_44 (dk_at dksX0_type_0 0 rfl rfl)
theorem dX0_type_1 : decode cX0_type 1 = .ok (.iconst 0, 1) := dk_3 (dk_at dksX0_type_0 1 rfl rfl)
theorem dX0_type_2 : decode cX0_type 2 = .ok (.aload_n 0, 1) := dk_42 (dk_at dksX0_type_0 2 rfl rfl)
theorem dX0_type_3 : decode cX0_type 3 = .ok (.iload_n 1, 1) := dk_27 (dk_at dksX0_type_0 3 rfl rfl)
theorem dX0_type_4 : decode cX0_type 4 = .ok (.invokevirtual 166, 3) := dk_182 0 166 (dk_at dksX0_type_0 4 rfl rfl)
theorem dX0_type_7 : decode cX0_type 7 = .ok (.i2l, 1) := dk_133 (dk_at dksX0_type_0 7 rfl rfl)
theorem dX0_type_8 : decode cX0_type 8 = .ok (.lastore, 1) := dk_80 (dk_at dksX0_type_0 8 rfl rfl)
theorem dX0_type_9 : decode cX0_type 9 = .ok (.goto 9, 3) := dk_167 0 9 (dk_at dksX0_type_0 9 rfl rfl)
theorem dX0_type_12 : decode cX0_type 12 = .ok (.astore_n 3, 1) := dk_78 (dk_at dksX0_type_0 12 rfl rfl)
theorem dX0_type_13 : decode cX0_type 13 = .ok (.iconst 1, 1) := dk_4 (dk_at dksX0_type_0 13 rfl rfl)
theorem dX0_type_14 : decode cX0_type 14 = .ok (.ireturn, 1) := dk_172 (dk_at dksX0_type_0 14 rfl rfl)
theorem dX0_type_15 : decode cX0_type 15 = .ok (.astore_n 3, 1) := dk_78 (dk_at dksX0_type_0 15 rfl rfl)
theorem dX0_type_16 : decode cX0_type 16 = .ok (.iconst 2, 1) := dk_5 (dk_at dksX0_type_0 16 rfl rfl)
theorem dX0_type_17 : decode cX0_type 17 = .ok (.ireturn, 1) := dk_172 (dk_at dksX0_type_0 17 rfl rfl)
theorem dX0_type_18 : decode cX0_type 18 = .ok (.iconst 0, 1) := dk_3 (dk_at dksX0_type_0 18 rfl rfl)
theorem dX0_type_19 : decode cX0_type 19 = .ok (.ireturn, 1) := dk_172 (dk_at dksX0_type_0 19 rfl rfl)
abbrev cX0_faultPosition : ByteArray := method_51_code
def yX0_faultPosition : MethodName := ⟨RX0, "faultPosition", "(LClockworkOrreries;[J)I"⟩
def dkwX0_faultPosition_0 : List UInt8 := [43, 3, 42, 182, 0, 169, 133, 80, 167, 0, 6, 77, 4, 172, 3, 172]
abbrev dktX0_faultPosition_0 : List UInt8 := dkwX0_faultPosition_0 ++ []
theorem dksX0_faultPosition_0 : cX0_faultPosition.data.toList.drop 0 = dktX0_faultPosition_0 := by decide +kernel
theorem dX0_faultPosition_0 : decode cX0_faultPosition 0 = .ok (.aload_n 1, 1) := dk_43 (dk_at dksX0_faultPosition_0 0 rfl rfl)
theorem dX0_faultPosition_1 : decode cX0_faultPosition 1 = .ok (.iconst 0, 1) := dk_3 (dk_at dksX0_faultPosition_0 1 rfl rfl)
theorem dX0_faultPosition_2 : decode cX0_faultPosition 2 = .ok (.aload_n 0, 1) := dk_42 (dk_at dksX0_faultPosition_0 2 rfl rfl)
theorem dX0_faultPosition_3 : decode cX0_faultPosition 3 = .ok (.invokevirtual 169, 3) := dk_182 0 169 (dk_at dksX0_faultPosition_0 3 rfl rfl)
theorem dX0_faultPosition_6 : decode cX0_faultPosition 6 = .ok (.i2l, 1) := dk_133 (dk_at dksX0_faultPosition_0 6 rfl rfl)
theorem dX0_faultPosition_7 : decode cX0_faultPosition 7 = .ok (.lastore, 1) := dk_80 (dk_at dksX0_faultPosition_0 7 rfl rfl)
theorem dX0_faultPosition_8 : decode cX0_faultPosition 8 = .ok (.goto 6, 3) := dk_167 0 6 (dk_at dksX0_faultPosition_0 8 rfl rfl)
theorem dX0_faultPosition_11 : decode cX0_faultPosition 11 = .ok (.astore_n 2, 1) := dk_77 (dk_at dksX0_faultPosition_0 11 rfl rfl)
theorem dX0_faultPosition_12 : decode cX0_faultPosition 12 = .ok (.iconst 1, 1) := dk_4 (dk_at dksX0_faultPosition_0 12 rfl rfl)
theorem dX0_faultPosition_13 : decode cX0_faultPosition 13 = .ok (.ireturn, 1) := dk_172 (dk_at dksX0_faultPosition_0 13 rfl rfl)
theorem dX0_faultPosition_14 : decode cX0_faultPosition 14 = .ok (.iconst 0, 1) := dk_3 (dk_at dksX0_faultPosition_0 14 rfl rfl)
theorem dX0_faultPosition_15 : decode cX0_faultPosition 15 = .ok (.ireturn, 1) := dk_172 (dk_at dksX0_faultPosition_0 15 rfl rfl)
abbrev cX0_faultReason : ByteArray := method_52_code
def yX0_faultReason : MethodName := ⟨RX0, "faultReason", "(LClockworkOrreries;[J)I"⟩
def dkwX0_faultReason_0 : List UInt8 := [43, 3, 42, 182, 0, 172, 133, 80, 167, 0, 6, 77, 4, 172, 3, 172]
abbrev dktX0_faultReason_0 : List UInt8 := dkwX0_faultReason_0 ++ []
theorem dksX0_faultReason_0 : cX0_faultReason.data.toList.drop 0 = dktX0_faultReason_0 := by decide +kernel
theorem dX0_faultReason_0 : decode cX0_faultReason 0 = .ok (.aload_n 1, 1) := dk_43 (dk_at dksX0_faultReason_0 0 rfl rfl)
theorem dX0_faultReason_1 : decode cX0_faultReason 1 = .ok (.iconst 0, 1) := dk_3 (dk_at dksX0_faultReason_0 1 rfl rfl)
theorem dX0_faultReason_2 : decode cX0_faultReason 2 = .ok (.aload_n 0, 1) := dk_42 (dk_at dksX0_faultReason_0 2 rfl rfl)
theorem dX0_faultReason_3 : decode cX0_faultReason 3 = .ok (.invokevirtual 172, 3) := dk_182 0 172 (dk_at dksX0_faultReason_0 3 rfl rfl)
theorem dX0_faultReason_6 : decode cX0_faultReason 6 = .ok (.i2l, 1) := dk_133 (dk_at dksX0_faultReason_0 6 rfl rfl)
theorem dX0_faultReason_7 : decode cX0_faultReason 7 = .ok (.lastore, 1) := dk_80 (dk_at dksX0_faultReason_0 7 rfl rfl)
theorem dX0_faultReason_8 : decode cX0_faultReason 8 = .ok (.goto 6, 3) := dk_167 0 6 (dk_at dksX0_faultReason_0 8 rfl rfl)
theorem dX0_faultReason_11 : decode cX0_faultReason 11 = .ok (.astore_n 2, 1) := dk_77 (dk_at dksX0_faultReason_0 11 rfl rfl)
theorem dX0_faultReason_12 : decode cX0_faultReason 12 = .ok (.iconst 1, 1) := dk_4 (dk_at dksX0_faultReason_0 12 rfl rfl)
theorem dX0_faultReason_13 : decode cX0_faultReason 13 = .ok (.ireturn, 1) := dk_172 (dk_at dksX0_faultReason_0 13 rfl rfl)
theorem dX0_faultReason_14 : decode cX0_faultReason 14 = .ok (.iconst 0, 1) := dk_3 (dk_at dksX0_faultReason_0 14 rfl rfl)
theorem dX0_faultReason_15 : decode cX0_faultReason 15 = .ok (.ireturn, 1) := dk_172 (dk_at dksX0_faultReason_0 15 rfl rfl)
abbrev cX0_faultCause : ByteArray := method_53_code
def yX0_faultCause : MethodName := ⟨RX0, "faultCause", "(LClockworkOrreries;[J)I"⟩
def dkwX0_faultCause_0 : List UInt8 := [43, 3, 42, 182, 0, 175, 133, 80, 167, 0, 6, 77, 4, 172, 3, 172]
abbrev dktX0_faultCause_0 : List UInt8 := dkwX0_faultCause_0 ++ []
theorem dksX0_faultCause_0 : cX0_faultCause.data.toList.drop 0 = dktX0_faultCause_0 := by decide +kernel
theorem dX0_faultCause_0 : decode cX0_faultCause 0 = .ok (.aload_n 1, 1) := dk_43 (dk_at dksX0_faultCause_0 0 rfl rfl)
theorem dX0_faultCause_1 : decode cX0_faultCause 1 = .ok (.iconst 0, 1) := dk_3 (dk_at dksX0_faultCause_0 1 rfl rfl)
theorem dX0_faultCause_2 : decode cX0_faultCause 2 = .ok (.aload_n 0, 1) := dk_42 (dk_at dksX0_faultCause_0 2 rfl rfl)
theorem dX0_faultCause_3 : decode cX0_faultCause 3 = .ok (.invokevirtual 175, 3) := dk_182 0 175 (dk_at dksX0_faultCause_0 3 rfl rfl)
theorem dX0_faultCause_6 : decode cX0_faultCause 6 = .ok (.i2l, 1) := dk_133 (dk_at dksX0_faultCause_0 6 rfl rfl)
theorem dX0_faultCause_7 : decode cX0_faultCause 7 = .ok (.lastore, 1) := dk_80 (dk_at dksX0_faultCause_0 7 rfl rfl)
theorem dX0_faultCause_8 : decode cX0_faultCause 8 = .ok (.goto 6, 3) := dk_167 0 6 (dk_at dksX0_faultCause_0 8 rfl rfl)
theorem dX0_faultCause_11 : decode cX0_faultCause 11 = .ok (.astore_n 2, 1) := dk_77 (dk_at dksX0_faultCause_0 11 rfl rfl)
theorem dX0_faultCause_12 : decode cX0_faultCause 12 = .ok (.iconst 1, 1) := dk_4 (dk_at dksX0_faultCause_0 12 rfl rfl)
theorem dX0_faultCause_13 : decode cX0_faultCause 13 = .ok (.ireturn, 1) := dk_172 (dk_at dksX0_faultCause_0 13 rfl rfl)
theorem dX0_faultCause_14 : decode cX0_faultCause 14 = .ok (.iconst 0, 1) := dk_3 (dk_at dksX0_faultCause_0 14 rfl rfl)
theorem dX0_faultCause_15 : decode cX0_faultCause 15 = .ok (.ireturn, 1) := dk_172 (dk_at dksX0_faultCause_0 15 rfl rfl)
abbrev cX0_play : ByteArray := method_54_code
def yX0_play : MethodName := ⟨RX0, "play", "(LClockworkOrreries;[J)I"⟩
def dkwX0_play_0 : List UInt8 := [43, 3, 42, 182, 0, 178, 133, 80, 167, 0, 6, 77, 4, 172, 3, 172]
abbrev dktX0_play_0 : List UInt8 := dkwX0_play_0 ++ []
theorem dksX0_play_0 : cX0_play.data.toList.drop 0 = dktX0_play_0 := by decide +kernel
theorem dX0_play_0 : decode cX0_play 0 = .ok (.aload_n 1, 1) := dk_43 (dk_at dksX0_play_0 0 rfl rfl)
theorem dX0_play_1 : decode cX0_play 1 = .ok (.iconst 0, 1) := dk_3 (dk_at dksX0_play_0 1 rfl rfl)
theorem dX0_play_2 : decode cX0_play 2 = .ok (.aload_n 0, 1) := dk_42 (dk_at dksX0_play_0 2 rfl rfl)
theorem dX0_play_3 : decode cX0_play 3 = .ok (.invokevirtual 178, 3) := dk_182 0 178 (dk_at dksX0_play_0 3 rfl rfl)
theorem dX0_play_6 : decode cX0_play 6 = .ok (.i2l, 1) := dk_133 (dk_at dksX0_play_0 6 rfl rfl)
theorem dX0_play_7 : decode cX0_play 7 = .ok (.lastore, 1) := dk_80 (dk_at dksX0_play_0 7 rfl rfl)
theorem dX0_play_8 : decode cX0_play 8 = .ok (.goto 6, 3) := dk_167 0 6 (dk_at dksX0_play_0 8 rfl rfl)
theorem dX0_play_11 : decode cX0_play 11 = .ok (.astore_n 2, 1) := dk_77 (dk_at dksX0_play_0 11 rfl rfl)
theorem dX0_play_12 : decode cX0_play 12 = .ok (.iconst 1, 1) := dk_4 (dk_at dksX0_play_0 12 rfl rfl)
theorem dX0_play_13 : decode cX0_play 13 = .ok (.ireturn, 1) := dk_172 (dk_at dksX0_play_0 13 rfl rfl)
theorem dX0_play_14 : decode cX0_play 14 = .ok (.iconst 0, 1) := dk_3 (dk_at dksX0_play_0 14 rfl rfl)
theorem dX0_play_15 : decode cX0_play 15 = .ok (.ireturn, 1) := dk_172 (dk_at dksX0_play_0 15 rfl rfl)
theorem q74 : (Jvm.Cond.initialized "ClockworkOrreriesLaw") ∈ lw_all := lw_g (lw_at lw_m1 0 rfl) rfl
theorem q110 : (Jvm.Cond.classLink "ClockworkOrreriesLaw" (8 : Nat) "ClockworkOrreries") ∈ lw_all := lw_g (lw_at lw_m1 36 rfl) rfl
theorem q112 : (Jvm.Cond.methodLink "ClockworkOrreriesLaw" (181 : Nat) ({ cls := "ClockworkOrreries", name := "<init>", desc := "()V" } : Jvm.MethodName)) ∈ lw_all := lw_g (lw_at lw_m1 38 rfl) rfl
theorem q258 : (Jvm.Cond.methodLink "ClockworkOrreriesLaw" (226 : Nat) ({ cls := "ClockworkOrreries", name := "axles", desc := "()I" } : Jvm.MethodName)) ∈ lw_all := lw_g (lw_at lw_m1 184 rfl) rfl
theorem q262 : (Jvm.Cond.methodLink "ClockworkOrreriesLaw" (230 : Nat) ({ cls := "ClockworkOrreries", name := "wheels", desc := "()I" } : Jvm.MethodName)) ∈ lw_all := lw_g (lw_at lw_m1 188 rfl) rfl
theorem q270 : (Jvm.Cond.methodLink "ClockworkOrreriesLaw" (234 : Nat) ({ cls := "ClockworkOrreries", name := "pairs", desc := "()I" } : Jvm.MethodName)) ∈ lw_all := lw_g (lw_at lw_m1 196 rfl) rfl
theorem q274 : (Jvm.Cond.methodLink "ClockworkOrreriesLaw" (281 : Nat) ({ cls := "ClockworkOrreries", name := "arms", desc := "()I" } : Jvm.MethodName)) ∈ lw_all := lw_g (lw_at lw_m1 200 rfl) rfl
theorem q278 : (Jvm.Cond.methodLink "ClockworkOrreriesLaw" (285 : Nat) ({ cls := "ClockworkOrreries", name := "moons", desc := "()I" } : Jvm.MethodName)) ∈ lw_all := lw_g (lw_at lw_m1 204 rfl) rfl
theorem q282 : (Jvm.Cond.methodLink "ClockworkOrreriesLaw" (327 : Nat) ({ cls := "ClockworkOrreries", name := "day", desc := "()I" } : Jvm.MethodName)) ∈ lw_all := lw_g (lw_at lw_m1 208 rfl) rfl
theorem q286 : (Jvm.Cond.methodLink "ClockworkOrreriesLaw" (331 : Nat) ({ cls := "ClockworkOrreries", name := "date", desc := "()I" } : Jvm.MethodName)) ∈ lw_all := lw_g (lw_at lw_m1 212 rfl) rfl
theorem q302 : (Jvm.Cond.methodLink "ClockworkOrreriesLaw" (335 : Nat) ({ cls := "ClockworkOrreries", name := "dateByRule", desc := "()I" } : Jvm.MethodName)) ∈ lw_all := lw_g (lw_at lw_m1 228 rfl) rfl
theorem q317 : (Jvm.Cond.methodLink "ClockworkOrreriesLaw" (342 : Nat) ({ cls := "ClockworkOrreries", name := "weekday", desc := "()I" } : Jvm.MethodName)) ∈ lw_all := lw_g (lw_at lw_m2 3 rfl) rfl
theorem q321 : (Jvm.Cond.methodLink "ClockworkOrreriesLaw" (349 : Nat) ({ cls := "ClockworkOrreries", name := "dayOfYear", desc := "()I" } : Jvm.MethodName)) ∈ lw_all := lw_g (lw_at lw_m2 7 rfl) rfl
theorem q328 : (Jvm.Cond.methodLink "ClockworkOrreriesLaw" (372 : Nat) ({ cls := "ClockworkOrreries", name := "passed", desc := "()I" } : Jvm.MethodName)) ∈ lw_all := lw_g (lw_at lw_m2 14 rfl) rfl
theorem q332 : (Jvm.Cond.methodLink "ClockworkOrreriesLaw" (376 : Nat) ({ cls := "ClockworkOrreries", name := "driven", desc := "()I" } : Jvm.MethodName)) ∈ lw_all := lw_g (lw_at lw_m2 18 rfl) rfl
theorem q415 : (Jvm.Cond.methodLink "ClockworkOrreriesLaw" (380 : Nat) ({ cls := "ClockworkOrreries", name := "allTeeth", desc := "()I" } : Jvm.MethodName)) ∈ lw_all := lw_g (lw_at lw_m2 101 rfl) rfl
theorem q421 : (Jvm.Cond.methodLink "ClockworkOrreriesLaw" (384 : Nat) ({ cls := "ClockworkOrreries", name := "keep", desc := "()I" } : Jvm.MethodName)) ∈ lw_all := lw_g (lw_at lw_m2 107 rfl) rfl
theorem q425 : (Jvm.Cond.methodLink "ClockworkOrreriesLaw" (391 : Nat) ({ cls := "ClockworkOrreries", name := "states", desc := "()I" } : Jvm.MethodName)) ∈ lw_all := lw_g (lw_at lw_m2 111 rfl) rfl
theorem q436 : (Jvm.Cond.methodLink "ClockworkOrreriesLaw" (401 : Nat) ({ cls := "ClockworkOrreries", name := "clearText", desc := "()I" } : Jvm.MethodName)) ∈ lw_all := lw_g (lw_at lw_m2 122 rfl) rfl
theorem q736 : (Jvm.Cond.methodLink "ClockworkOrreriesLaw" (185 : Nat) ({ cls := "ClockworkOrreriesLaw", name := "addAxle", desc := "(LClockworkOrreries;[J)I" } : Jvm.MethodName)) ∈ lw_all := lw_g (lw_at lw_m3 182 rfl) rfl
theorem q737 : (Jvm.Cond.static ({ cls := "ClockworkOrreriesLaw", name := "addAxle", desc := "(LClockworkOrreries;[J)I" } : Jvm.MethodName)) ∈ lw_all := lw_g (lw_at lw_m3 183 rfl) rfl
theorem q738 : (Jvm.Cond.codeWith ({ cls := "ClockworkOrreriesLaw", name := "addAxle", desc := "(LClockworkOrreries;[J)I" } : Jvm.MethodName) method_3_code (3 : Nat) (Option.some Jvm.ClassFile.FieldType.int) [((0 : Nat), (8 : Nat), (11 : Nat), (13 : Nat))]) ∈ lw_all := lw_g (lw_at lw_m3 184 rfl) rfl
theorem q739 : (Jvm.Cond.classLink "ClockworkOrreriesLaw" (13 : Nat) "java/lang/IllegalStateException") ∈ lw_all := lw_g (lw_at lw_m3 185 rfl) rfl
theorem q740 : (Jvm.Cond.methodLink "ClockworkOrreriesLaw" (7 : Nat) ({ cls := "ClockworkOrreries", name := "addAxle", desc := "()I" } : Jvm.MethodName)) ∈ lw_all := lw_g (lw_at lw_m3 186 rfl) rfl
theorem q1057 : (Jvm.Cond.methodLink "ClockworkOrreriesLaw" (194 : Nat) ({ cls := "ClockworkOrreriesLaw", name := "addWheel", desc := "(LClockworkOrreries;II[J)I" } : Jvm.MethodName)) ∈ lw_all := lw_g (lw_at lw_m5 23 rfl) rfl
theorem q1058 : (Jvm.Cond.static ({ cls := "ClockworkOrreriesLaw", name := "addWheel", desc := "(LClockworkOrreries;II[J)I" } : Jvm.MethodName)) ∈ lw_all := lw_g (lw_at lw_m5 24 rfl) rfl
theorem q1059 : (Jvm.Cond.codeWith ({ cls := "ClockworkOrreriesLaw", name := "addWheel", desc := "(LClockworkOrreries;II[J)I" } : Jvm.MethodName) method_4_code (5 : Nat) (Option.some Jvm.ClassFile.FieldType.int) [((0 : Nat), (10 : Nat), (13 : Nat), (19 : Nat)), ((0 : Nat), (10 : Nat), (17 : Nat), (13 : Nat))]) ∈ lw_all := lw_g (lw_at lw_m5 25 rfl) rfl
theorem q1060 : (Jvm.Cond.classLink "ClockworkOrreriesLaw" (19 : Nat) "java/lang/IllegalArgumentException") ∈ lw_all := lw_g (lw_at lw_m5 26 rfl) rfl
theorem q1061 : (Jvm.Cond.methodLink "ClockworkOrreriesLaw" (15 : Nat) ({ cls := "ClockworkOrreries", name := "addWheel", desc := "(II)I" } : Jvm.MethodName)) ∈ lw_all := lw_g (lw_at lw_m5 27 rfl) rfl
theorem q1065 : (Jvm.Cond.methodLink "ClockworkOrreriesLaw" (198 : Nat) ({ cls := "ClockworkOrreriesLaw", name := "mesh", desc := "(LClockworkOrreries;II[J)I" } : Jvm.MethodName)) ∈ lw_all := lw_g (lw_at lw_m5 31 rfl) rfl
theorem q1066 : (Jvm.Cond.static ({ cls := "ClockworkOrreriesLaw", name := "mesh", desc := "(LClockworkOrreries;II[J)I" } : Jvm.MethodName)) ∈ lw_all := lw_g (lw_at lw_m5 32 rfl) rfl
theorem q1067 : (Jvm.Cond.codeWith ({ cls := "ClockworkOrreriesLaw", name := "mesh", desc := "(LClockworkOrreries;II[J)I" } : Jvm.MethodName) method_5_code (5 : Nat) (Option.some Jvm.ClassFile.FieldType.int) [((0 : Nat), (10 : Nat), (13 : Nat), (19 : Nat)), ((0 : Nat), (10 : Nat), (17 : Nat), (13 : Nat))]) ∈ lw_all := lw_g (lw_at lw_m5 33 rfl) rfl
theorem q1068 : (Jvm.Cond.methodLink "ClockworkOrreriesLaw" (21 : Nat) ({ cls := "ClockworkOrreries", name := "mesh", desc := "(II)I" } : Jvm.MethodName)) ∈ lw_all := lw_g (lw_at lw_m5 34 rfl) rfl
theorem q1072 : (Jvm.Cond.methodLink "ClockworkOrreriesLaw" (201 : Nat) ({ cls := "ClockworkOrreriesLaw", name := "unmesh", desc := "(LClockworkOrreries;I[J)I" } : Jvm.MethodName)) ∈ lw_all := lw_g (lw_at lw_m5 38 rfl) rfl
theorem q1073 : (Jvm.Cond.static ({ cls := "ClockworkOrreriesLaw", name := "unmesh", desc := "(LClockworkOrreries;I[J)I" } : Jvm.MethodName)) ∈ lw_all := lw_g (lw_at lw_m5 39 rfl) rfl
theorem q1074 : (Jvm.Cond.codeWith ({ cls := "ClockworkOrreriesLaw", name := "unmesh", desc := "(LClockworkOrreries;I[J)I" } : Jvm.MethodName) method_6_code (4 : Nat) (Option.some Jvm.ClassFile.FieldType.int) [((0 : Nat), (9 : Nat), (12 : Nat), (19 : Nat)), ((0 : Nat), (9 : Nat), (15 : Nat), (13 : Nat))]) ∈ lw_all := lw_g (lw_at lw_m5 40 rfl) rfl
theorem q1075 : (Jvm.Cond.methodLink "ClockworkOrreriesLaw" (24 : Nat) ({ cls := "ClockworkOrreries", name := "unmesh", desc := "(I)I" } : Jvm.MethodName)) ∈ lw_all := lw_g (lw_at lw_m5 41 rfl) rfl
theorem q1079 : (Jvm.Cond.methodLink "ClockworkOrreriesLaw" (205 : Nat) ({ cls := "ClockworkOrreriesLaw", name := "setTeeth", desc := "(LClockworkOrreries;II[J)I" } : Jvm.MethodName)) ∈ lw_all := lw_g (lw_at lw_m5 45 rfl) rfl
theorem q1080 : (Jvm.Cond.static ({ cls := "ClockworkOrreriesLaw", name := "setTeeth", desc := "(LClockworkOrreries;II[J)I" } : Jvm.MethodName)) ∈ lw_all := lw_g (lw_at lw_m5 46 rfl) rfl
theorem q1081 : (Jvm.Cond.codeWith ({ cls := "ClockworkOrreriesLaw", name := "setTeeth", desc := "(LClockworkOrreries;II[J)I" } : Jvm.MethodName) method_7_code (5 : Nat) (Option.some Jvm.ClassFile.FieldType.int) [((0 : Nat), (10 : Nat), (13 : Nat), (19 : Nat)), ((0 : Nat), (10 : Nat), (17 : Nat), (13 : Nat))]) ∈ lw_all := lw_g (lw_at lw_m5 47 rfl) rfl
theorem q1082 : (Jvm.Cond.methodLink "ClockworkOrreriesLaw" (28 : Nat) ({ cls := "ClockworkOrreries", name := "setTeeth", desc := "(II)I" } : Jvm.MethodName)) ∈ lw_all := lw_g (lw_at lw_m5 48 rfl) rfl
theorem q1086 : (Jvm.Cond.methodLink "ClockworkOrreriesLaw" (208 : Nat) ({ cls := "ClockworkOrreriesLaw", name := "addArm", desc := "(LClockworkOrreries;II[J)I" } : Jvm.MethodName)) ∈ lw_all := lw_g (lw_at lw_m5 52 rfl) rfl
theorem q1087 : (Jvm.Cond.static ({ cls := "ClockworkOrreriesLaw", name := "addArm", desc := "(LClockworkOrreries;II[J)I" } : Jvm.MethodName)) ∈ lw_all := lw_g (lw_at lw_m5 53 rfl) rfl
theorem q1088 : (Jvm.Cond.codeWith ({ cls := "ClockworkOrreriesLaw", name := "addArm", desc := "(LClockworkOrreries;II[J)I" } : Jvm.MethodName) method_8_code (5 : Nat) (Option.some Jvm.ClassFile.FieldType.int) [((0 : Nat), (10 : Nat), (13 : Nat), (19 : Nat)), ((0 : Nat), (10 : Nat), (17 : Nat), (13 : Nat))]) ∈ lw_all := lw_g (lw_at lw_m5 54 rfl) rfl
theorem q1089 : (Jvm.Cond.methodLink "ClockworkOrreriesLaw" (31 : Nat) ({ cls := "ClockworkOrreries", name := "addArm", desc := "(II)I" } : Jvm.MethodName)) ∈ lw_all := lw_g (lw_at lw_m5 55 rfl) rfl
theorem q1093 : (Jvm.Cond.methodLink "ClockworkOrreriesLaw" (211 : Nat) ({ cls := "ClockworkOrreriesLaw", name := "setBend", desc := "(LClockworkOrreries;II[J)I" } : Jvm.MethodName)) ∈ lw_all := lw_g (lw_at lw_m5 59 rfl) rfl
theorem q1094 : (Jvm.Cond.static ({ cls := "ClockworkOrreriesLaw", name := "setBend", desc := "(LClockworkOrreries;II[J)I" } : Jvm.MethodName)) ∈ lw_all := lw_g (lw_at lw_m5 60 rfl) rfl
theorem q1095 : (Jvm.Cond.codeWith ({ cls := "ClockworkOrreriesLaw", name := "setBend", desc := "(LClockworkOrreries;II[J)I" } : Jvm.MethodName) method_9_code (5 : Nat) (Option.some Jvm.ClassFile.FieldType.int) [((0 : Nat), (10 : Nat), (13 : Nat), (19 : Nat))]) ∈ lw_all := lw_g (lw_at lw_m5 61 rfl) rfl
theorem q1096 : (Jvm.Cond.methodLink "ClockworkOrreriesLaw" (34 : Nat) ({ cls := "ClockworkOrreries", name := "setBend", desc := "(II)I" } : Jvm.MethodName)) ∈ lw_all := lw_g (lw_at lw_m5 62 rfl) rfl
theorem q1100 : (Jvm.Cond.methodLink "ClockworkOrreriesLaw" (214 : Nat) ({ cls := "ClockworkOrreriesLaw", name := "addMoon", desc := "(LClockworkOrreries;II[J)I" } : Jvm.MethodName)) ∈ lw_all := lw_g (lw_at lw_m5 66 rfl) rfl
theorem q1101 : (Jvm.Cond.static ({ cls := "ClockworkOrreriesLaw", name := "addMoon", desc := "(LClockworkOrreries;II[J)I" } : Jvm.MethodName)) ∈ lw_all := lw_g (lw_at lw_m5 67 rfl) rfl
theorem q1102 : (Jvm.Cond.codeWith ({ cls := "ClockworkOrreriesLaw", name := "addMoon", desc := "(LClockworkOrreries;II[J)I" } : Jvm.MethodName) method_10_code (5 : Nat) (Option.some Jvm.ClassFile.FieldType.int) [((0 : Nat), (10 : Nat), (13 : Nat), (19 : Nat)), ((0 : Nat), (10 : Nat), (17 : Nat), (13 : Nat))]) ∈ lw_all := lw_g (lw_at lw_m5 68 rfl) rfl
theorem q1103 : (Jvm.Cond.methodLink "ClockworkOrreriesLaw" (37 : Nat) ({ cls := "ClockworkOrreries", name := "addMoon", desc := "(II)I" } : Jvm.MethodName)) ∈ lw_all := lw_g (lw_at lw_m5 69 rfl) rfl
theorem q1107 : (Jvm.Cond.methodLink "ClockworkOrreriesLaw" (217 : Nat) ({ cls := "ClockworkOrreriesLaw", name := "setPeriod", desc := "(LClockworkOrreries;II[J)I" } : Jvm.MethodName)) ∈ lw_all := lw_g (lw_at lw_m5 73 rfl) rfl
theorem q1108 : (Jvm.Cond.static ({ cls := "ClockworkOrreriesLaw", name := "setPeriod", desc := "(LClockworkOrreries;II[J)I" } : Jvm.MethodName)) ∈ lw_all := lw_g (lw_at lw_m5 74 rfl) rfl
theorem q1109 : (Jvm.Cond.codeWith ({ cls := "ClockworkOrreriesLaw", name := "setPeriod", desc := "(LClockworkOrreries;II[J)I" } : Jvm.MethodName) method_11_code (5 : Nat) (Option.some Jvm.ClassFile.FieldType.int) [((0 : Nat), (10 : Nat), (13 : Nat), (19 : Nat))]) ∈ lw_all := lw_g (lw_at lw_m5 75 rfl) rfl
theorem q1110 : (Jvm.Cond.methodLink "ClockworkOrreriesLaw" (40 : Nat) ({ cls := "ClockworkOrreries", name := "setPeriod", desc := "(II)I" } : Jvm.MethodName)) ∈ lw_all := lw_g (lw_at lw_m5 76 rfl) rfl
theorem q1114 : (Jvm.Cond.methodLink "ClockworkOrreriesLaw" (220 : Nat) ({ cls := "ClockworkOrreriesLaw", name := "pass", desc := "(LClockworkOrreries;I[J)I" } : Jvm.MethodName)) ∈ lw_all := lw_g (lw_at lw_m5 80 rfl) rfl
theorem q1115 : (Jvm.Cond.static ({ cls := "ClockworkOrreriesLaw", name := "pass", desc := "(LClockworkOrreries;I[J)I" } : Jvm.MethodName)) ∈ lw_all := lw_g (lw_at lw_m5 81 rfl) rfl
theorem q1116 : (Jvm.Cond.codeWith ({ cls := "ClockworkOrreriesLaw", name := "pass", desc := "(LClockworkOrreries;I[J)I" } : Jvm.MethodName) method_12_code (4 : Nat) (Option.some Jvm.ClassFile.FieldType.int) [((0 : Nat), (9 : Nat), (12 : Nat), (19 : Nat)), ((0 : Nat), (9 : Nat), (15 : Nat), (13 : Nat))]) ∈ lw_all := lw_g (lw_at lw_m5 82 rfl) rfl
theorem q1117 : (Jvm.Cond.methodLink "ClockworkOrreriesLaw" (43 : Nat) ({ cls := "ClockworkOrreries", name := "pass", desc := "(I)I" } : Jvm.MethodName)) ∈ lw_all := lw_g (lw_at lw_m5 83 rfl) rfl
theorem q1121 : (Jvm.Cond.methodLink "ClockworkOrreriesLaw" (223 : Nat) ({ cls := "ClockworkOrreriesLaw", name := "setDay", desc := "(LClockworkOrreries;I[J)I" } : Jvm.MethodName)) ∈ lw_all := lw_g (lw_at lw_m5 87 rfl) rfl
theorem q1122 : (Jvm.Cond.static ({ cls := "ClockworkOrreriesLaw", name := "setDay", desc := "(LClockworkOrreries;I[J)I" } : Jvm.MethodName)) ∈ lw_all := lw_g (lw_at lw_m5 88 rfl) rfl
theorem q1123 : (Jvm.Cond.codeWith ({ cls := "ClockworkOrreriesLaw", name := "setDay", desc := "(LClockworkOrreries;I[J)I" } : Jvm.MethodName) method_13_code (4 : Nat) (Option.some Jvm.ClassFile.FieldType.int) [((0 : Nat), (9 : Nat), (12 : Nat), (19 : Nat))]) ∈ lw_all := lw_g (lw_at lw_m5 89 rfl) rfl
theorem q1124 : (Jvm.Cond.methodLink "ClockworkOrreriesLaw" (46 : Nat) ({ cls := "ClockworkOrreries", name := "setDay", desc := "(I)I" } : Jvm.MethodName)) ∈ lw_all := lw_g (lw_at lw_m5 90 rfl) rfl
theorem q1128 : (Jvm.Cond.methodLink "ClockworkOrreriesLaw" (238 : Nat) ({ cls := "ClockworkOrreriesLaw", name := "teethOf", desc := "(LClockworkOrreries;I[J)I" } : Jvm.MethodName)) ∈ lw_all := lw_g (lw_at lw_m5 94 rfl) rfl
theorem q1129 : (Jvm.Cond.static ({ cls := "ClockworkOrreriesLaw", name := "teethOf", desc := "(LClockworkOrreries;I[J)I" } : Jvm.MethodName)) ∈ lw_all := lw_g (lw_at lw_m5 95 rfl) rfl
theorem q1130 : (Jvm.Cond.codeWith ({ cls := "ClockworkOrreriesLaw", name := "teethOf", desc := "(LClockworkOrreries;I[J)I" } : Jvm.MethodName) method_14_code (4 : Nat) (Option.some Jvm.ClassFile.FieldType.int) [((0 : Nat), (9 : Nat), (12 : Nat), (19 : Nat))]) ∈ lw_all := lw_g (lw_at lw_m5 96 rfl) rfl
theorem q1131 : (Jvm.Cond.methodLink "ClockworkOrreriesLaw" (49 : Nat) ({ cls := "ClockworkOrreries", name := "teethOf", desc := "(I)I" } : Jvm.MethodName)) ∈ lw_all := lw_g (lw_at lw_m5 97 rfl) rfl
theorem q1143 : (Jvm.Cond.methodLink "ClockworkOrreriesLaw" (241 : Nat) ({ cls := "ClockworkOrreriesLaw", name := "axleOf", desc := "(LClockworkOrreries;I[J)I" } : Jvm.MethodName)) ∈ lw_all := lw_g (lw_at lw_m5 109 rfl) rfl
theorem q1144 : (Jvm.Cond.static ({ cls := "ClockworkOrreriesLaw", name := "axleOf", desc := "(LClockworkOrreries;I[J)I" } : Jvm.MethodName)) ∈ lw_all := lw_g (lw_at lw_m5 110 rfl) rfl
theorem q1145 : (Jvm.Cond.codeWith ({ cls := "ClockworkOrreriesLaw", name := "axleOf", desc := "(LClockworkOrreries;I[J)I" } : Jvm.MethodName) method_15_code (4 : Nat) (Option.some Jvm.ClassFile.FieldType.int) [((0 : Nat), (9 : Nat), (12 : Nat), (19 : Nat))]) ∈ lw_all := lw_g (lw_at lw_m5 111 rfl) rfl
theorem q1146 : (Jvm.Cond.methodLink "ClockworkOrreriesLaw" (52 : Nat) ({ cls := "ClockworkOrreries", name := "axleOf", desc := "(I)I" } : Jvm.MethodName)) ∈ lw_all := lw_g (lw_at lw_m5 112 rfl) rfl
theorem q1150 : (Jvm.Cond.methodLink "ClockworkOrreriesLaw" (244 : Nat) ({ cls := "ClockworkOrreriesLaw", name := "whyNotMesh", desc := "(LClockworkOrreries;II[J)I" } : Jvm.MethodName)) ∈ lw_all := lw_g (lw_at lw_m5 116 rfl) rfl
theorem q1151 : (Jvm.Cond.static ({ cls := "ClockworkOrreriesLaw", name := "whyNotMesh", desc := "(LClockworkOrreries;II[J)I" } : Jvm.MethodName)) ∈ lw_all := lw_g (lw_at lw_m5 117 rfl) rfl
theorem q1152 : (Jvm.Cond.codeWith ({ cls := "ClockworkOrreriesLaw", name := "whyNotMesh", desc := "(LClockworkOrreries;II[J)I" } : Jvm.MethodName) method_16_code (5 : Nat) (Option.some Jvm.ClassFile.FieldType.int) [((0 : Nat), (10 : Nat), (13 : Nat), (19 : Nat))]) ∈ lw_all := lw_g (lw_at lw_m5 118 rfl) rfl
theorem q1153 : (Jvm.Cond.methodLink "ClockworkOrreriesLaw" (55 : Nat) ({ cls := "ClockworkOrreries", name := "whyNotMesh", desc := "(II)I" } : Jvm.MethodName)) ∈ lw_all := lw_g (lw_at lw_m5 119 rfl) rfl
theorem q1159 : (Jvm.Cond.methodLink "ClockworkOrreriesLaw" (247 : Nat) ({ cls := "ClockworkOrreriesLaw", name := "isDriven", desc := "(LClockworkOrreries;I[J)I" } : Jvm.MethodName)) ∈ lw_all := lw_g (lw_at lw_m5 125 rfl) rfl
theorem q1160 : (Jvm.Cond.static ({ cls := "ClockworkOrreriesLaw", name := "isDriven", desc := "(LClockworkOrreries;I[J)I" } : Jvm.MethodName)) ∈ lw_all := lw_g (lw_at lw_m5 126 rfl) rfl
theorem q1161 : (Jvm.Cond.codeWith ({ cls := "ClockworkOrreriesLaw", name := "isDriven", desc := "(LClockworkOrreries;I[J)I" } : Jvm.MethodName) method_17_code (4 : Nat) (Option.some Jvm.ClassFile.FieldType.int) [((0 : Nat), (16 : Nat), (19 : Nat), (19 : Nat))]) ∈ lw_all := lw_g (lw_at lw_m5 127 rfl) rfl
theorem q1162 : (Jvm.Cond.methodLink "ClockworkOrreriesLaw" (58 : Nat) ({ cls := "ClockworkOrreries", name := "isDriven", desc := "(I)Z" } : Jvm.MethodName)) ∈ lw_all := lw_g (lw_at lw_m5 128 rfl) rfl
theorem q1168 : (Jvm.Cond.methodLink "ClockworkOrreriesLaw" (250 : Nat) ({ cls := "ClockworkOrreriesLaw", name := "wayTo", desc := "(LClockworkOrreries;I[J)I" } : Jvm.MethodName)) ∈ lw_all := lw_g (lw_at lw_m5 134 rfl) rfl
theorem q1169 : (Jvm.Cond.static ({ cls := "ClockworkOrreriesLaw", name := "wayTo", desc := "(LClockworkOrreries;I[J)I" } : Jvm.MethodName)) ∈ lw_all := lw_g (lw_at lw_m5 135 rfl) rfl
theorem q1170 : (Jvm.Cond.codeWith ({ cls := "ClockworkOrreriesLaw", name := "wayTo", desc := "(LClockworkOrreries;I[J)I" } : Jvm.MethodName) method_18_code (4 : Nat) (Option.some Jvm.ClassFile.FieldType.int) [((0 : Nat), (9 : Nat), (12 : Nat), (19 : Nat)), ((0 : Nat), (9 : Nat), (15 : Nat), (65 : Nat))]) ∈ lw_all := lw_g (lw_at lw_m5 136 rfl) rfl
theorem q1171 : (Jvm.Cond.classLink "ClockworkOrreriesLaw" (65 : Nat) "java/util/NoSuchElementException") ∈ lw_all := lw_g (lw_at lw_m5 137 rfl) rfl
theorem q1172 : (Jvm.Cond.methodLink "ClockworkOrreriesLaw" (62 : Nat) ({ cls := "ClockworkOrreries", name := "wayTo", desc := "(I)I" } : Jvm.MethodName)) ∈ lw_all := lw_g (lw_at lw_m5 138 rfl) rfl
theorem q1189 : (Jvm.Cond.methodLink "ClockworkOrreriesLaw" (253 : Nat) ({ cls := "ClockworkOrreriesLaw", name := "ratioAbove", desc := "(LClockworkOrreries;I[J)I" } : Jvm.MethodName)) ∈ lw_all := lw_g (lw_at lw_m5 155 rfl) rfl
theorem q1190 : (Jvm.Cond.static ({ cls := "ClockworkOrreriesLaw", name := "ratioAbove", desc := "(LClockworkOrreries;I[J)I" } : Jvm.MethodName)) ∈ lw_all := lw_g (lw_at lw_m5 156 rfl) rfl
theorem q1191 : (Jvm.Cond.codeWith ({ cls := "ClockworkOrreriesLaw", name := "ratioAbove", desc := "(LClockworkOrreries;I[J)I" } : Jvm.MethodName) method_19_code (4 : Nat) (Option.some Jvm.ClassFile.FieldType.int) [((0 : Nat), (8 : Nat), (11 : Nat), (19 : Nat)), ((0 : Nat), (8 : Nat), (14 : Nat), (65 : Nat))]) ∈ lw_all := lw_g (lw_at lw_m5 157 rfl) rfl
theorem q1192 : (Jvm.Cond.methodLink "ClockworkOrreriesLaw" (67 : Nat) ({ cls := "ClockworkOrreries", name := "ratioAbove", desc := "(I)J" } : Jvm.MethodName)) ∈ lw_all := lw_g (lw_at lw_m5 158 rfl) rfl
theorem q1196 : (Jvm.Cond.methodLink "ClockworkOrreriesLaw" (256 : Nat) ({ cls := "ClockworkOrreriesLaw", name := "ratioBelow", desc := "(LClockworkOrreries;I[J)I" } : Jvm.MethodName)) ∈ lw_all := lw_g (lw_at lw_m5 162 rfl) rfl
theorem q1197 : (Jvm.Cond.static ({ cls := "ClockworkOrreriesLaw", name := "ratioBelow", desc := "(LClockworkOrreries;I[J)I" } : Jvm.MethodName)) ∈ lw_all := lw_g (lw_at lw_m5 163 rfl) rfl
theorem q1198 : (Jvm.Cond.codeWith ({ cls := "ClockworkOrreriesLaw", name := "ratioBelow", desc := "(LClockworkOrreries;I[J)I" } : Jvm.MethodName) method_20_code (4 : Nat) (Option.some Jvm.ClassFile.FieldType.int) [((0 : Nat), (8 : Nat), (11 : Nat), (19 : Nat)), ((0 : Nat), (8 : Nat), (14 : Nat), (65 : Nat))]) ∈ lw_all := lw_g (lw_at lw_m5 164 rfl) rfl
theorem q1199 : (Jvm.Cond.methodLink "ClockworkOrreriesLaw" (71 : Nat) ({ cls := "ClockworkOrreries", name := "ratioBelow", desc := "(I)J" } : Jvm.MethodName)) ∈ lw_all := lw_g (lw_at lw_m5 165 rfl) rfl
theorem q1203 : (Jvm.Cond.methodLink "ClockworkOrreriesLaw" (259 : Nat) ({ cls := "ClockworkOrreriesLaw", name := "isRatioByTeeth", desc := "(LClockworkOrreries;I[J)I" } : Jvm.MethodName)) ∈ lw_all := lw_g (lw_at lw_m5 169 rfl) rfl
theorem q1204 : (Jvm.Cond.static ({ cls := "ClockworkOrreriesLaw", name := "isRatioByTeeth", desc := "(LClockworkOrreries;I[J)I" } : Jvm.MethodName)) ∈ lw_all := lw_g (lw_at lw_m5 170 rfl) rfl
theorem q1205 : (Jvm.Cond.codeWith ({ cls := "ClockworkOrreriesLaw", name := "isRatioByTeeth", desc := "(LClockworkOrreries;I[J)I" } : Jvm.MethodName) method_21_code (4 : Nat) (Option.some Jvm.ClassFile.FieldType.int) [((0 : Nat), (16 : Nat), (19 : Nat), (19 : Nat)), ((0 : Nat), (16 : Nat), (22 : Nat), (65 : Nat))]) ∈ lw_all := lw_g (lw_at lw_m5 171 rfl) rfl
theorem q1206 : (Jvm.Cond.methodLink "ClockworkOrreriesLaw" (74 : Nat) ({ cls := "ClockworkOrreries", name := "isRatioByTeeth", desc := "(I)Z" } : Jvm.MethodName)) ∈ lw_all := lw_g (lw_at lw_m5 172 rfl) rfl
theorem q1214 : (Jvm.Cond.methodLink "ClockworkOrreriesLaw" (262 : Nat) ({ cls := "ClockworkOrreriesLaw", name := "turnsOf", desc := "(LClockworkOrreries;I[J)I" } : Jvm.MethodName)) ∈ lw_all := lw_g (lw_at lw_m5 180 rfl) rfl
theorem q1215 : (Jvm.Cond.static ({ cls := "ClockworkOrreriesLaw", name := "turnsOf", desc := "(LClockworkOrreries;I[J)I" } : Jvm.MethodName)) ∈ lw_all := lw_g (lw_at lw_m5 181 rfl) rfl
theorem q1216 : (Jvm.Cond.codeWith ({ cls := "ClockworkOrreriesLaw", name := "turnsOf", desc := "(LClockworkOrreries;I[J)I" } : Jvm.MethodName) method_22_code (4 : Nat) (Option.some Jvm.ClassFile.FieldType.int) [((0 : Nat), (8 : Nat), (11 : Nat), (19 : Nat)), ((0 : Nat), (8 : Nat), (14 : Nat), (65 : Nat))]) ∈ lw_all := lw_g (lw_at lw_m5 182 rfl) rfl
theorem q1217 : (Jvm.Cond.methodLink "ClockworkOrreriesLaw" (77 : Nat) ({ cls := "ClockworkOrreries", name := "turnsOf", desc := "(I)J" } : Jvm.MethodName)) ∈ lw_all := lw_g (lw_at lw_m5 183 rfl) rfl
theorem q1221 : (Jvm.Cond.methodLink "ClockworkOrreriesLaw" (265 : Nat) ({ cls := "ClockworkOrreriesLaw", name := "wheelOf", desc := "(LClockworkOrreries;IZ[J)I" } : Jvm.MethodName)) ∈ lw_all := lw_g (lw_at lw_m5 187 rfl) rfl
theorem q1222 : (Jvm.Cond.static ({ cls := "ClockworkOrreriesLaw", name := "wheelOf", desc := "(LClockworkOrreries;IZ[J)I" } : Jvm.MethodName)) ∈ lw_all := lw_g (lw_at lw_m5 188 rfl) rfl
theorem q1223 : (Jvm.Cond.codeWith ({ cls := "ClockworkOrreriesLaw", name := "wheelOf", desc := "(LClockworkOrreries;IZ[J)I" } : Jvm.MethodName) method_23_code (5 : Nat) (Option.some Jvm.ClassFile.FieldType.int) [((0 : Nat), (10 : Nat), (13 : Nat), (19 : Nat))]) ∈ lw_all := lw_g (lw_at lw_m5 189 rfl) rfl
theorem q1224 : (Jvm.Cond.methodLink "ClockworkOrreriesLaw" (80 : Nat) ({ cls := "ClockworkOrreries", name := "wheelOf", desc := "(IZ)I" } : Jvm.MethodName)) ∈ lw_all := lw_g (lw_at lw_m5 190 rfl) rfl
theorem q1229 : (Jvm.Cond.methodLink "ClockworkOrreriesLaw" (269 : Nat) ({ cls := "ClockworkOrreriesLaw", name := "sameTeethIn", desc := "(LClockworkOrreries;I[J)I" } : Jvm.MethodName)) ∈ lw_all := lw_g (lw_at lw_m5 195 rfl) rfl
theorem q1230 : (Jvm.Cond.static ({ cls := "ClockworkOrreriesLaw", name := "sameTeethIn", desc := "(LClockworkOrreries;I[J)I" } : Jvm.MethodName)) ∈ lw_all := lw_g (lw_at lw_m5 196 rfl) rfl
theorem q1231 : (Jvm.Cond.codeWith ({ cls := "ClockworkOrreriesLaw", name := "sameTeethIn", desc := "(LClockworkOrreries;I[J)I" } : Jvm.MethodName) method_24_code (4 : Nat) (Option.some Jvm.ClassFile.FieldType.int) [((0 : Nat), (9 : Nat), (12 : Nat), (19 : Nat))]) ∈ lw_all := lw_g (lw_at lw_m5 197 rfl) rfl
theorem q1232 : (Jvm.Cond.methodLink "ClockworkOrreriesLaw" (84 : Nat) ({ cls := "ClockworkOrreries", name := "sameTeethIn", desc := "(I)I" } : Jvm.MethodName)) ∈ lw_all := lw_g (lw_at lw_m5 198 rfl) rfl
theorem q1241 : (Jvm.Cond.methodLink "ClockworkOrreriesLaw" (272 : Nat) ({ cls := "ClockworkOrreriesLaw", name := "sameTeethByGoing", desc := "(LClockworkOrreries;I[J)I" } : Jvm.MethodName)) ∈ lw_all := lw_g (lw_at lw_m5 207 rfl) rfl
theorem q1242 : (Jvm.Cond.static ({ cls := "ClockworkOrreriesLaw", name := "sameTeethByGoing", desc := "(LClockworkOrreries;I[J)I" } : Jvm.MethodName)) ∈ lw_all := lw_g (lw_at lw_m5 208 rfl) rfl
theorem q1243 : (Jvm.Cond.codeWith ({ cls := "ClockworkOrreriesLaw", name := "sameTeethByGoing", desc := "(LClockworkOrreries;I[J)I" } : Jvm.MethodName) method_25_code (4 : Nat) (Option.some Jvm.ClassFile.FieldType.int) [((0 : Nat), (9 : Nat), (12 : Nat), (19 : Nat))]) ∈ lw_all := lw_g (lw_at lw_m5 209 rfl) rfl
theorem q1244 : (Jvm.Cond.methodLink "ClockworkOrreriesLaw" (87 : Nat) ({ cls := "ClockworkOrreries", name := "sameTeethByGoing", desc := "(I)I" } : Jvm.MethodName)) ∈ lw_all := lw_g (lw_at lw_m5 210 rfl) rfl
theorem q1248 : (Jvm.Cond.methodLink "ClockworkOrreriesLaw" (275 : Nat) ({ cls := "ClockworkOrreriesLaw", name := "isEven", desc := "(LClockworkOrreries;I[J)I" } : Jvm.MethodName)) ∈ lw_all := lw_g (lw_at lw_m5 214 rfl) rfl
theorem q1249 : (Jvm.Cond.static ({ cls := "ClockworkOrreriesLaw", name := "isEven", desc := "(LClockworkOrreries;I[J)I" } : Jvm.MethodName)) ∈ lw_all := lw_g (lw_at lw_m5 215 rfl) rfl
theorem q1250 : (Jvm.Cond.codeWith ({ cls := "ClockworkOrreriesLaw", name := "isEven", desc := "(LClockworkOrreries;I[J)I" } : Jvm.MethodName) method_26_code (4 : Nat) (Option.some Jvm.ClassFile.FieldType.int) [((0 : Nat), (16 : Nat), (19 : Nat), (19 : Nat))]) ∈ lw_all := lw_g (lw_at lw_m5 216 rfl) rfl
theorem q1251 : (Jvm.Cond.methodLink "ClockworkOrreriesLaw" (90 : Nat) ({ cls := "ClockworkOrreries", name := "isEven", desc := "(I)Z" } : Jvm.MethodName)) ∈ lw_all := lw_g (lw_at lw_m5 217 rfl) rfl
theorem q1255 : (Jvm.Cond.methodLink "ClockworkOrreriesLaw" (278 : Nat) ({ cls := "ClockworkOrreriesLaw", name := "teethGone", desc := "(LClockworkOrreries;I[J)I" } : Jvm.MethodName)) ∈ lw_all := lw_g (lw_at lw_m5 221 rfl) rfl
theorem q1256 : (Jvm.Cond.static ({ cls := "ClockworkOrreriesLaw", name := "teethGone", desc := "(LClockworkOrreries;I[J)I" } : Jvm.MethodName)) ∈ lw_all := lw_g (lw_at lw_m5 222 rfl) rfl
theorem q1257 : (Jvm.Cond.codeWith ({ cls := "ClockworkOrreriesLaw", name := "teethGone", desc := "(LClockworkOrreries;I[J)I" } : Jvm.MethodName) method_27_code (4 : Nat) (Option.some Jvm.ClassFile.FieldType.int) [((0 : Nat), (8 : Nat), (11 : Nat), (19 : Nat)), ((0 : Nat), (8 : Nat), (14 : Nat), (65 : Nat))]) ∈ lw_all := lw_g (lw_at lw_m5 223 rfl) rfl
theorem q1258 : (Jvm.Cond.methodLink "ClockworkOrreriesLaw" (93 : Nat) ({ cls := "ClockworkOrreries", name := "teethGone", desc := "(I)J" } : Jvm.MethodName)) ∈ lw_all := lw_g (lw_at lw_m5 224 rfl) rfl
theorem q1262 : (Jvm.Cond.methodLink "ClockworkOrreriesLaw" (289 : Nat) ({ cls := "ClockworkOrreriesLaw", name := "bendOf", desc := "(LClockworkOrreries;I[J)I" } : Jvm.MethodName)) ∈ lw_all := lw_g (lw_at lw_m5 228 rfl) rfl
theorem q1263 : (Jvm.Cond.static ({ cls := "ClockworkOrreriesLaw", name := "bendOf", desc := "(LClockworkOrreries;I[J)I" } : Jvm.MethodName)) ∈ lw_all := lw_g (lw_at lw_m5 229 rfl) rfl
theorem q1264 : (Jvm.Cond.codeWith ({ cls := "ClockworkOrreriesLaw", name := "bendOf", desc := "(LClockworkOrreries;I[J)I" } : Jvm.MethodName) method_28_code (4 : Nat) (Option.some Jvm.ClassFile.FieldType.int) [((0 : Nat), (9 : Nat), (12 : Nat), (19 : Nat))]) ∈ lw_all := lw_g (lw_at lw_m5 230 rfl) rfl
theorem q1265 : (Jvm.Cond.methodLink "ClockworkOrreriesLaw" (96 : Nat) ({ cls := "ClockworkOrreries", name := "bendOf", desc := "(I)I" } : Jvm.MethodName)) ∈ lw_all := lw_g (lw_at lw_m5 231 rfl) rfl
theorem q1275 : (Jvm.Cond.methodLink "ClockworkOrreriesLaw" (292 : Nat) ({ cls := "ClockworkOrreriesLaw", name := "angleOf", desc := "(LClockworkOrreries;I[J)I" } : Jvm.MethodName)) ∈ lw_all := lw_g (lw_at lw_m6 1 rfl) rfl
theorem q1276 : (Jvm.Cond.static ({ cls := "ClockworkOrreriesLaw", name := "angleOf", desc := "(LClockworkOrreries;I[J)I" } : Jvm.MethodName)) ∈ lw_all := lw_g (lw_at lw_m6 2 rfl) rfl
theorem q1277 : (Jvm.Cond.codeWith ({ cls := "ClockworkOrreriesLaw", name := "angleOf", desc := "(LClockworkOrreries;I[J)I" } : Jvm.MethodName) method_29_code (4 : Nat) (Option.some Jvm.ClassFile.FieldType.int) [((0 : Nat), (9 : Nat), (12 : Nat), (19 : Nat)), ((0 : Nat), (9 : Nat), (15 : Nat), (65 : Nat))]) ∈ lw_all := lw_g (lw_at lw_m6 3 rfl) rfl
theorem q1278 : (Jvm.Cond.methodLink "ClockworkOrreriesLaw" (99 : Nat) ({ cls := "ClockworkOrreries", name := "angleOf", desc := "(I)I" } : Jvm.MethodName)) ∈ lw_all := lw_g (lw_at lw_m6 4 rfl) rfl
theorem q1297 : (Jvm.Cond.methodLink "ClockworkOrreriesLaw" (295 : Nat) ({ cls := "ClockworkOrreriesLaw", name := "angleByTeeth", desc := "(LClockworkOrreries;I[J)I" } : Jvm.MethodName)) ∈ lw_all := lw_g (lw_at lw_m6 23 rfl) rfl
theorem q1298 : (Jvm.Cond.static ({ cls := "ClockworkOrreriesLaw", name := "angleByTeeth", desc := "(LClockworkOrreries;I[J)I" } : Jvm.MethodName)) ∈ lw_all := lw_g (lw_at lw_m6 24 rfl) rfl
theorem q1299 : (Jvm.Cond.codeWith ({ cls := "ClockworkOrreriesLaw", name := "angleByTeeth", desc := "(LClockworkOrreries;I[J)I" } : Jvm.MethodName) method_30_code (4 : Nat) (Option.some Jvm.ClassFile.FieldType.int) [((0 : Nat), (9 : Nat), (12 : Nat), (19 : Nat)), ((0 : Nat), (9 : Nat), (15 : Nat), (65 : Nat))]) ∈ lw_all := lw_g (lw_at lw_m6 25 rfl) rfl
theorem q1300 : (Jvm.Cond.methodLink "ClockworkOrreriesLaw" (102 : Nat) ({ cls := "ClockworkOrreries", name := "angleByTeeth", desc := "(I)I" } : Jvm.MethodName)) ∈ lw_all := lw_g (lw_at lw_m6 26 rfl) rfl
theorem q1308 : (Jvm.Cond.methodLink "ClockworkOrreriesLaw" (298 : Nat) ({ cls := "ClockworkOrreriesLaw", name := "moonAngle", desc := "(LClockworkOrreries;I[J)I" } : Jvm.MethodName)) ∈ lw_all := lw_g (lw_at lw_m6 34 rfl) rfl
theorem q1309 : (Jvm.Cond.static ({ cls := "ClockworkOrreriesLaw", name := "moonAngle", desc := "(LClockworkOrreries;I[J)I" } : Jvm.MethodName)) ∈ lw_all := lw_g (lw_at lw_m6 35 rfl) rfl
theorem q1310 : (Jvm.Cond.codeWith ({ cls := "ClockworkOrreriesLaw", name := "moonAngle", desc := "(LClockworkOrreries;I[J)I" } : Jvm.MethodName) method_31_code (4 : Nat) (Option.some Jvm.ClassFile.FieldType.int) [((0 : Nat), (9 : Nat), (12 : Nat), (19 : Nat)), ((0 : Nat), (9 : Nat), (15 : Nat), (65 : Nat))]) ∈ lw_all := lw_g (lw_at lw_m6 36 rfl) rfl
theorem q1311 : (Jvm.Cond.methodLink "ClockworkOrreriesLaw" (105 : Nat) ({ cls := "ClockworkOrreries", name := "moonAngle", desc := "(I)I" } : Jvm.MethodName)) ∈ lw_all := lw_g (lw_at lw_m6 37 rfl) rfl
theorem q1324 : (Jvm.Cond.methodLink "ClockworkOrreriesLaw" (301 : Nat) ({ cls := "ClockworkOrreriesLaw", name := "isSlow", desc := "(LClockworkOrreries;I[J)I" } : Jvm.MethodName)) ∈ lw_all := lw_g (lw_at lw_m6 50 rfl) rfl
theorem q1325 : (Jvm.Cond.static ({ cls := "ClockworkOrreriesLaw", name := "isSlow", desc := "(LClockworkOrreries;I[J)I" } : Jvm.MethodName)) ∈ lw_all := lw_g (lw_at lw_m6 51 rfl) rfl
theorem q1326 : (Jvm.Cond.codeWith ({ cls := "ClockworkOrreriesLaw", name := "isSlow", desc := "(LClockworkOrreries;I[J)I" } : Jvm.MethodName) method_32_code (4 : Nat) (Option.some Jvm.ClassFile.FieldType.int) [((0 : Nat), (16 : Nat), (19 : Nat), (19 : Nat)), ((0 : Nat), (16 : Nat), (22 : Nat), (65 : Nat))]) ∈ lw_all := lw_g (lw_at lw_m6 52 rfl) rfl
theorem q1327 : (Jvm.Cond.methodLink "ClockworkOrreriesLaw" (108 : Nat) ({ cls := "ClockworkOrreries", name := "isSlow", desc := "(I)Z" } : Jvm.MethodName)) ∈ lw_all := lw_g (lw_at lw_m6 53 rfl) rfl
theorem q1336 : (Jvm.Cond.methodLink "ClockworkOrreriesLaw" (304 : Nat) ({ cls := "ClockworkOrreriesLaw", name := "meetIn", desc := "(LClockworkOrreries;III[J)I" } : Jvm.MethodName)) ∈ lw_all := lw_g (lw_at lw_m6 62 rfl) rfl
theorem q1337 : (Jvm.Cond.static ({ cls := "ClockworkOrreriesLaw", name := "meetIn", desc := "(LClockworkOrreries;III[J)I" } : Jvm.MethodName)) ∈ lw_all := lw_g (lw_at lw_m6 63 rfl) rfl
theorem q1338 : (Jvm.Cond.codeWith ({ cls := "ClockworkOrreriesLaw", name := "meetIn", desc := "(LClockworkOrreries;III[J)I" } : Jvm.MethodName) method_33_code (6 : Nat) (Option.some Jvm.ClassFile.FieldType.int) [((0 : Nat), (12 : Nat), (15 : Nat), (19 : Nat)), ((0 : Nat), (12 : Nat), (19 : Nat), (65 : Nat))]) ∈ lw_all := lw_g (lw_at lw_m6 64 rfl) rfl
theorem q1339 : (Jvm.Cond.methodLink "ClockworkOrreriesLaw" (111 : Nat) ({ cls := "ClockworkOrreries", name := "meetIn", desc := "(III)I" } : Jvm.MethodName)) ∈ lw_all := lw_g (lw_at lw_m6 65 rfl) rfl
theorem q1359 : (Jvm.Cond.methodLink "ClockworkOrreriesLaw" (308 : Nat) ({ cls := "ClockworkOrreriesLaw", name := "meetings", desc := "(LClockworkOrreries;III[J)I" } : Jvm.MethodName)) ∈ lw_all := lw_g (lw_at lw_m6 85 rfl) rfl
theorem q1360 : (Jvm.Cond.static ({ cls := "ClockworkOrreriesLaw", name := "meetings", desc := "(LClockworkOrreries;III[J)I" } : Jvm.MethodName)) ∈ lw_all := lw_g (lw_at lw_m6 86 rfl) rfl
theorem q1361 : (Jvm.Cond.codeWith ({ cls := "ClockworkOrreriesLaw", name := "meetings", desc := "(LClockworkOrreries;III[J)I" } : Jvm.MethodName) method_34_code (6 : Nat) (Option.some Jvm.ClassFile.FieldType.int) [((0 : Nat), (12 : Nat), (15 : Nat), (19 : Nat)), ((0 : Nat), (12 : Nat), (19 : Nat), (65 : Nat))]) ∈ lw_all := lw_g (lw_at lw_m6 87 rfl) rfl
theorem q1362 : (Jvm.Cond.methodLink "ClockworkOrreriesLaw" (115 : Nat) ({ cls := "ClockworkOrreries", name := "meetings", desc := "(III)I" } : Jvm.MethodName)) ∈ lw_all := lw_g (lw_at lw_m6 88 rfl) rfl
theorem q1366 : (Jvm.Cond.methodLink "ClockworkOrreriesLaw" (311 : Nat) ({ cls := "ClockworkOrreriesLaw", name := "differenceAbove", desc := "(LClockworkOrreries;II[J)I" } : Jvm.MethodName)) ∈ lw_all := lw_g (lw_at lw_m6 92 rfl) rfl
theorem q1367 : (Jvm.Cond.static ({ cls := "ClockworkOrreriesLaw", name := "differenceAbove", desc := "(LClockworkOrreries;II[J)I" } : Jvm.MethodName)) ∈ lw_all := lw_g (lw_at lw_m6 93 rfl) rfl
theorem q1368 : (Jvm.Cond.codeWith ({ cls := "ClockworkOrreriesLaw", name := "differenceAbove", desc := "(LClockworkOrreries;II[J)I" } : Jvm.MethodName) method_35_code (5 : Nat) (Option.some Jvm.ClassFile.FieldType.int) [((0 : Nat), (9 : Nat), (12 : Nat), (19 : Nat)), ((0 : Nat), (9 : Nat), (16 : Nat), (65 : Nat))]) ∈ lw_all := lw_g (lw_at lw_m6 94 rfl) rfl
theorem q1369 : (Jvm.Cond.methodLink "ClockworkOrreriesLaw" (118 : Nat) ({ cls := "ClockworkOrreries", name := "differenceAbove", desc := "(II)J" } : Jvm.MethodName)) ∈ lw_all := lw_g (lw_at lw_m6 95 rfl) rfl
theorem q1377 : (Jvm.Cond.methodLink "ClockworkOrreriesLaw" (314 : Nat) ({ cls := "ClockworkOrreriesLaw", name := "comeBackIn", desc := "(LClockworkOrreries;II[J)I" } : Jvm.MethodName)) ∈ lw_all := lw_g (lw_at lw_m6 103 rfl) rfl
theorem q1378 : (Jvm.Cond.static ({ cls := "ClockworkOrreriesLaw", name := "comeBackIn", desc := "(LClockworkOrreries;II[J)I" } : Jvm.MethodName)) ∈ lw_all := lw_g (lw_at lw_m6 104 rfl) rfl
theorem q1379 : (Jvm.Cond.codeWith ({ cls := "ClockworkOrreriesLaw", name := "comeBackIn", desc := "(LClockworkOrreries;II[J)I" } : Jvm.MethodName) method_36_code (5 : Nat) (Option.some Jvm.ClassFile.FieldType.int) [((0 : Nat), (9 : Nat), (12 : Nat), (19 : Nat)), ((0 : Nat), (9 : Nat), (16 : Nat), (65 : Nat))]) ∈ lw_all := lw_g (lw_at lw_m6 105 rfl) rfl
theorem q1380 : (Jvm.Cond.methodLink "ClockworkOrreriesLaw" (122 : Nat) ({ cls := "ClockworkOrreries", name := "comeBackIn", desc := "(II)J" } : Jvm.MethodName)) ∈ lw_all := lw_g (lw_at lw_m6 106 rfl) rfl
theorem q1384 : (Jvm.Cond.methodLink "ClockworkOrreriesLaw" (317 : Nat) ({ cls := "ClockworkOrreriesLaw", name := "allMeetIn", desc := "(LClockworkOrreries;IIII[J)I" } : Jvm.MethodName)) ∈ lw_all := lw_g (lw_at lw_m6 110 rfl) rfl
theorem q1385 : (Jvm.Cond.static ({ cls := "ClockworkOrreriesLaw", name := "allMeetIn", desc := "(LClockworkOrreries;IIII[J)I" } : Jvm.MethodName)) ∈ lw_all := lw_g (lw_at lw_m6 111 rfl) rfl
theorem q1386 : (Jvm.Cond.codeWith ({ cls := "ClockworkOrreriesLaw", name := "allMeetIn", desc := "(LClockworkOrreries;IIII[J)I" } : Jvm.MethodName) method_37_code (7 : Nat) (Option.some Jvm.ClassFile.FieldType.int) [((0 : Nat), (14 : Nat), (17 : Nat), (19 : Nat)), ((0 : Nat), (14 : Nat), (21 : Nat), (65 : Nat))]) ∈ lw_all := lw_g (lw_at lw_m6 112 rfl) rfl
theorem q1387 : (Jvm.Cond.methodLink "ClockworkOrreriesLaw" (125 : Nat) ({ cls := "ClockworkOrreries", name := "allMeetIn", desc := "(IIII)I" } : Jvm.MethodName)) ∈ lw_all := lw_g (lw_at lw_m6 113 rfl) rfl
theorem q1391 : (Jvm.Cond.methodLink "ClockworkOrreriesLaw" (321 : Nat) ({ cls := "ClockworkOrreriesLaw", name := "farthestIn", desc := "(LClockworkOrreries;II[J)I" } : Jvm.MethodName)) ∈ lw_all := lw_g (lw_at lw_m6 117 rfl) rfl
theorem q1392 : (Jvm.Cond.static ({ cls := "ClockworkOrreriesLaw", name := "farthestIn", desc := "(LClockworkOrreries;II[J)I" } : Jvm.MethodName)) ∈ lw_all := lw_g (lw_at lw_m6 118 rfl) rfl
theorem q1393 : (Jvm.Cond.codeWith ({ cls := "ClockworkOrreriesLaw", name := "farthestIn", desc := "(LClockworkOrreries;II[J)I" } : Jvm.MethodName) method_38_code (5 : Nat) (Option.some Jvm.ClassFile.FieldType.int) [((0 : Nat), (10 : Nat), (13 : Nat), (19 : Nat)), ((0 : Nat), (10 : Nat), (17 : Nat), (65 : Nat))]) ∈ lw_all := lw_g (lw_at lw_m6 119 rfl) rfl
theorem q1394 : (Jvm.Cond.methodLink "ClockworkOrreriesLaw" (129 : Nat) ({ cls := "ClockworkOrreries", name := "farthestIn", desc := "(II)I" } : Jvm.MethodName)) ∈ lw_all := lw_g (lw_at lw_m6 120 rfl) rfl
theorem q1400 : (Jvm.Cond.methodLink "ClockworkOrreriesLaw" (324 : Nat) ({ cls := "ClockworkOrreriesLaw", name := "bendFor", desc := "(LClockworkOrreries;II[J)I" } : Jvm.MethodName)) ∈ lw_all := lw_g (lw_at lw_m6 126 rfl) rfl
theorem q1401 : (Jvm.Cond.static ({ cls := "ClockworkOrreriesLaw", name := "bendFor", desc := "(LClockworkOrreries;II[J)I" } : Jvm.MethodName)) ∈ lw_all := lw_g (lw_at lw_m6 127 rfl) rfl
theorem q1402 : (Jvm.Cond.codeWith ({ cls := "ClockworkOrreriesLaw", name := "bendFor", desc := "(LClockworkOrreries;II[J)I" } : Jvm.MethodName) method_39_code (5 : Nat) (Option.some Jvm.ClassFile.FieldType.int) [((0 : Nat), (10 : Nat), (13 : Nat), (19 : Nat)), ((0 : Nat), (10 : Nat), (17 : Nat), (65 : Nat))]) ∈ lw_all := lw_g (lw_at lw_m6 128 rfl) rfl
theorem q1403 : (Jvm.Cond.methodLink "ClockworkOrreriesLaw" (132 : Nat) ({ cls := "ClockworkOrreries", name := "bendFor", desc := "(II)I" } : Jvm.MethodName)) ∈ lw_all := lw_g (lw_at lw_m6 129 rfl) rfl
theorem q1408 : (Jvm.Cond.methodLink "ClockworkOrreriesLaw" (339 : Nat) ({ cls := "ClockworkOrreriesLaw", name := "dayOf", desc := "(LClockworkOrreries;III[J)I" } : Jvm.MethodName)) ∈ lw_all := lw_g (lw_at lw_m6 134 rfl) rfl
theorem q1409 : (Jvm.Cond.static ({ cls := "ClockworkOrreriesLaw", name := "dayOf", desc := "(LClockworkOrreries;III[J)I" } : Jvm.MethodName)) ∈ lw_all := lw_g (lw_at lw_m6 135 rfl) rfl
theorem q1410 : (Jvm.Cond.codeWith ({ cls := "ClockworkOrreriesLaw", name := "dayOf", desc := "(LClockworkOrreries;III[J)I" } : Jvm.MethodName) method_40_code (6 : Nat) (Option.some Jvm.ClassFile.FieldType.int) [((0 : Nat), (12 : Nat), (15 : Nat), (19 : Nat))]) ∈ lw_all := lw_g (lw_at lw_m6 136 rfl) rfl
theorem q1411 : (Jvm.Cond.methodLink "ClockworkOrreriesLaw" (135 : Nat) ({ cls := "ClockworkOrreries", name := "dayOf", desc := "(III)I" } : Jvm.MethodName)) ∈ lw_all := lw_g (lw_at lw_m6 137 rfl) rfl
theorem q1417 : (Jvm.Cond.methodLink "ClockworkOrreriesLaw" (346 : Nat) ({ cls := "ClockworkOrreriesLaw", name := "daysUntil", desc := "(LClockworkOrreries;II[J)I" } : Jvm.MethodName)) ∈ lw_all := lw_g (lw_at lw_m6 143 rfl) rfl
theorem q1418 : (Jvm.Cond.static ({ cls := "ClockworkOrreriesLaw", name := "daysUntil", desc := "(LClockworkOrreries;II[J)I" } : Jvm.MethodName)) ∈ lw_all := lw_g (lw_at lw_m6 144 rfl) rfl
theorem q1419 : (Jvm.Cond.codeWith ({ cls := "ClockworkOrreriesLaw", name := "daysUntil", desc := "(LClockworkOrreries;II[J)I" } : Jvm.MethodName) method_41_code (5 : Nat) (Option.some Jvm.ClassFile.FieldType.int) [((0 : Nat), (10 : Nat), (13 : Nat), (19 : Nat)), ((0 : Nat), (10 : Nat), (17 : Nat), (65 : Nat))]) ∈ lw_all := lw_g (lw_at lw_m6 145 rfl) rfl
theorem q1420 : (Jvm.Cond.methodLink "ClockworkOrreriesLaw" (138 : Nat) ({ cls := "ClockworkOrreries", name := "daysUntil", desc := "(II)I" } : Jvm.MethodName)) ∈ lw_all := lw_g (lw_at lw_m6 146 rfl) rfl
theorem q1425 : (Jvm.Cond.methodLink "ClockworkOrreriesLaw" (353 : Nat) ({ cls := "ClockworkOrreriesLaw", name := "periodOf", desc := "(LClockworkOrreries;I[J)I" } : Jvm.MethodName)) ∈ lw_all := lw_g (lw_at lw_m6 151 rfl) rfl
theorem q1426 : (Jvm.Cond.static ({ cls := "ClockworkOrreriesLaw", name := "periodOf", desc := "(LClockworkOrreries;I[J)I" } : Jvm.MethodName)) ∈ lw_all := lw_g (lw_at lw_m6 152 rfl) rfl
theorem q1427 : (Jvm.Cond.codeWith ({ cls := "ClockworkOrreriesLaw", name := "periodOf", desc := "(LClockworkOrreries;I[J)I" } : Jvm.MethodName) method_42_code (4 : Nat) (Option.some Jvm.ClassFile.FieldType.int) [((0 : Nat), (9 : Nat), (12 : Nat), (19 : Nat)), ((0 : Nat), (9 : Nat), (15 : Nat), (65 : Nat))]) ∈ lw_all := lw_g (lw_at lw_m6 153 rfl) rfl
theorem q1428 : (Jvm.Cond.methodLink "ClockworkOrreriesLaw" (141 : Nat) ({ cls := "ClockworkOrreries", name := "periodOf", desc := "(I)I" } : Jvm.MethodName)) ∈ lw_all := lw_g (lw_at lw_m6 154 rfl) rfl
theorem q1432 : (Jvm.Cond.methodLink "ClockworkOrreriesLaw" (356 : Nat) ({ cls := "ClockworkOrreriesLaw", name := "errorBits", desc := "(LClockworkOrreries;I[J)I" } : Jvm.MethodName)) ∈ lw_all := lw_g (lw_at lw_m6 158 rfl) rfl
theorem q1433 : (Jvm.Cond.static ({ cls := "ClockworkOrreriesLaw", name := "errorBits", desc := "(LClockworkOrreries;I[J)I" } : Jvm.MethodName)) ∈ lw_all := lw_g (lw_at lw_m6 159 rfl) rfl
theorem q1434 : (Jvm.Cond.codeWith ({ cls := "ClockworkOrreriesLaw", name := "errorBits", desc := "(LClockworkOrreries;I[J)I" } : Jvm.MethodName) method_43_code (4 : Nat) (Option.some Jvm.ClassFile.FieldType.int) [((0 : Nat), (8 : Nat), (11 : Nat), (19 : Nat)), ((0 : Nat), (8 : Nat), (14 : Nat), (65 : Nat))]) ∈ lw_all := lw_g (lw_at lw_m6 160 rfl) rfl
theorem q1435 : (Jvm.Cond.methodLink "ClockworkOrreriesLaw" (144 : Nat) ({ cls := "ClockworkOrreries", name := "errorBits", desc := "(I)J" } : Jvm.MethodName)) ∈ lw_all := lw_g (lw_at lw_m6 161 rfl) rfl
theorem q1450 : (Jvm.Cond.methodLink "ClockworkOrreriesLaw" (359 : Nat) ({ cls := "ClockworkOrreriesLaw", name := "bestPair", desc := "(LClockworkOrreries;II[J)I" } : Jvm.MethodName)) ∈ lw_all := lw_g (lw_at lw_m6 176 rfl) rfl
theorem q1451 : (Jvm.Cond.static ({ cls := "ClockworkOrreriesLaw", name := "bestPair", desc := "(LClockworkOrreries;II[J)I" } : Jvm.MethodName)) ∈ lw_all := lw_g (lw_at lw_m6 177 rfl) rfl
theorem q1452 : (Jvm.Cond.codeWith ({ cls := "ClockworkOrreriesLaw", name := "bestPair", desc := "(LClockworkOrreries;II[J)I" } : Jvm.MethodName) method_44_code (5 : Nat) (Option.some Jvm.ClassFile.FieldType.int) [((0 : Nat), (10 : Nat), (13 : Nat), (19 : Nat))]) ∈ lw_all := lw_g (lw_at lw_m6 178 rfl) rfl
theorem q1453 : (Jvm.Cond.methodLink "ClockworkOrreriesLaw" (147 : Nat) ({ cls := "ClockworkOrreries", name := "bestPair", desc := "(II)I" } : Jvm.MethodName)) ∈ lw_all := lw_g (lw_at lw_m6 179 rfl) rfl
theorem q1458 : (Jvm.Cond.methodLink "ClockworkOrreriesLaw" (362 : Nat) ({ cls := "ClockworkOrreriesLaw", name := "degrees", desc := "(LClockworkOrreries;I[F)I" } : Jvm.MethodName)) ∈ lw_all := lw_g (lw_at lw_m6 184 rfl) rfl
theorem q1459 : (Jvm.Cond.static ({ cls := "ClockworkOrreriesLaw", name := "degrees", desc := "(LClockworkOrreries;I[F)I" } : Jvm.MethodName)) ∈ lw_all := lw_g (lw_at lw_m6 185 rfl) rfl
theorem q1460 : (Jvm.Cond.codeWith ({ cls := "ClockworkOrreriesLaw", name := "degrees", desc := "(LClockworkOrreries;I[F)I" } : Jvm.MethodName) method_45_code (4 : Nat) (Option.some Jvm.ClassFile.FieldType.int) [((0 : Nat), (8 : Nat), (11 : Nat), (19 : Nat)), ((0 : Nat), (8 : Nat), (14 : Nat), (65 : Nat))]) ∈ lw_all := lw_g (lw_at lw_m6 186 rfl) rfl
theorem q1461 : (Jvm.Cond.methodLink "ClockworkOrreriesLaw" (150 : Nat) ({ cls := "ClockworkOrreries", name := "degrees", desc := "(I)F" } : Jvm.MethodName)) ∈ lw_all := lw_g (lw_at lw_m6 187 rfl) rfl
theorem q1467 : (Jvm.Cond.methodLink "ClockworkOrreriesLaw" (366 : Nat) ({ cls := "ClockworkOrreriesLaw", name := "degreeBits", desc := "(LClockworkOrreries;I[J)I" } : Jvm.MethodName)) ∈ lw_all := lw_g (lw_at lw_m6 193 rfl) rfl
theorem q1468 : (Jvm.Cond.static ({ cls := "ClockworkOrreriesLaw", name := "degreeBits", desc := "(LClockworkOrreries;I[J)I" } : Jvm.MethodName)) ∈ lw_all := lw_g (lw_at lw_m6 194 rfl) rfl
theorem q1469 : (Jvm.Cond.codeWith ({ cls := "ClockworkOrreriesLaw", name := "degreeBits", desc := "(LClockworkOrreries;I[J)I" } : Jvm.MethodName) method_46_code (4 : Nat) (Option.some Jvm.ClassFile.FieldType.int) [((0 : Nat), (9 : Nat), (12 : Nat), (19 : Nat)), ((0 : Nat), (9 : Nat), (15 : Nat), (65 : Nat))]) ∈ lw_all := lw_g (lw_at lw_m6 195 rfl) rfl
theorem q1470 : (Jvm.Cond.methodLink "ClockworkOrreriesLaw" (154 : Nat) ({ cls := "ClockworkOrreries", name := "degreeBits", desc := "(I)I" } : Jvm.MethodName)) ∈ lw_all := lw_g (lw_at lw_m6 196 rfl) rfl
theorem q1485 : (Jvm.Cond.methodLink "ClockworkOrreriesLaw" (369 : Nat) ({ cls := "ClockworkOrreriesLaw", name := "bestTrain", desc := "(LClockworkOrreries;I[J)I" } : Jvm.MethodName)) ∈ lw_all := lw_g (lw_at lw_m6 211 rfl) rfl
theorem q1486 : (Jvm.Cond.static ({ cls := "ClockworkOrreriesLaw", name := "bestTrain", desc := "(LClockworkOrreries;I[J)I" } : Jvm.MethodName)) ∈ lw_all := lw_g (lw_at lw_m6 212 rfl) rfl
theorem q1487 : (Jvm.Cond.codeWith ({ cls := "ClockworkOrreriesLaw", name := "bestTrain", desc := "(LClockworkOrreries;I[J)I" } : Jvm.MethodName) method_47_code (4 : Nat) (Option.some Jvm.ClassFile.FieldType.int) [((0 : Nat), (9 : Nat), (12 : Nat), (19 : Nat)), ((0 : Nat), (9 : Nat), (15 : Nat), (65 : Nat))]) ∈ lw_all := lw_g (lw_at lw_m6 213 rfl) rfl
theorem q1488 : (Jvm.Cond.methodLink "ClockworkOrreriesLaw" (157 : Nat) ({ cls := "ClockworkOrreries", name := "bestTrain", desc := "(I)I" } : Jvm.MethodName)) ∈ lw_all := lw_g (lw_at lw_m6 214 rfl) rfl
theorem q1503 : (Jvm.Cond.methodLink "ClockworkOrreriesLaw" (388 : Nat) ({ cls := "ClockworkOrreriesLaw", name := "goBack", desc := "(LClockworkOrreries;[J)I" } : Jvm.MethodName)) ∈ lw_all := lw_g (lw_at lw_m6 229 rfl) rfl
theorem q1504 : (Jvm.Cond.static ({ cls := "ClockworkOrreriesLaw", name := "goBack", desc := "(LClockworkOrreries;[J)I" } : Jvm.MethodName)) ∈ lw_all := lw_g (lw_at lw_m6 230 rfl) rfl
theorem q1505 : (Jvm.Cond.codeWith ({ cls := "ClockworkOrreriesLaw", name := "goBack", desc := "(LClockworkOrreries;[J)I" } : Jvm.MethodName) method_48_code (3 : Nat) (Option.some Jvm.ClassFile.FieldType.int) [((0 : Nat), (8 : Nat), (11 : Nat), (13 : Nat))]) ∈ lw_all := lw_g (lw_at lw_m6 231 rfl) rfl
theorem q1506 : (Jvm.Cond.methodLink "ClockworkOrreriesLaw" (160 : Nat) ({ cls := "ClockworkOrreries", name := "goBack", desc := "()I" } : Jvm.MethodName)) ∈ lw_all := lw_g (lw_at lw_m6 232 rfl) rfl
theorem q1513 : (Jvm.Cond.methodLink "ClockworkOrreriesLaw" (395 : Nat) ({ cls := "ClockworkOrreriesLaw", name := "undo", desc := "(LClockworkOrreries;[J)I" } : Jvm.MethodName)) ∈ lw_all := lw_g (lw_at lw_m6 239 rfl) rfl
theorem q1514 : (Jvm.Cond.static ({ cls := "ClockworkOrreriesLaw", name := "undo", desc := "(LClockworkOrreries;[J)I" } : Jvm.MethodName)) ∈ lw_all := lw_g (lw_at lw_m7 0 rfl) rfl
theorem q1515 : (Jvm.Cond.codeWith ({ cls := "ClockworkOrreriesLaw", name := "undo", desc := "(LClockworkOrreries;[J)I" } : Jvm.MethodName) method_49_code (3 : Nat) (Option.some Jvm.ClassFile.FieldType.int) [((0 : Nat), (8 : Nat), (11 : Nat), (13 : Nat))]) ∈ lw_all := lw_g (lw_at lw_m7 1 rfl) rfl
theorem q1516 : (Jvm.Cond.methodLink "ClockworkOrreriesLaw" (163 : Nat) ({ cls := "ClockworkOrreries", name := "undo", desc := "()I" } : Jvm.MethodName)) ∈ lw_all := lw_g (lw_at lw_m7 2 rfl) rfl
theorem q1535 : (Jvm.Cond.methodLink "ClockworkOrreriesLaw" (398 : Nat) ({ cls := "ClockworkOrreriesLaw", name := "type", desc := "(LClockworkOrreries;I[J)I" } : Jvm.MethodName)) ∈ lw_all := lw_g (lw_at lw_m7 21 rfl) rfl
theorem q1536 : (Jvm.Cond.static ({ cls := "ClockworkOrreriesLaw", name := "type", desc := "(LClockworkOrreries;I[J)I" } : Jvm.MethodName)) ∈ lw_all := lw_g (lw_at lw_m7 22 rfl) rfl
theorem q1537 : (Jvm.Cond.codeWith ({ cls := "ClockworkOrreriesLaw", name := "type", desc := "(LClockworkOrreries;I[J)I" } : Jvm.MethodName) method_50_code (4 : Nat) (Option.some Jvm.ClassFile.FieldType.int) [((0 : Nat), (9 : Nat), (12 : Nat), (19 : Nat)), ((0 : Nat), (9 : Nat), (15 : Nat), (13 : Nat))]) ∈ lw_all := lw_g (lw_at lw_m7 23 rfl) rfl
theorem q1538 : (Jvm.Cond.methodLink "ClockworkOrreriesLaw" (166 : Nat) ({ cls := "ClockworkOrreries", name := "type", desc := "(I)I" } : Jvm.MethodName)) ∈ lw_all := lw_g (lw_at lw_m7 24 rfl) rfl
theorem q1564 : (Jvm.Cond.methodLink "ClockworkOrreriesLaw" (405 : Nat) ({ cls := "ClockworkOrreriesLaw", name := "faultPosition", desc := "(LClockworkOrreries;[J)I" } : Jvm.MethodName)) ∈ lw_all := lw_g (lw_at lw_m7 50 rfl) rfl
theorem q1565 : (Jvm.Cond.static ({ cls := "ClockworkOrreriesLaw", name := "faultPosition", desc := "(LClockworkOrreries;[J)I" } : Jvm.MethodName)) ∈ lw_all := lw_g (lw_at lw_m7 51 rfl) rfl
theorem q1566 : (Jvm.Cond.codeWith ({ cls := "ClockworkOrreriesLaw", name := "faultPosition", desc := "(LClockworkOrreries;[J)I" } : Jvm.MethodName) method_51_code (3 : Nat) (Option.some Jvm.ClassFile.FieldType.int) [((0 : Nat), (8 : Nat), (11 : Nat), (65 : Nat))]) ∈ lw_all := lw_g (lw_at lw_m7 52 rfl) rfl
theorem q1567 : (Jvm.Cond.methodLink "ClockworkOrreriesLaw" (169 : Nat) ({ cls := "ClockworkOrreries", name := "faultPosition", desc := "()I" } : Jvm.MethodName)) ∈ lw_all := lw_g (lw_at lw_m7 53 rfl) rfl
theorem q1701 : (Jvm.Cond.methodLink "ClockworkOrreriesLaw" (408 : Nat) ({ cls := "ClockworkOrreriesLaw", name := "faultReason", desc := "(LClockworkOrreries;[J)I" } : Jvm.MethodName)) ∈ lw_all := lw_g (lw_at lw_m7 187 rfl) rfl
theorem q1702 : (Jvm.Cond.static ({ cls := "ClockworkOrreriesLaw", name := "faultReason", desc := "(LClockworkOrreries;[J)I" } : Jvm.MethodName)) ∈ lw_all := lw_g (lw_at lw_m7 188 rfl) rfl
theorem q1703 : (Jvm.Cond.codeWith ({ cls := "ClockworkOrreriesLaw", name := "faultReason", desc := "(LClockworkOrreries;[J)I" } : Jvm.MethodName) method_52_code (3 : Nat) (Option.some Jvm.ClassFile.FieldType.int) [((0 : Nat), (8 : Nat), (11 : Nat), (65 : Nat))]) ∈ lw_all := lw_g (lw_at lw_m7 189 rfl) rfl
theorem q1704 : (Jvm.Cond.methodLink "ClockworkOrreriesLaw" (172 : Nat) ({ cls := "ClockworkOrreries", name := "faultReason", desc := "()I" } : Jvm.MethodName)) ∈ lw_all := lw_g (lw_at lw_m7 190 rfl) rfl
theorem q1708 : (Jvm.Cond.methodLink "ClockworkOrreriesLaw" (411 : Nat) ({ cls := "ClockworkOrreriesLaw", name := "faultCause", desc := "(LClockworkOrreries;[J)I" } : Jvm.MethodName)) ∈ lw_all := lw_g (lw_at lw_m7 194 rfl) rfl
theorem q1709 : (Jvm.Cond.static ({ cls := "ClockworkOrreriesLaw", name := "faultCause", desc := "(LClockworkOrreries;[J)I" } : Jvm.MethodName)) ∈ lw_all := lw_g (lw_at lw_m7 195 rfl) rfl
theorem q1710 : (Jvm.Cond.codeWith ({ cls := "ClockworkOrreriesLaw", name := "faultCause", desc := "(LClockworkOrreries;[J)I" } : Jvm.MethodName) method_53_code (3 : Nat) (Option.some Jvm.ClassFile.FieldType.int) [((0 : Nat), (8 : Nat), (11 : Nat), (65 : Nat))]) ∈ lw_all := lw_g (lw_at lw_m7 196 rfl) rfl
theorem q1711 : (Jvm.Cond.methodLink "ClockworkOrreriesLaw" (175 : Nat) ({ cls := "ClockworkOrreries", name := "faultCause", desc := "()I" } : Jvm.MethodName)) ∈ lw_all := lw_g (lw_at lw_m7 197 rfl) rfl
theorem q1715 : (Jvm.Cond.methodLink "ClockworkOrreriesLaw" (414 : Nat) ({ cls := "ClockworkOrreriesLaw", name := "play", desc := "(LClockworkOrreries;[J)I" } : Jvm.MethodName)) ∈ lw_all := lw_g (lw_at lw_m7 201 rfl) rfl
theorem q1716 : (Jvm.Cond.static ({ cls := "ClockworkOrreriesLaw", name := "play", desc := "(LClockworkOrreries;[J)I" } : Jvm.MethodName)) ∈ lw_all := lw_g (lw_at lw_m7 202 rfl) rfl
theorem q1717 : (Jvm.Cond.codeWith ({ cls := "ClockworkOrreriesLaw", name := "play", desc := "(LClockworkOrreries;[J)I" } : Jvm.MethodName) method_54_code (3 : Nat) (Option.some Jvm.ClassFile.FieldType.int) [((0 : Nat), (8 : Nat), (11 : Nat), (13 : Nat))]) ∈ lw_all := lw_g (lw_at lw_m7 203 rfl) rfl
theorem q1718 : (Jvm.Cond.methodLink "ClockworkOrreriesLaw" (178 : Nat) ({ cls := "ClockworkOrreries", name := "play", desc := "()I" } : Jvm.MethodName)) ∈ lw_all := lw_g (lw_at lw_m7 204 rfl) rfl
theorem q1722 : (Jvm.Cond.classLink "ClockworkOrreriesLaw" (182 : Nat) "ClockworkOrreriesModel") ∈ lw_all := lw_g (lw_at lw_m7 208 rfl) rfl
theorem q1724 : (Jvm.Cond.methodLink "ClockworkOrreriesLaw" (184 : Nat) ({ cls := "ClockworkOrreriesModel", name := "<init>", desc := "()V" } : Jvm.MethodName)) ∈ lw_all := lw_g (lw_at lw_m7 210 rfl) rfl
theorem q1813 : (Jvm.Cond.methodLink "ClockworkOrreriesLaw" (191 : Nat) ({ cls := "ClockworkOrreriesModel", name := "thrown", desc := "()I" } : Jvm.MethodName)) ∈ lw_all := lw_g (lw_at lw_m8 59 rfl) rfl
theorem q1817 : (Jvm.Cond.methodLink "ClockworkOrreriesLaw" (190 : Nat) ({ cls := "ClockworkOrreriesModel", name := "addAxle", desc := "()I" } : Jvm.MethodName)) ∈ lw_all := lw_g (lw_at lw_m8 63 rfl) rfl
theorem q1846 : (Jvm.Cond.methodLink "ClockworkOrreriesLaw" (197 : Nat) ({ cls := "ClockworkOrreriesModel", name := "addWheel", desc := "(II)I" } : Jvm.MethodName)) ∈ lw_all := lw_g (lw_at lw_m8 92 rfl) rfl
theorem q1864 : (Jvm.Cond.methodLink "ClockworkOrreriesLaw" (200 : Nat) ({ cls := "ClockworkOrreriesModel", name := "mesh", desc := "(II)I" } : Jvm.MethodName)) ∈ lw_all := lw_g (lw_at lw_m8 110 rfl) rfl
theorem q1911 : (Jvm.Cond.methodLink "ClockworkOrreriesLaw" (204 : Nat) ({ cls := "ClockworkOrreriesModel", name := "unmesh", desc := "(I)I" } : Jvm.MethodName)) ∈ lw_all := lw_g (lw_at lw_m8 157 rfl) rfl
theorem q1923 : (Jvm.Cond.methodLink "ClockworkOrreriesLaw" (207 : Nat) ({ cls := "ClockworkOrreriesModel", name := "setTeeth", desc := "(II)I" } : Jvm.MethodName)) ∈ lw_all := lw_g (lw_at lw_m8 169 rfl) rfl
theorem q1931 : (Jvm.Cond.methodLink "ClockworkOrreriesLaw" (210 : Nat) ({ cls := "ClockworkOrreriesModel", name := "addArm", desc := "(II)I" } : Jvm.MethodName)) ∈ lw_all := lw_g (lw_at lw_m8 177 rfl) rfl
theorem q1939 : (Jvm.Cond.methodLink "ClockworkOrreriesLaw" (213 : Nat) ({ cls := "ClockworkOrreriesModel", name := "setBend", desc := "(II)I" } : Jvm.MethodName)) ∈ lw_all := lw_g (lw_at lw_m8 185 rfl) rfl
theorem q1951 : (Jvm.Cond.methodLink "ClockworkOrreriesLaw" (216 : Nat) ({ cls := "ClockworkOrreriesModel", name := "addMoon", desc := "(II)I" } : Jvm.MethodName)) ∈ lw_all := lw_g (lw_at lw_m8 197 rfl) rfl
theorem q1955 : (Jvm.Cond.methodLink "ClockworkOrreriesLaw" (219 : Nat) ({ cls := "ClockworkOrreriesModel", name := "setPeriod", desc := "(II)I" } : Jvm.MethodName)) ∈ lw_all := lw_g (lw_at lw_m8 201 rfl) rfl
theorem q1960 : (Jvm.Cond.methodLink "ClockworkOrreriesLaw" (222 : Nat) ({ cls := "ClockworkOrreriesModel", name := "pass", desc := "(I)I" } : Jvm.MethodName)) ∈ lw_all := lw_g (lw_at lw_m8 206 rfl) rfl
theorem q1969 : (Jvm.Cond.methodLink "ClockworkOrreriesLaw" (225 : Nat) ({ cls := "ClockworkOrreriesModel", name := "setDay", desc := "(I)I" } : Jvm.MethodName)) ∈ lw_all := lw_g (lw_at lw_m8 215 rfl) rfl
theorem q1973 : (Jvm.Cond.methodLink "ClockworkOrreriesLaw" (397 : Nat) ({ cls := "ClockworkOrreriesModel", name := "undo", desc := "()I" } : Jvm.MethodName)) ∈ lw_all := lw_g (lw_at lw_m8 219 rfl) rfl
theorem q1977 : (Jvm.Cond.methodLink "ClockworkOrreriesLaw" (387 : Nat) ({ cls := "ClockworkOrreriesModel", name := "keep", desc := "()I" } : Jvm.MethodName)) ∈ lw_all := lw_g (lw_at lw_m8 223 rfl) rfl
theorem q1981 : (Jvm.Cond.methodLink "ClockworkOrreriesLaw" (390 : Nat) ({ cls := "ClockworkOrreriesModel", name := "goBack", desc := "()I" } : Jvm.MethodName)) ∈ lw_all := lw_g (lw_at lw_m8 227 rfl) rfl
theorem q1985 : (Jvm.Cond.methodLink "ClockworkOrreriesLaw" (229 : Nat) ({ cls := "ClockworkOrreriesModel", name := "axles", desc := "()I" } : Jvm.MethodName)) ∈ lw_all := lw_g (lw_at lw_m8 231 rfl) rfl
theorem q1993 : (Jvm.Cond.methodLink "ClockworkOrreriesLaw" (233 : Nat) ({ cls := "ClockworkOrreriesModel", name := "wheels", desc := "()I" } : Jvm.MethodName)) ∈ lw_all := lw_g (lw_at lw_m8 239 rfl) rfl
theorem q1997 : (Jvm.Cond.methodLink "ClockworkOrreriesLaw" (237 : Nat) ({ cls := "ClockworkOrreriesModel", name := "pairs", desc := "()I" } : Jvm.MethodName)) ∈ lw_all := lw_g (lw_at lw_m9 3 rfl) rfl
theorem q2001 : (Jvm.Cond.methodLink "ClockworkOrreriesLaw" (240 : Nat) ({ cls := "ClockworkOrreriesModel", name := "teethOf", desc := "(I)I" } : Jvm.MethodName)) ∈ lw_all := lw_g (lw_at lw_m9 7 rfl) rfl
theorem q2009 : (Jvm.Cond.methodLink "ClockworkOrreriesLaw" (243 : Nat) ({ cls := "ClockworkOrreriesModel", name := "axleOf", desc := "(I)I" } : Jvm.MethodName)) ∈ lw_all := lw_g (lw_at lw_m9 15 rfl) rfl
theorem q2013 : (Jvm.Cond.methodLink "ClockworkOrreriesLaw" (246 : Nat) ({ cls := "ClockworkOrreriesModel", name := "whyNotMesh", desc := "(II)I" } : Jvm.MethodName)) ∈ lw_all := lw_g (lw_at lw_m9 19 rfl) rfl
theorem q2017 : (Jvm.Cond.methodLink "ClockworkOrreriesLaw" (249 : Nat) ({ cls := "ClockworkOrreriesModel", name := "isDriven", desc := "(I)Z" } : Jvm.MethodName)) ∈ lw_all := lw_g (lw_at lw_m9 23 rfl) rfl
theorem q2021 : (Jvm.Cond.methodLink "ClockworkOrreriesLaw" (252 : Nat) ({ cls := "ClockworkOrreriesModel", name := "wayTo", desc := "(I)I" } : Jvm.MethodName)) ∈ lw_all := lw_g (lw_at lw_m9 27 rfl) rfl
theorem q2029 : (Jvm.Cond.methodLink "ClockworkOrreriesLaw" (255 : Nat) ({ cls := "ClockworkOrreriesModel", name := "ratioAbove", desc := "(I)J" } : Jvm.MethodName)) ∈ lw_all := lw_g (lw_at lw_m9 35 rfl) rfl
theorem q2033 : (Jvm.Cond.methodLink "ClockworkOrreriesLaw" (258 : Nat) ({ cls := "ClockworkOrreriesModel", name := "ratioBelow", desc := "(I)J" } : Jvm.MethodName)) ∈ lw_all := lw_g (lw_at lw_m9 39 rfl) rfl
theorem q2037 : (Jvm.Cond.methodLink "ClockworkOrreriesLaw" (261 : Nat) ({ cls := "ClockworkOrreriesModel", name := "isRatioByTeeth", desc := "(I)Z" } : Jvm.MethodName)) ∈ lw_all := lw_g (lw_at lw_m9 43 rfl) rfl
theorem q2041 : (Jvm.Cond.methodLink "ClockworkOrreriesLaw" (264 : Nat) ({ cls := "ClockworkOrreriesModel", name := "turnsOf", desc := "(I)J" } : Jvm.MethodName)) ∈ lw_all := lw_g (lw_at lw_m9 47 rfl) rfl
theorem q2049 : (Jvm.Cond.methodLink "ClockworkOrreriesLaw" (268 : Nat) ({ cls := "ClockworkOrreriesModel", name := "wheelOf", desc := "(IZ)I" } : Jvm.MethodName)) ∈ lw_all := lw_g (lw_at lw_m9 55 rfl) rfl
theorem q2053 : (Jvm.Cond.methodLink "ClockworkOrreriesLaw" (271 : Nat) ({ cls := "ClockworkOrreriesModel", name := "sameTeethIn", desc := "(I)I" } : Jvm.MethodName)) ∈ lw_all := lw_g (lw_at lw_m9 59 rfl) rfl
theorem q2065 : (Jvm.Cond.methodLink "ClockworkOrreriesLaw" (274 : Nat) ({ cls := "ClockworkOrreriesModel", name := "sameTeethByGoing", desc := "(I)I" } : Jvm.MethodName)) ∈ lw_all := lw_g (lw_at lw_m9 71 rfl) rfl
theorem q2069 : (Jvm.Cond.methodLink "ClockworkOrreriesLaw" (277 : Nat) ({ cls := "ClockworkOrreriesModel", name := "isEven", desc := "(I)Z" } : Jvm.MethodName)) ∈ lw_all := lw_g (lw_at lw_m9 75 rfl) rfl
theorem q2073 : (Jvm.Cond.methodLink "ClockworkOrreriesLaw" (280 : Nat) ({ cls := "ClockworkOrreriesModel", name := "teethGone", desc := "(I)J" } : Jvm.MethodName)) ∈ lw_all := lw_g (lw_at lw_m9 79 rfl) rfl
theorem q2077 : (Jvm.Cond.methodLink "ClockworkOrreriesLaw" (284 : Nat) ({ cls := "ClockworkOrreriesModel", name := "arms", desc := "()I" } : Jvm.MethodName)) ∈ lw_all := lw_g (lw_at lw_m9 83 rfl) rfl
theorem q2081 : (Jvm.Cond.methodLink "ClockworkOrreriesLaw" (288 : Nat) ({ cls := "ClockworkOrreriesModel", name := "moons", desc := "()I" } : Jvm.MethodName)) ∈ lw_all := lw_g (lw_at lw_m9 87 rfl) rfl
theorem q2085 : (Jvm.Cond.methodLink "ClockworkOrreriesLaw" (291 : Nat) ({ cls := "ClockworkOrreriesModel", name := "bendOf", desc := "(I)I" } : Jvm.MethodName)) ∈ lw_all := lw_g (lw_at lw_m9 91 rfl) rfl
theorem q2089 : (Jvm.Cond.methodLink "ClockworkOrreriesLaw" (294 : Nat) ({ cls := "ClockworkOrreriesModel", name := "angleOf", desc := "(I)I" } : Jvm.MethodName)) ∈ lw_all := lw_g (lw_at lw_m9 95 rfl) rfl
theorem q2113 : (Jvm.Cond.methodLink "ClockworkOrreriesLaw" (297 : Nat) ({ cls := "ClockworkOrreriesModel", name := "angleByTeeth", desc := "(I)I" } : Jvm.MethodName)) ∈ lw_all := lw_g (lw_at lw_m9 119 rfl) rfl
theorem q2117 : (Jvm.Cond.methodLink "ClockworkOrreriesLaw" (300 : Nat) ({ cls := "ClockworkOrreriesModel", name := "moonAngle", desc := "(I)I" } : Jvm.MethodName)) ∈ lw_all := lw_g (lw_at lw_m9 123 rfl) rfl
theorem q2129 : (Jvm.Cond.methodLink "ClockworkOrreriesLaw" (303 : Nat) ({ cls := "ClockworkOrreriesModel", name := "isSlow", desc := "(I)Z" } : Jvm.MethodName)) ∈ lw_all := lw_g (lw_at lw_m9 135 rfl) rfl
theorem q2133 : (Jvm.Cond.methodLink "ClockworkOrreriesLaw" (307 : Nat) ({ cls := "ClockworkOrreriesModel", name := "meetIn", desc := "(III)I" } : Jvm.MethodName)) ∈ lw_all := lw_g (lw_at lw_m9 139 rfl) rfl
theorem q2155 : (Jvm.Cond.methodLink "ClockworkOrreriesLaw" (310 : Nat) ({ cls := "ClockworkOrreriesModel", name := "meetings", desc := "(III)I" } : Jvm.MethodName)) ∈ lw_all := lw_g (lw_at lw_m9 161 rfl) rfl
theorem q2159 : (Jvm.Cond.methodLink "ClockworkOrreriesLaw" (313 : Nat) ({ cls := "ClockworkOrreriesModel", name := "differenceAbove", desc := "(II)J" } : Jvm.MethodName)) ∈ lw_all := lw_g (lw_at lw_m9 165 rfl) rfl
theorem q2171 : (Jvm.Cond.methodLink "ClockworkOrreriesLaw" (316 : Nat) ({ cls := "ClockworkOrreriesModel", name := "comeBackIn", desc := "(II)J" } : Jvm.MethodName)) ∈ lw_all := lw_g (lw_at lw_m9 177 rfl) rfl
theorem q2175 : (Jvm.Cond.methodLink "ClockworkOrreriesLaw" (320 : Nat) ({ cls := "ClockworkOrreriesModel", name := "allMeetIn", desc := "(IIII)I" } : Jvm.MethodName)) ∈ lw_all := lw_g (lw_at lw_m9 181 rfl) rfl
theorem q2179 : (Jvm.Cond.methodLink "ClockworkOrreriesLaw" (323 : Nat) ({ cls := "ClockworkOrreriesModel", name := "farthestIn", desc := "(II)I" } : Jvm.MethodName)) ∈ lw_all := lw_g (lw_at lw_m9 185 rfl) rfl
theorem q2183 : (Jvm.Cond.methodLink "ClockworkOrreriesLaw" (326 : Nat) ({ cls := "ClockworkOrreriesModel", name := "bendFor", desc := "(II)I" } : Jvm.MethodName)) ∈ lw_all := lw_g (lw_at lw_m9 189 rfl) rfl
theorem q2187 : (Jvm.Cond.methodLink "ClockworkOrreriesLaw" (330 : Nat) ({ cls := "ClockworkOrreriesModel", name := "day", desc := "()I" } : Jvm.MethodName)) ∈ lw_all := lw_g (lw_at lw_m9 193 rfl) rfl
theorem q2191 : (Jvm.Cond.methodLink "ClockworkOrreriesLaw" (334 : Nat) ({ cls := "ClockworkOrreriesModel", name := "date", desc := "()I" } : Jvm.MethodName)) ∈ lw_all := lw_g (lw_at lw_m9 197 rfl) rfl
theorem q2209 : (Jvm.Cond.methodLink "ClockworkOrreriesLaw" (338 : Nat) ({ cls := "ClockworkOrreriesModel", name := "dateByRule", desc := "()I" } : Jvm.MethodName)) ∈ lw_all := lw_g (lw_at lw_m9 215 rfl) rfl
theorem q2213 : (Jvm.Cond.methodLink "ClockworkOrreriesLaw" (341 : Nat) ({ cls := "ClockworkOrreriesModel", name := "dayOf", desc := "(III)I" } : Jvm.MethodName)) ∈ lw_all := lw_g (lw_at lw_m9 219 rfl) rfl
theorem q2217 : (Jvm.Cond.methodLink "ClockworkOrreriesLaw" (345 : Nat) ({ cls := "ClockworkOrreriesModel", name := "weekday", desc := "()I" } : Jvm.MethodName)) ∈ lw_all := lw_g (lw_at lw_m9 223 rfl) rfl
theorem q2221 : (Jvm.Cond.methodLink "ClockworkOrreriesLaw" (348 : Nat) ({ cls := "ClockworkOrreriesModel", name := "daysUntil", desc := "(II)I" } : Jvm.MethodName)) ∈ lw_all := lw_g (lw_at lw_m9 227 rfl) rfl
theorem q2225 : (Jvm.Cond.methodLink "ClockworkOrreriesLaw" (352 : Nat) ({ cls := "ClockworkOrreriesModel", name := "dayOfYear", desc := "()I" } : Jvm.MethodName)) ∈ lw_all := lw_g (lw_at lw_m9 231 rfl) rfl
theorem q2229 : (Jvm.Cond.methodLink "ClockworkOrreriesLaw" (355 : Nat) ({ cls := "ClockworkOrreriesModel", name := "periodOf", desc := "(I)I" } : Jvm.MethodName)) ∈ lw_all := lw_g (lw_at lw_m9 235 rfl) rfl
theorem q2233 : (Jvm.Cond.methodLink "ClockworkOrreriesLaw" (358 : Nat) ({ cls := "ClockworkOrreriesModel", name := "errorBits", desc := "(I)J" } : Jvm.MethodName)) ∈ lw_all := lw_g (lw_at lw_m9 239 rfl) rfl
theorem q2239 : (Jvm.Cond.methodLink "ClockworkOrreriesLaw" (361 : Nat) ({ cls := "ClockworkOrreriesModel", name := "bestPair", desc := "(II)I" } : Jvm.MethodName)) ∈ lw_all := lw_g (lw_at lw_m10 5 rfl) rfl
theorem q2243 : (Jvm.Cond.methodLink "ClockworkOrreriesLaw" (365 : Nat) ({ cls := "ClockworkOrreriesModel", name := "degrees", desc := "(I)F" } : Jvm.MethodName)) ∈ lw_all := lw_g (lw_at lw_m10 9 rfl) rfl
theorem q2248 : (Jvm.Cond.methodLink "ClockworkOrreriesLaw" (368 : Nat) ({ cls := "ClockworkOrreriesModel", name := "degreeBits", desc := "(I)I" } : Jvm.MethodName)) ∈ lw_all := lw_g (lw_at lw_m10 14 rfl) rfl
theorem q2253 : (Jvm.Cond.methodLink "ClockworkOrreriesLaw" (371 : Nat) ({ cls := "ClockworkOrreriesModel", name := "bestTrain", desc := "(I)I" } : Jvm.MethodName)) ∈ lw_all := lw_g (lw_at lw_m10 19 rfl) rfl
theorem q2258 : (Jvm.Cond.methodLink "ClockworkOrreriesLaw" (375 : Nat) ({ cls := "ClockworkOrreriesModel", name := "passed", desc := "()I" } : Jvm.MethodName)) ∈ lw_all := lw_g (lw_at lw_m10 24 rfl) rfl
theorem q2262 : (Jvm.Cond.methodLink "ClockworkOrreriesLaw" (379 : Nat) ({ cls := "ClockworkOrreriesModel", name := "driven", desc := "()I" } : Jvm.MethodName)) ∈ lw_all := lw_g (lw_at lw_m10 28 rfl) rfl
theorem q2266 : (Jvm.Cond.methodLink "ClockworkOrreriesLaw" (383 : Nat) ({ cls := "ClockworkOrreriesModel", name := "allTeeth", desc := "()I" } : Jvm.MethodName)) ∈ lw_all := lw_g (lw_at lw_m10 32 rfl) rfl
theorem q2270 : (Jvm.Cond.methodLink "ClockworkOrreriesLaw" (394 : Nat) ({ cls := "ClockworkOrreriesModel", name := "states", desc := "()I" } : Jvm.MethodName)) ∈ lw_all := lw_g (lw_at lw_m10 36 rfl) rfl
theorem q2274 : (Jvm.Cond.methodLink "ClockworkOrreriesLaw" (400 : Nat) ({ cls := "ClockworkOrreriesModel", name := "type", desc := "(I)I" } : Jvm.MethodName)) ∈ lw_all := lw_g (lw_at lw_m10 40 rfl) rfl
theorem q2278 : (Jvm.Cond.methodLink "ClockworkOrreriesLaw" (404 : Nat) ({ cls := "ClockworkOrreriesModel", name := "clearText", desc := "()I" } : Jvm.MethodName)) ∈ lw_all := lw_g (lw_at lw_m10 44 rfl) rfl
theorem q2282 : (Jvm.Cond.methodLink "ClockworkOrreriesLaw" (407 : Nat) ({ cls := "ClockworkOrreriesModel", name := "faultPosition", desc := "()I" } : Jvm.MethodName)) ∈ lw_all := lw_g (lw_at lw_m10 48 rfl) rfl
theorem q2314 : (Jvm.Cond.methodLink "ClockworkOrreriesLaw" (410 : Nat) ({ cls := "ClockworkOrreriesModel", name := "faultReason", desc := "()I" } : Jvm.MethodName)) ∈ lw_all := lw_g (lw_at lw_m10 80 rfl) rfl
theorem q2318 : (Jvm.Cond.methodLink "ClockworkOrreriesLaw" (413 : Nat) ({ cls := "ClockworkOrreriesModel", name := "faultCause", desc := "()I" } : Jvm.MethodName)) ∈ lw_all := lw_g (lw_at lw_m10 84 rfl) rfl
theorem q2322 : (Jvm.Cond.methodLink "ClockworkOrreriesLaw" (416 : Nat) ({ cls := "ClockworkOrreriesModel", name := "play", desc := "()I" } : Jvm.MethodName)) ∈ lw_all := lw_g (lw_at lw_m10 88 rfl) rfl
/-! the law's own entry -/
set_option maxRecDepth 100000
abbrev cL_law : ByteArray := code
def dkwL_law_148 : List UInt8 := [153, 0, 5, 3, 172, 167, 0, 3, 132, 5, 5, 167, 241, 151, 4, 172]
abbrev dktL_law_148 : List UInt8 := dkwL_law_148 ++ []
def dkwL_law_147 : List UInt8 := [182, 0, 191, 21, 6, 159, 0, 5, 3, 172, 21, 6, 154, 0, 15, 45, 3, 47, 21, 7, 133, 148]
abbrev dktL_law_147 : List UInt8 := dkwL_law_147 ++ dktL_law_148
def dkwL_law_146 : List UInt8 := [153, 0, 5, 3, 172, 167, 0, 47, 43, 45, 184, 1, 158, 54, 6, 44, 182, 1, 160, 54, 7, 44]
abbrev dktL_law_146 : List UInt8 := dkwL_law_146 ++ dktL_law_147
def dkwL_law_145 : List UInt8 := [182, 0, 191, 21, 6, 159, 0, 5, 3, 172, 21, 6, 154, 0, 15, 45, 3, 47, 21, 7, 133, 148]
abbrev dktL_law_145 : List UInt8 := dkwL_law_145 ++ dktL_law_146
def dkwL_law_144 : List UInt8 := [148, 153, 0, 5, 3, 172, 167, 0, 91, 43, 45, 184, 1, 155, 54, 6, 44, 182, 1, 157, 54, 7, 44]
abbrev dktL_law_144 : List UInt8 := dkwL_law_144 ++ dktL_law_145
def dkwL_law_143 : List UInt8 := [54, 7, 44, 182, 0, 191, 21, 6, 159, 0, 5, 3, 172, 21, 6, 154, 0, 15, 45, 3, 47, 21, 7, 133]
abbrev dktL_law_143 : List UInt8 := dkwL_law_143 ++ dktL_law_144
def dkwL_law_142 : List UInt8 := [21, 7, 133, 148, 153, 0, 5, 3, 172, 167, 0, 135, 43, 45, 184, 1, 152, 54, 6, 44, 182, 1, 154]
abbrev dktL_law_142 : List UInt8 := dkwL_law_142 ++ dktL_law_143
def dkwL_law_141 : List UInt8 := [182, 1, 151, 54, 7, 44, 182, 0, 191, 21, 6, 159, 0, 5, 3, 172, 21, 6, 154, 0, 15, 45, 3, 47]
abbrev dktL_law_141 : List UInt8 := dkwL_law_141 ++ dktL_law_142
def dkwL_law_140 : List UInt8 := [167, 0, 192, 43, 182, 1, 145, 44, 182, 1, 148, 159, 0, 181, 3, 172, 43, 45, 184, 1, 149, 54, 6, 44]
abbrev dktL_law_140 : List UInt8 := dkwL_law_140 ++ dktL_law_141
def dkwL_law_139 : List UInt8 := [21, 6, 159, 0, 5, 3, 172, 21, 6, 154, 0, 15, 45, 3, 47, 21, 7, 133, 148, 153, 0, 5, 3, 172]
abbrev dktL_law_139 : List UInt8 := dkwL_law_139 ++ dktL_law_140
def dkwL_law_138 : List UInt8 := [46, 45, 184, 1, 142, 54, 6, 44, 42, 21, 5, 4, 96, 46, 182, 1, 144, 54, 7, 44, 182, 0, 191]
abbrev dktL_law_138 : List UInt8 := dkwL_law_138 ++ dktL_law_139
def dkwL_law_137 : List UInt8 := [154, 0, 15, 45, 3, 47, 21, 7, 133, 148, 153, 0, 5, 3, 172, 167, 0, 248, 43, 42, 21, 5, 4, 96]
abbrev dktL_law_137 : List UInt8 := dkwL_law_137 ++ dktL_law_138
def dkwL_law_136 : List UInt8 := [184, 1, 139, 54, 6, 44, 182, 1, 141, 54, 7, 44, 182, 0, 191, 21, 6, 159, 0, 5, 3, 172, 21, 6]
abbrev dktL_law_136 : List UInt8 := dkwL_law_136 ++ dktL_law_137
def dkwL_law_135 : List UInt8 := [153, 0, 5, 3, 172, 167, 1, 49, 43, 182, 1, 135, 44, 182, 1, 138, 159, 1, 38, 3, 172, 43, 45]
abbrev dktL_law_135 : List UInt8 := dkwL_law_135 ++ dktL_law_136
def dkwL_law_134 : List UInt8 := [182, 0, 191, 21, 6, 159, 0, 5, 3, 172, 21, 6, 154, 0, 15, 45, 3, 47, 21, 7, 133, 148]
abbrev dktL_law_134 : List UInt8 := dkwL_law_134 ++ dktL_law_135
def dkwL_law_133 : List UInt8 := [182, 1, 131, 159, 1, 95, 3, 172, 43, 45, 184, 1, 132, 54, 6, 44, 182, 1, 134, 54, 7, 44]
abbrev dktL_law_133 : List UInt8 := dkwL_law_133 ++ dktL_law_134
def dkwL_law_132 : List UInt8 := [159, 1, 121, 3, 172, 43, 182, 1, 124, 44, 182, 1, 127, 159, 1, 108, 3, 172, 43, 182, 1, 128, 44]
abbrev dktL_law_132 : List UInt8 := dkwL_law_132 ++ dktL_law_133
def dkwL_law_131 : List UInt8 := [167, 1, 145, 43, 182, 1, 116, 44, 182, 1, 119, 159, 1, 134, 3, 172, 43, 182, 1, 120, 44, 182, 1, 123]
abbrev dktL_law_131 : List UInt8 := dkwL_law_131 ++ dktL_law_132
def dkwL_law_130 : List UInt8 := [21, 6, 159, 0, 5, 3, 172, 21, 6, 154, 0, 15, 45, 3, 47, 21, 7, 133, 148, 153, 0, 5, 3, 172]
abbrev dktL_law_130 : List UInt8 := dkwL_law_130 ++ dktL_law_131
def dkwL_law_129 : List UInt8 := [46, 45, 184, 1, 113, 54, 6, 44, 42, 21, 5, 4, 96, 46, 182, 1, 115, 54, 7, 44, 182, 0, 191]
abbrev dktL_law_129 : List UInt8 := dkwL_law_129 ++ dktL_law_130
def dkwL_law_128 : List UInt8 := [154, 0, 15, 45, 3, 47, 21, 7, 133, 148, 153, 0, 5, 3, 172, 167, 1, 201, 43, 42, 21, 5, 4, 96]
abbrev dktL_law_128 : List UInt8 := dkwL_law_128 ++ dktL_law_129
def dkwL_law_127 : List UInt8 := [21, 5, 4, 96, 46, 182, 1, 112, 54, 7, 44, 182, 0, 191, 21, 6, 159, 0, 5, 3, 172, 21, 6]
abbrev dktL_law_127 : List UInt8 := dkwL_law_127 ++ dktL_law_128
def dkwL_law_126 : List UInt8 := [154, 0, 5, 3, 172, 167, 2, 1, 43, 42, 21, 5, 4, 96, 46, 45, 184, 1, 110, 54, 6, 44, 42]
abbrev dktL_law_126 : List UInt8 := dkwL_law_126 ++ dktL_law_127
def dkwL_law_125 : List UInt8 := [48, 23, 7, 149, 153, 0, 25, 25, 4, 3, 48, 25, 4, 3, 48, 149, 153, 0, 11, 23, 7, 23, 7, 149]
abbrev dktL_law_125 : List UInt8 := dkwL_law_125 ++ dktL_law_126
def dkwL_law_124 : List UInt8 := [182, 1, 109, 56, 7, 44, 182, 0, 191, 21, 6, 159, 0, 5, 3, 172, 21, 6, 154, 0, 35, 25, 4, 3]
abbrev dktL_law_124 : List UInt8 := dkwL_law_124 ++ dktL_law_125
def dkwL_law_123 : List UInt8 := [167, 2, 78, 43, 42, 21, 5, 4, 96, 46, 25, 4, 184, 1, 106, 54, 6, 44, 42, 21, 5, 4, 96, 46]
abbrev dktL_law_123 : List UInt8 := dkwL_law_123 ++ dktL_law_124
def dkwL_law_122 : List UInt8 := [159, 0, 5, 3, 172, 21, 6, 154, 0, 15, 45, 3, 47, 21, 7, 133, 148, 153, 0, 5, 3, 172]
abbrev dktL_law_122 : List UInt8 := dkwL_law_122 ++ dktL_law_123
def dkwL_law_121 : List UInt8 := [21, 5, 4, 96, 46, 42, 21, 5, 5, 96, 46, 182, 1, 105, 54, 7, 44, 182, 0, 191, 21, 6]
abbrev dktL_law_121 : List UInt8 := dkwL_law_121 ++ dktL_law_122
def dkwL_law_120 : List UInt8 := [167, 2, 146, 43, 42, 21, 5, 4, 96, 46, 42, 21, 5, 5, 96, 46, 45, 184, 1, 103, 54, 6, 44, 42]
abbrev dktL_law_120 : List UInt8 := dkwL_law_120 ++ dktL_law_121
def dkwL_law_119 : List UInt8 := [21, 6, 159, 0, 5, 3, 172, 21, 6, 154, 0, 14, 45, 3, 47, 22, 7, 148, 153, 0, 5, 3, 172]
abbrev dktL_law_119 : List UInt8 := dkwL_law_119 ++ dktL_law_120
def dkwL_law_118 : List UInt8 := [46, 45, 184, 1, 100, 54, 6, 44, 42, 21, 5, 4, 96, 46, 182, 1, 102, 55, 7, 44, 182, 0, 191]
abbrev dktL_law_118 : List UInt8 := dkwL_law_118 ++ dktL_law_119
def dkwL_law_117 : List UInt8 := [154, 0, 15, 45, 3, 47, 21, 7, 133, 148, 153, 0, 5, 3, 172, 167, 2, 201, 43, 42, 21, 5, 4, 96]
abbrev dktL_law_117 : List UInt8 := dkwL_law_117 ++ dktL_law_118
def dkwL_law_116 : List UInt8 := [21, 5, 4, 96, 46, 182, 1, 99, 54, 7, 44, 182, 0, 191, 21, 6, 159, 0, 5, 3, 172, 21, 6]
abbrev dktL_law_116 : List UInt8 := dkwL_law_116 ++ dktL_law_117
def dkwL_law_115 : List UInt8 := [182, 1, 96, 159, 3, 3, 3, 172, 43, 42, 21, 5, 4, 96, 46, 45, 184, 1, 97, 54, 6, 44, 42]
abbrev dktL_law_115 : List UInt8 := dkwL_law_115 ++ dktL_law_116
def dkwL_law_114 : List UInt8 := [154, 0, 15, 45, 3, 47, 21, 7, 133, 148, 153, 0, 5, 3, 172, 167, 3, 14, 43, 182, 1, 93, 44]
abbrev dktL_law_114 : List UInt8 := dkwL_law_114 ++ dktL_law_115
def dkwL_law_113 : List UInt8 := [42, 21, 5, 5, 96, 46, 182, 1, 92, 54, 7, 44, 182, 0, 191, 21, 6, 159, 0, 5, 3, 172, 21, 6]
abbrev dktL_law_113 : List UInt8 := dkwL_law_113 ++ dktL_law_114
def dkwL_law_112 : List UInt8 := [21, 5, 4, 96, 46, 42, 21, 5, 5, 96, 46, 45, 184, 1, 90, 54, 6, 44, 42, 21, 5, 4, 96, 46]
abbrev dktL_law_112 : List UInt8 := dkwL_law_112 ++ dktL_law_113
def dkwL_law_111 : List UInt8 := [148, 153, 0, 5, 3, 172, 167, 3, 95, 43, 182, 1, 86, 44, 182, 1, 89, 159, 3, 84, 3, 172, 43, 42]
abbrev dktL_law_111 : List UInt8 := dkwL_law_111 ++ dktL_law_112
def dkwL_law_110 : List UInt8 := [54, 7, 44, 182, 0, 191, 21, 6, 159, 0, 5, 3, 172, 21, 6, 154, 0, 15, 45, 3, 47, 21, 7, 133]
abbrev dktL_law_110 : List UInt8 := dkwL_law_110 ++ dktL_law_111
def dkwL_law_109 : List UInt8 := [54, 6, 44, 42, 21, 5, 4, 96, 46, 42, 21, 5, 5, 96, 46, 42, 21, 5, 6, 96, 46, 182, 1, 85]
abbrev dktL_law_109 : List UInt8 := dkwL_law_109 ++ dktL_law_110
def dkwL_law_108 : List UInt8 := [172, 43, 42, 21, 5, 4, 96, 46, 42, 21, 5, 5, 96, 46, 42, 21, 5, 6, 96, 46, 45, 184, 1, 83]
abbrev dktL_law_108 : List UInt8 := dkwL_law_108 ++ dktL_law_109
def dkwL_law_107 : List UInt8 := [182, 1, 75, 44, 182, 1, 78, 159, 3, 190, 3, 172, 43, 182, 1, 79, 44, 182, 1, 82, 159, 3, 177, 3]
abbrev dktL_law_107 : List UInt8 := dkwL_law_107 ++ dktL_law_108
def dkwL_law_106 : List UInt8 := [153, 0, 5, 3, 172, 167, 3, 214, 43, 182, 1, 71, 44, 182, 1, 74, 159, 3, 203, 3, 172, 43]
abbrev dktL_law_106 : List UInt8 := dkwL_law_106 ++ dktL_law_107
def dkwL_law_105 : List UInt8 := [182, 0, 191, 21, 6, 159, 0, 5, 3, 172, 21, 6, 154, 0, 15, 45, 3, 47, 21, 7, 133, 148]
abbrev dktL_law_105 : List UInt8 := dkwL_law_105 ++ dktL_law_106
def dkwL_law_104 : List UInt8 := [184, 1, 68, 54, 6, 44, 42, 21, 5, 4, 96, 46, 42, 21, 5, 5, 96, 46, 182, 1, 70, 54, 7, 44]
abbrev dktL_law_104 : List UInt8 := dkwL_law_104 ++ dktL_law_105
def dkwL_law_103 : List UInt8 := [153, 0, 5, 3, 172, 167, 4, 26, 43, 42, 21, 5, 4, 96, 46, 42, 21, 5, 5, 96, 46, 45]
abbrev dktL_law_103 : List UInt8 := dkwL_law_103 ++ dktL_law_104
def dkwL_law_102 : List UInt8 := [182, 0, 191, 21, 6, 159, 0, 5, 3, 172, 21, 6, 154, 0, 15, 45, 3, 47, 21, 7, 133, 148]
abbrev dktL_law_102 : List UInt8 := dkwL_law_102 ++ dktL_law_103
def dkwL_law_101 : List UInt8 := [184, 1, 65, 54, 6, 44, 42, 21, 5, 4, 96, 46, 42, 21, 5, 5, 96, 46, 182, 1, 67, 54, 7, 44]
abbrev dktL_law_101 : List UInt8 := dkwL_law_101 ++ dktL_law_102
def dkwL_law_100 : List UInt8 := [148, 153, 0, 5, 3, 172, 167, 4, 94, 43, 42, 21, 5, 4, 96, 46, 42, 21, 5, 5, 96, 46, 45]
abbrev dktL_law_100 : List UInt8 := dkwL_law_100 ++ dktL_law_101
def dkwL_law_99 : List UInt8 := [54, 7, 44, 182, 0, 191, 21, 6, 159, 0, 5, 3, 172, 21, 6, 154, 0, 15, 45, 3, 47, 21, 7, 133]
abbrev dktL_law_99 : List UInt8 := dkwL_law_99 ++ dktL_law_100
def dkwL_law_98 : List UInt8 := [96, 46, 42, 21, 5, 5, 96, 46, 42, 21, 5, 6, 96, 46, 42, 21, 5, 7, 96, 46, 182, 1, 64]
abbrev dktL_law_98 : List UInt8 := dkwL_law_98 ++ dktL_law_99
def dkwL_law_97 : List UInt8 := [46, 42, 21, 5, 6, 96, 46, 42, 21, 5, 7, 96, 46, 45, 184, 1, 61, 54, 6, 44, 42, 21, 5, 4]
abbrev dktL_law_97 : List UInt8 := dkwL_law_97 ++ dktL_law_98
def dkwL_law_96 : List UInt8 := [47, 22, 7, 148, 153, 0, 5, 3, 172, 167, 4, 186, 43, 42, 21, 5, 4, 96, 46, 42, 21, 5, 5, 96]
abbrev dktL_law_96 : List UInt8 := dkwL_law_96 ++ dktL_law_97
def dkwL_law_95 : List UInt8 := [46, 182, 1, 60, 55, 7, 44, 182, 0, 191, 21, 6, 159, 0, 5, 3, 172, 21, 6, 154, 0, 14, 45, 3]
abbrev dktL_law_95 : List UInt8 := dkwL_law_95 ++ dktL_law_96
def dkwL_law_94 : List UInt8 := [42, 21, 5, 5, 96, 46, 45, 184, 1, 58, 54, 6, 44, 42, 21, 5, 4, 96, 46, 42, 21, 5, 5, 96]
abbrev dktL_law_94 : List UInt8 := dkwL_law_94 ++ dktL_law_95
def dkwL_law_93 : List UInt8 := [154, 0, 14, 45, 3, 47, 22, 7, 148, 153, 0, 5, 3, 172, 167, 4, 253, 43, 42, 21, 5, 4, 96, 46]
abbrev dktL_law_93 : List UInt8 := dkwL_law_93 ++ dktL_law_94
def dkwL_law_92 : List UInt8 := [21, 5, 5, 96, 46, 182, 1, 57, 55, 7, 44, 182, 0, 191, 21, 6, 159, 0, 5, 3, 172, 21, 6]
abbrev dktL_law_92 : List UInt8 := dkwL_law_92 ++ dktL_law_93
def dkwL_law_91 : List UInt8 := [4, 96, 46, 42, 21, 5, 5, 96, 46, 45, 184, 1, 55, 54, 6, 44, 42, 21, 5, 4, 96, 46, 42]
abbrev dktL_law_91 : List UInt8 := dkwL_law_91 ++ dktL_law_92
def dkwL_law_90 : List UInt8 := [21, 6, 154, 0, 15, 45, 3, 47, 21, 7, 133, 148, 153, 0, 5, 3, 172, 167, 5, 64, 43, 42, 21, 5]
abbrev dktL_law_90 : List UInt8 := dkwL_law_90 ++ dktL_law_91
def dkwL_law_89 : List UInt8 := [96, 46, 42, 21, 5, 6, 96, 46, 182, 1, 54, 54, 7, 44, 182, 0, 191, 21, 6, 159, 0, 5, 3, 172]
abbrev dktL_law_89 : List UInt8 := dkwL_law_89 ++ dktL_law_90
def dkwL_law_88 : List UInt8 := [46, 42, 21, 5, 6, 96, 46, 45, 184, 1, 52, 54, 6, 44, 42, 21, 5, 4, 96, 46, 42, 21, 5, 5]
abbrev dktL_law_88 : List UInt8 := dkwL_law_88 ++ dktL_law_89
def dkwL_law_87 : List UInt8 := [21, 7, 133, 148, 153, 0, 5, 3, 172, 167, 5, 144, 43, 42, 21, 5, 4, 96, 46, 42, 21, 5, 5, 96]
abbrev dktL_law_87 : List UInt8 := dkwL_law_87 ++ dktL_law_88
def dkwL_law_86 : List UInt8 := [182, 1, 51, 54, 7, 44, 182, 0, 191, 21, 6, 159, 0, 5, 3, 172, 21, 6, 154, 0, 15, 45, 3, 47]
abbrev dktL_law_86 : List UInt8 := dkwL_law_86 ++ dktL_law_87
def dkwL_law_85 : List UInt8 := [184, 1, 48, 54, 6, 44, 42, 21, 5, 4, 96, 46, 42, 21, 5, 5, 96, 46, 42, 21, 5, 6, 96, 46]
abbrev dktL_law_85 : List UInt8 := dkwL_law_85 ++ dktL_law_86
def dkwL_law_84 : List UInt8 := [172, 167, 5, 224, 43, 42, 21, 5, 4, 96, 46, 42, 21, 5, 5, 96, 46, 42, 21, 5, 6, 96, 46, 45]
abbrev dktL_law_84 : List UInt8 := dkwL_law_84 ++ dktL_law_85
def dkwL_law_83 : List UInt8 := [172, 21, 6, 154, 0, 22, 45, 3, 47, 21, 7, 153, 0, 7, 10, 167, 0, 4, 9, 148, 153, 0, 5, 3]
abbrev dktL_law_83 : List UInt8 := dkwL_law_83 ++ dktL_law_84
def dkwL_law_82 : List UInt8 := [54, 6, 44, 42, 21, 5, 4, 96, 46, 182, 1, 47, 54, 7, 44, 182, 0, 191, 21, 6, 159, 0, 5, 3]
abbrev dktL_law_82 : List UInt8 := dkwL_law_82 ++ dktL_law_83
def dkwL_law_81 : List UInt8 := [21, 7, 133, 148, 153, 0, 5, 3, 172, 167, 6, 31, 43, 42, 21, 5, 4, 96, 46, 45, 184, 1, 45]
abbrev dktL_law_81 : List UInt8 := dkwL_law_81 ++ dktL_law_82
def dkwL_law_80 : List UInt8 := [182, 1, 44, 54, 7, 44, 182, 0, 191, 21, 6, 159, 0, 5, 3, 172, 21, 6, 154, 0, 15, 45, 3, 47]
abbrev dktL_law_80 : List UInt8 := dkwL_law_80 ++ dktL_law_81
def dkwL_law_79 : List UInt8 := [167, 6, 87, 43, 42, 21, 5, 4, 96, 46, 45, 184, 1, 42, 54, 6, 44, 42, 21, 5, 4, 96, 46]
abbrev dktL_law_79 : List UInt8 := dkwL_law_79 ++ dktL_law_80
def dkwL_law_78 : List UInt8 := [21, 6, 159, 0, 5, 3, 172, 21, 6, 154, 0, 15, 45, 3, 47, 21, 7, 133, 148, 153, 0, 5, 3, 172]
abbrev dktL_law_78 : List UInt8 := dkwL_law_78 ++ dktL_law_79
def dkwL_law_77 : List UInt8 := [46, 45, 184, 1, 39, 54, 6, 44, 42, 21, 5, 4, 96, 46, 182, 1, 41, 54, 7, 44, 182, 0, 191]
abbrev dktL_law_77 : List UInt8 := dkwL_law_77 ++ dktL_law_78
def dkwL_law_76 : List UInt8 := [154, 0, 15, 45, 3, 47, 21, 7, 133, 148, 153, 0, 5, 3, 172, 167, 6, 143, 43, 42, 21, 5, 4, 96]
abbrev dktL_law_76 : List UInt8 := dkwL_law_76 ++ dktL_law_77
def dkwL_law_75 : List UInt8 := [21, 5, 4, 96, 46, 182, 1, 38, 54, 7, 44, 182, 0, 191, 21, 6, 159, 0, 5, 3, 172, 21, 6]
abbrev dktL_law_75 : List UInt8 := dkwL_law_75 ++ dktL_law_76
def dkwL_law_74 : List UInt8 := [153, 0, 5, 3, 172, 167, 6, 199, 43, 42, 21, 5, 4, 96, 46, 45, 184, 1, 36, 54, 6, 44, 42]
abbrev dktL_law_74 : List UInt8 := dkwL_law_74 ++ dktL_law_75
def dkwL_law_73 : List UInt8 := [182, 0, 191, 21, 6, 159, 0, 5, 3, 172, 21, 6, 154, 0, 15, 45, 3, 47, 21, 7, 133, 148]
abbrev dktL_law_73 : List UInt8 := dkwL_law_73 ++ dktL_law_74
def dkwL_law_72 : List UInt8 := [21, 5, 4, 96, 46, 45, 184, 1, 33, 54, 6, 44, 42, 21, 5, 4, 96, 46, 182, 1, 35, 54, 7, 44]
abbrev dktL_law_72 : List UInt8 := dkwL_law_72 ++ dktL_law_73
def dkwL_law_71 : List UInt8 := [182, 1, 28, 159, 7, 14, 3, 172, 43, 182, 1, 29, 44, 182, 1, 32, 159, 7, 1, 3, 172, 43, 42]
abbrev dktL_law_71 : List UInt8 := dkwL_law_71 ++ dktL_law_72
def dkwL_law_70 : List UInt8 := [154, 0, 14, 45, 3, 47, 22, 7, 148, 153, 0, 5, 3, 172, 167, 7, 25, 43, 182, 1, 25, 44]
abbrev dktL_law_70 : List UInt8 := dkwL_law_70 ++ dktL_law_71
def dkwL_law_69 : List UInt8 := [42, 21, 5, 4, 96, 46, 182, 1, 24, 55, 7, 44, 182, 0, 191, 21, 6, 159, 0, 5, 3, 172, 21, 6]
abbrev dktL_law_69 : List UInt8 := dkwL_law_69 ++ dktL_law_70
def dkwL_law_68 : List UInt8 := [9, 148, 153, 0, 5, 3, 172, 167, 7, 80, 43, 42, 21, 5, 4, 96, 46, 45, 184, 1, 22, 54, 6, 44]
abbrev dktL_law_68 : List UInt8 := dkwL_law_68 ++ dktL_law_69
def dkwL_law_67 : List UInt8 := [21, 6, 159, 0, 5, 3, 172, 21, 6, 154, 0, 22, 45, 3, 47, 21, 7, 153, 0, 7, 10, 167, 0, 4]
abbrev dktL_law_67 : List UInt8 := dkwL_law_67 ++ dktL_law_68
def dkwL_law_66 : List UInt8 := [46, 45, 184, 1, 19, 54, 6, 44, 42, 21, 5, 4, 96, 46, 182, 1, 21, 54, 7, 44, 182, 0, 191]
abbrev dktL_law_66 : List UInt8 := dkwL_law_66 ++ dktL_law_67
def dkwL_law_65 : List UInt8 := [154, 0, 15, 45, 3, 47, 21, 7, 133, 148, 153, 0, 5, 3, 172, 167, 7, 143, 43, 42, 21, 5, 4, 96]
abbrev dktL_law_65 : List UInt8 := dkwL_law_65 ++ dktL_law_66
def dkwL_law_64 : List UInt8 := [21, 5, 4, 96, 46, 182, 1, 18, 54, 7, 44, 182, 0, 191, 21, 6, 159, 0, 5, 3, 172, 21, 6]
abbrev dktL_law_64 : List UInt8 := dkwL_law_64 ++ dktL_law_65
def dkwL_law_63 : List UInt8 := [153, 0, 5, 3, 172, 167, 7, 199, 43, 42, 21, 5, 4, 96, 46, 45, 184, 1, 16, 54, 6, 44, 42]
abbrev dktL_law_63 : List UInt8 := dkwL_law_63 ++ dktL_law_64
def dkwL_law_62 : List UInt8 := [182, 0, 191, 21, 6, 159, 0, 5, 3, 172, 21, 6, 154, 0, 15, 45, 3, 47, 21, 7, 133, 148]
abbrev dktL_law_62 : List UInt8 := dkwL_law_62 ++ dktL_law_63
def dkwL_law_61 : List UInt8 := [4, 96, 46, 45, 184, 1, 13, 54, 6, 44, 42, 21, 5, 4, 96, 46, 182, 1, 15, 54, 7, 44]
abbrev dktL_law_61 : List UInt8 := dkwL_law_61 ++ dktL_law_62
def dkwL_law_60 : List UInt8 := [21, 6, 154, 0, 15, 45, 3, 47, 21, 7, 133, 148, 153, 0, 5, 3, 172, 167, 7, 255, 43, 42, 21, 5]
abbrev dktL_law_60 : List UInt8 := dkwL_law_60 ++ dktL_law_61
def dkwL_law_59 : List UInt8 := [153, 0, 7, 4, 167, 0, 4, 3, 182, 1, 12, 54, 7, 44, 182, 0, 191, 21, 6, 159, 0, 5, 3, 172]
abbrev dktL_law_59 : List UInt8 := dkwL_law_59 ++ dktL_law_60
def dkwL_law_58 : List UInt8 := [167, 0, 4, 3, 45, 184, 1, 9, 54, 6, 44, 42, 21, 5, 4, 96, 46, 42, 21, 5, 5, 96, 46]
abbrev dktL_law_58 : List UInt8 := dkwL_law_58 ++ dktL_law_59
def dkwL_law_57 : List UInt8 := [3, 172, 167, 8, 83, 43, 42, 21, 5, 4, 96, 46, 42, 21, 5, 5, 96, 46, 153, 0, 7, 4]
abbrev dktL_law_57 : List UInt8 := dkwL_law_57 ++ dktL_law_58
def dkwL_law_56 : List UInt8 := [182, 0, 191, 21, 6, 159, 0, 5, 3, 172, 21, 6, 154, 0, 14, 45, 3, 47, 22, 7, 148, 153, 0, 5]
abbrev dktL_law_56 : List UInt8 := dkwL_law_56 ++ dktL_law_57
def dkwL_law_55 : List UInt8 := [4, 96, 46, 45, 184, 1, 6, 54, 6, 44, 42, 21, 5, 4, 96, 46, 182, 1, 8, 55, 7, 44]
abbrev dktL_law_55 : List UInt8 := dkwL_law_55 ++ dktL_law_56
def dkwL_law_54 : List UInt8 := [47, 21, 7, 153, 0, 7, 10, 167, 0, 4, 9, 148, 153, 0, 5, 3, 172, 167, 8, 138, 43, 42, 21, 5]
abbrev dktL_law_54 : List UInt8 := dkwL_law_54 ++ dktL_law_55
def dkwL_law_53 : List UInt8 := [46, 182, 1, 5, 54, 7, 44, 182, 0, 191, 21, 6, 159, 0, 5, 3, 172, 21, 6, 154, 0, 22, 45, 3]
abbrev dktL_law_53 : List UInt8 := dkwL_law_53 ++ dktL_law_54
def dkwL_law_52 : List UInt8 := [3, 172, 167, 8, 201, 43, 42, 21, 5, 4, 96, 46, 45, 184, 1, 3, 54, 6, 44, 42, 21, 5, 4, 96]
abbrev dktL_law_52 : List UInt8 := dkwL_law_52 ++ dktL_law_53
def dkwL_law_51 : List UInt8 := [182, 0, 191, 21, 6, 159, 0, 5, 3, 172, 21, 6, 154, 0, 14, 45, 3, 47, 22, 7, 148, 153, 0, 5]
abbrev dktL_law_51 : List UInt8 := dkwL_law_51 ++ dktL_law_52
def dkwL_law_50 : List UInt8 := [4, 96, 46, 45, 184, 1, 0, 54, 6, 44, 42, 21, 5, 4, 96, 46, 182, 1, 2, 55, 7, 44]
abbrev dktL_law_50 : List UInt8 := dkwL_law_50 ++ dktL_law_51
def dkwL_law_49 : List UInt8 := [172, 21, 6, 154, 0, 14, 45, 3, 47, 22, 7, 148, 153, 0, 5, 3, 172, 167, 9, 0, 43, 42, 21, 5]
abbrev dktL_law_49 : List UInt8 := dkwL_law_49 ++ dktL_law_50
def dkwL_law_48 : List UInt8 := [54, 6, 44, 42, 21, 5, 4, 96, 46, 182, 0, 255, 55, 7, 44, 182, 0, 191, 21, 6, 159, 0, 5, 3]
abbrev dktL_law_48 : List UInt8 := dkwL_law_48 ++ dktL_law_49
def dkwL_law_47 : List UInt8 := [21, 7, 133, 148, 153, 0, 5, 3, 172, 167, 9, 55, 43, 42, 21, 5, 4, 96, 46, 45, 184, 0, 253]
abbrev dktL_law_47 : List UInt8 := dkwL_law_47 ++ dktL_law_48
def dkwL_law_46 : List UInt8 := [182, 0, 252, 54, 7, 44, 182, 0, 191, 21, 6, 159, 0, 5, 3, 172, 21, 6, 154, 0, 15, 45, 3, 47]
abbrev dktL_law_46 : List UInt8 := dkwL_law_46 ++ dktL_law_47
def dkwL_law_45 : List UInt8 := [167, 9, 111, 43, 42, 21, 5, 4, 96, 46, 45, 184, 0, 250, 54, 6, 44, 42, 21, 5, 4, 96, 46]
abbrev dktL_law_45 : List UInt8 := dkwL_law_45 ++ dktL_law_46
def dkwL_law_44 : List UInt8 := [154, 0, 22, 45, 3, 47, 21, 7, 153, 0, 7, 10, 167, 0, 4, 9, 148, 153, 0, 5, 3, 172]
abbrev dktL_law_44 : List UInt8 := dkwL_law_44 ++ dktL_law_45
def dkwL_law_43 : List UInt8 := [21, 5, 4, 96, 46, 182, 0, 249, 54, 7, 44, 182, 0, 191, 21, 6, 159, 0, 5, 3, 172, 21, 6]
abbrev dktL_law_43 : List UInt8 := dkwL_law_43 ++ dktL_law_44
def dkwL_law_42 : List UInt8 := [148, 153, 0, 5, 3, 172, 167, 9, 174, 43, 42, 21, 5, 4, 96, 46, 45, 184, 0, 247, 54, 6, 44, 42]
abbrev dktL_law_42 : List UInt8 := dkwL_law_42 ++ dktL_law_43
def dkwL_law_41 : List UInt8 := [54, 7, 44, 182, 0, 191, 21, 6, 159, 0, 5, 3, 172, 21, 6, 154, 0, 15, 45, 3, 47, 21, 7, 133]
abbrev dktL_law_41 : List UInt8 := dkwL_law_41 ++ dktL_law_42
def dkwL_law_40 : List UInt8 := [46, 45, 184, 0, 244, 54, 6, 44, 42, 21, 5, 4, 96, 46, 42, 21, 5, 5, 96, 46, 182, 0, 246]
abbrev dktL_law_40 : List UInt8 := dkwL_law_40 ++ dktL_law_41
def dkwL_law_39 : List UInt8 := [21, 7, 133, 148, 153, 0, 5, 3, 172, 167, 9, 242, 43, 42, 21, 5, 4, 96, 46, 42, 21, 5, 5, 96]
abbrev dktL_law_39 : List UInt8 := dkwL_law_39 ++ dktL_law_40
def dkwL_law_38 : List UInt8 := [182, 0, 243, 54, 7, 44, 182, 0, 191, 21, 6, 159, 0, 5, 3, 172, 21, 6, 154, 0, 15, 45, 3, 47]
abbrev dktL_law_38 : List UInt8 := dkwL_law_38 ++ dktL_law_39
def dkwL_law_37 : List UInt8 := [167, 10, 42, 43, 42, 21, 5, 4, 96, 46, 45, 184, 0, 241, 54, 6, 44, 42, 21, 5, 4, 96, 46]
abbrev dktL_law_37 : List UInt8 := dkwL_law_37 ++ dktL_law_38
def dkwL_law_36 : List UInt8 := [159, 0, 5, 3, 172, 21, 6, 154, 0, 15, 45, 3, 47, 21, 7, 133, 148, 153, 0, 5, 3, 172]
abbrev dktL_law_36 : List UInt8 := dkwL_law_36 ++ dktL_law_37
def dkwL_law_35 : List UInt8 := [184, 0, 238, 54, 6, 44, 42, 21, 5, 4, 96, 46, 182, 0, 240, 54, 7, 44, 182, 0, 191, 21, 6]
abbrev dktL_law_35 : List UInt8 := dkwL_law_35 ++ dktL_law_36
def dkwL_law_34 : List UInt8 := [172, 43, 182, 0, 234, 44, 182, 0, 237, 159, 10, 100, 3, 172, 43, 42, 21, 5, 4, 96, 46, 45]
abbrev dktL_law_34 : List UInt8 := dkwL_law_34 ++ dktL_law_35
def dkwL_law_33 : List UInt8 := [182, 0, 226, 44, 182, 0, 229, 159, 10, 126, 3, 172, 43, 182, 0, 230, 44, 182, 0, 233, 159, 10, 113, 3]
abbrev dktL_law_33 : List UInt8 := dkwL_law_33 ++ dktL_law_34
def dkwL_law_32 : List UInt8 := [172, 21, 6, 154, 0, 15, 45, 3, 47, 21, 7, 133, 148, 153, 0, 5, 3, 172, 167, 10, 137, 43]
abbrev dktL_law_32 : List UInt8 := dkwL_law_32 ++ dktL_law_33
def dkwL_law_31 : List UInt8 := [54, 6, 44, 42, 21, 5, 4, 96, 46, 182, 0, 225, 54, 7, 44, 182, 0, 191, 21, 6, 159, 0, 5, 3]
abbrev dktL_law_31 : List UInt8 := dkwL_law_31 ++ dktL_law_32
def dkwL_law_30 : List UInt8 := [21, 7, 133, 148, 153, 0, 5, 3, 172, 167, 10, 193, 43, 42, 21, 5, 4, 96, 46, 45, 184, 0, 223]
abbrev dktL_law_30 : List UInt8 := dkwL_law_30 ++ dktL_law_31
def dkwL_law_29 : List UInt8 := [182, 0, 222, 54, 7, 44, 182, 0, 191, 21, 6, 159, 0, 5, 3, 172, 21, 6, 154, 0, 15, 45, 3, 47]
abbrev dktL_law_29 : List UInt8 := dkwL_law_29 ++ dktL_law_30
def dkwL_law_28 : List UInt8 := [167, 10, 249, 43, 42, 21, 5, 4, 96, 46, 45, 184, 0, 220, 54, 6, 44, 42, 21, 5, 4, 96, 46]
abbrev dktL_law_28 : List UInt8 := dkwL_law_28 ++ dktL_law_29
def dkwL_law_27 : List UInt8 := [159, 0, 5, 3, 172, 21, 6, 154, 0, 15, 45, 3, 47, 21, 7, 133, 148, 153, 0, 5, 3, 172]
abbrev dktL_law_27 : List UInt8 := dkwL_law_27 ++ dktL_law_28
def dkwL_law_26 : List UInt8 := [21, 5, 4, 96, 46, 42, 21, 5, 5, 96, 46, 182, 0, 219, 54, 7, 44, 182, 0, 191, 21, 6]
abbrev dktL_law_26 : List UInt8 := dkwL_law_26 ++ dktL_law_27
def dkwL_law_25 : List UInt8 := [167, 11, 61, 43, 42, 21, 5, 4, 96, 46, 42, 21, 5, 5, 96, 46, 45, 184, 0, 217, 54, 6, 44, 42]
abbrev dktL_law_25 : List UInt8 := dkwL_law_25 ++ dktL_law_26
def dkwL_law_24 : List UInt8 := [159, 0, 5, 3, 172, 21, 6, 154, 0, 15, 45, 3, 47, 21, 7, 133, 148, 153, 0, 5, 3, 172]
abbrev dktL_law_24 : List UInt8 := dkwL_law_24 ++ dktL_law_25
def dkwL_law_23 : List UInt8 := [21, 5, 4, 96, 46, 42, 21, 5, 5, 96, 46, 182, 0, 216, 54, 7, 44, 182, 0, 191, 21, 6]
abbrev dktL_law_23 : List UInt8 := dkwL_law_23 ++ dktL_law_24
def dkwL_law_22 : List UInt8 := [167, 11, 129, 43, 42, 21, 5, 4, 96, 46, 42, 21, 5, 5, 96, 46, 45, 184, 0, 214, 54, 6, 44, 42]
abbrev dktL_law_22 : List UInt8 := dkwL_law_22 ++ dktL_law_23
def dkwL_law_21 : List UInt8 := [159, 0, 5, 3, 172, 21, 6, 154, 0, 15, 45, 3, 47, 21, 7, 133, 148, 153, 0, 5, 3, 172]
abbrev dktL_law_21 : List UInt8 := dkwL_law_21 ++ dktL_law_22
def dkwL_law_20 : List UInt8 := [21, 5, 4, 96, 46, 42, 21, 5, 5, 96, 46, 182, 0, 213, 54, 7, 44, 182, 0, 191, 21, 6]
abbrev dktL_law_20 : List UInt8 := dkwL_law_20 ++ dktL_law_21
def dkwL_law_19 : List UInt8 := [167, 11, 197, 43, 42, 21, 5, 4, 96, 46, 42, 21, 5, 5, 96, 46, 45, 184, 0, 211, 54, 6, 44, 42]
abbrev dktL_law_19 : List UInt8 := dkwL_law_19 ++ dktL_law_20
def dkwL_law_18 : List UInt8 := [159, 0, 5, 3, 172, 21, 6, 154, 0, 15, 45, 3, 47, 21, 7, 133, 148, 153, 0, 5, 3, 172]
abbrev dktL_law_18 : List UInt8 := dkwL_law_18 ++ dktL_law_19
def dkwL_law_17 : List UInt8 := [21, 5, 4, 96, 46, 42, 21, 5, 5, 96, 46, 182, 0, 210, 54, 7, 44, 182, 0, 191, 21, 6]
abbrev dktL_law_17 : List UInt8 := dkwL_law_17 ++ dktL_law_18
def dkwL_law_16 : List UInt8 := [167, 12, 9, 43, 42, 21, 5, 4, 96, 46, 42, 21, 5, 5, 96, 46, 45, 184, 0, 208, 54, 6, 44, 42]
abbrev dktL_law_16 : List UInt8 := dkwL_law_16 ++ dktL_law_17
def dkwL_law_15 : List UInt8 := [159, 0, 5, 3, 172, 21, 6, 154, 0, 15, 45, 3, 47, 21, 7, 133, 148, 153, 0, 5, 3, 172]
abbrev dktL_law_15 : List UInt8 := dkwL_law_15 ++ dktL_law_16
def dkwL_law_14 : List UInt8 := [21, 5, 4, 96, 46, 42, 21, 5, 5, 96, 46, 182, 0, 207, 54, 7, 44, 182, 0, 191, 21, 6]
abbrev dktL_law_14 : List UInt8 := dkwL_law_14 ++ dktL_law_15
def dkwL_law_13 : List UInt8 := [167, 12, 77, 43, 42, 21, 5, 4, 96, 46, 42, 21, 5, 5, 96, 46, 45, 184, 0, 205, 54, 6, 44, 42]
abbrev dktL_law_13 : List UInt8 := dkwL_law_13 ++ dktL_law_14
def dkwL_law_12 : List UInt8 := [159, 0, 5, 3, 172, 21, 6, 154, 0, 15, 45, 3, 47, 21, 7, 133, 148, 153, 0, 5, 3, 172]
abbrev dktL_law_12 : List UInt8 := dkwL_law_12 ++ dktL_law_13
def dkwL_law_11 : List UInt8 := [184, 0, 201, 54, 6, 44, 42, 21, 5, 4, 96, 46, 182, 0, 204, 54, 7, 44, 182, 0, 191, 21, 6]
abbrev dktL_law_11 : List UInt8 := dkwL_law_11 ++ dktL_law_12
def dkwL_law_10 : List UInt8 := [3, 47, 21, 7, 133, 148, 153, 0, 5, 3, 172, 167, 12, 133, 43, 42, 21, 5, 4, 96, 46, 45]
abbrev dktL_law_10 : List UInt8 := dkwL_law_10 ++ dktL_law_11
def dkwL_law_9 : List UInt8 := [96, 46, 182, 0, 200, 54, 7, 44, 182, 0, 191, 21, 6, 159, 0, 5, 3, 172, 21, 6, 154, 0, 15, 45]
abbrev dktL_law_9 : List UInt8 := dkwL_law_9 ++ dktL_law_10
def dkwL_law_8 : List UInt8 := [46, 42, 21, 5, 5, 96, 46, 45, 184, 0, 198, 54, 6, 44, 42, 21, 5, 4, 96, 46, 42, 21, 5, 5]
abbrev dktL_law_8 : List UInt8 := dkwL_law_8 ++ dktL_law_9
def dkwL_law_7 : List UInt8 := [154, 0, 15, 45, 3, 47, 21, 7, 133, 148, 153, 0, 5, 3, 172, 167, 12, 201, 43, 42, 21, 5, 4, 96]
abbrev dktL_law_7 : List UInt8 := dkwL_law_7 ++ dktL_law_8
def dkwL_law_6 : List UInt8 := [21, 5, 5, 96, 46, 182, 0, 197, 54, 7, 44, 182, 0, 191, 21, 6, 159, 0, 5, 3, 172, 21, 6]
abbrev dktL_law_6 : List UInt8 := dkwL_law_6 ++ dktL_law_7
def dkwL_law_5 : List UInt8 := [4, 96, 46, 42, 21, 5, 5, 96, 46, 45, 184, 0, 194, 54, 6, 44, 42, 21, 5, 4, 96, 46, 42]
abbrev dktL_law_5 : List UInt8 := dkwL_law_5 ++ dktL_law_6
def dkwL_law_4 : List UInt8 := [21, 6, 154, 0, 15, 45, 3, 47, 21, 7, 133, 148, 153, 0, 5, 3, 172, 167, 13, 13, 43, 42, 21, 5]
abbrev dktL_law_4 : List UInt8 := dkwL_law_4 ++ dktL_law_5
def dkwL_law_3 : List UInt8 := [43, 45, 184, 0, 185, 54, 6, 44, 182, 0, 190, 54, 7, 44, 182, 0, 191, 21, 6, 159, 0, 5, 3, 172]
abbrev dktL_law_3 : List UInt8 := dkwL_law_3 ++ dktL_law_4
def dkwL_law_2 : List UInt8 := [170, 0, 0, 0, 0, 0, 14, 86, 0, 0, 0, 0, 0, 0, 0, 67, 0, 0, 1, 32, 0, 0, 1, 76, 0, 0, 1, 144, 0, 0, 1, 212, 0, 0, 2, 12, 0, 0, 2, 80, 0, 0, 2, 148, 0, 0, 2, 216, 0, 0, 3, 28, 0, 0, 3, 96, 0, 0, 3, 152, 0, 0, 3, 208, 0, 0, 3, 221, 0, 0, 3, 234, 0, 0, 3, 247, 0, 0, 4, 47, 0, 0, 4, 103, 0, 0, 4, 171, 0, 0, 4, 234, 0, 0, 5, 34, 0, 0, 5, 89, 0, 0, 5, 144, 0, 0, 5, 207, 0, 0, 6, 6, 0, 0, 6, 90, 0, 0, 6, 146, 0, 0, 6, 202, 0, 0, 7, 9, 0, 0, 7, 64, 0, 0, 7, 77, 0, 0, 7, 90, 0, 0, 7, 146, 0, 0, 7, 202, 0, 0, 8, 2, 0, 0, 8, 58, 0, 0, 8, 121, 0, 0, 8, 201, 0, 0, 9, 25, 0, 0, 9, 92, 0, 0, 9, 159, 0, 0, 9, 251, 0, 0, 10, 63, 0, 0, 10, 131, 0, 0, 10, 144, 0, 0, 10, 157, 0, 0, 10, 170, 0, 0, 10, 250, 0, 0, 11, 7, 0, 0, 11, 75, 0, 0, 11, 88, 0, 0, 11, 144, 0, 0, 11, 199, 0, 0, 12, 11, 0, 0, 12, 88, 0, 0, 12, 144, 0, 0, 12, 200, 0, 0, 12, 213, 0, 0, 12, 226, 0, 0, 12, 239, 0, 0, 12, 252, 0, 0, 13, 40, 0, 0, 13, 53, 0, 0, 13, 97, 0, 0, 13, 153, 0, 0, 13, 166, 0, 0, 13, 210, 0, 0, 13, 254, 0, 0, 14, 42]
abbrev dktL_law_2 : List UInt8 := dkwL_law_2 ++ dktL_law_3
def dkwL_law_1 : List UInt8 := [58, 4, 3, 54, 5, 21, 5, 42, 190, 8, 100, 163, 14, 102, 42, 21, 5, 46, 16, 127, 126]
abbrev dktL_law_1 : List UInt8 := dkwL_law_1 ++ dktL_law_2
def dkwL_law_0 : List UInt8 := [187, 0, 8, 89, 183, 0, 181, 76, 187, 0, 182, 89, 183, 0, 184, 77, 4, 188, 11, 78, 4, 188, 6]
abbrev dktL_law_0 : List UInt8 := dkwL_law_0 ++ dktL_law_1
theorem dksL_law_0 : cL_law.data.toList.drop 0 = dktL_law_0 := by decide +kernel
theorem dksL_law_1 : cL_law.data.toList.drop 23 = dktL_law_1 := dk_seg dksL_law_0 23 rfl rfl
theorem dksL_law_2 : cL_law.data.toList.drop 44 = dktL_law_2 := dk_seg dksL_law_1 21 rfl rfl
theorem dksL_law_3 : cL_law.data.toList.drop 332 = dktL_law_3 := dk_seg dksL_law_2 288 rfl rfl
theorem dksL_law_4 : cL_law.data.toList.drop 356 = dktL_law_4 := dk_seg dksL_law_3 24 rfl rfl
theorem dksL_law_5 : cL_law.data.toList.drop 380 = dktL_law_5 := dk_seg dksL_law_4 24 rfl rfl
theorem dksL_law_6 : cL_law.data.toList.drop 403 = dktL_law_6 := dk_seg dksL_law_5 23 rfl rfl
theorem dksL_law_7 : cL_law.data.toList.drop 426 = dktL_law_7 := dk_seg dksL_law_6 23 rfl rfl
theorem dksL_law_8 : cL_law.data.toList.drop 450 = dktL_law_8 := dk_seg dksL_law_7 24 rfl rfl
theorem dksL_law_9 : cL_law.data.toList.drop 474 = dktL_law_9 := dk_seg dksL_law_8 24 rfl rfl
theorem dksL_law_10 : cL_law.data.toList.drop 498 = dktL_law_10 := dk_seg dksL_law_9 24 rfl rfl
theorem dksL_law_11 : cL_law.data.toList.drop 520 = dktL_law_11 := dk_seg dksL_law_10 22 rfl rfl
theorem dksL_law_12 : cL_law.data.toList.drop 543 = dktL_law_12 := dk_seg dksL_law_11 23 rfl rfl
theorem dksL_law_13 : cL_law.data.toList.drop 565 = dktL_law_13 := dk_seg dksL_law_12 22 rfl rfl
theorem dksL_law_14 : cL_law.data.toList.drop 589 = dktL_law_14 := dk_seg dksL_law_13 24 rfl rfl
theorem dksL_law_15 : cL_law.data.toList.drop 611 = dktL_law_15 := dk_seg dksL_law_14 22 rfl rfl
theorem dksL_law_16 : cL_law.data.toList.drop 633 = dktL_law_16 := dk_seg dksL_law_15 22 rfl rfl
theorem dksL_law_17 : cL_law.data.toList.drop 657 = dktL_law_17 := dk_seg dksL_law_16 24 rfl rfl
theorem dksL_law_18 : cL_law.data.toList.drop 679 = dktL_law_18 := dk_seg dksL_law_17 22 rfl rfl
theorem dksL_law_19 : cL_law.data.toList.drop 701 = dktL_law_19 := dk_seg dksL_law_18 22 rfl rfl
theorem dksL_law_20 : cL_law.data.toList.drop 725 = dktL_law_20 := dk_seg dksL_law_19 24 rfl rfl
theorem dksL_law_21 : cL_law.data.toList.drop 747 = dktL_law_21 := dk_seg dksL_law_20 22 rfl rfl
theorem dksL_law_22 : cL_law.data.toList.drop 769 = dktL_law_22 := dk_seg dksL_law_21 22 rfl rfl
theorem dksL_law_23 : cL_law.data.toList.drop 793 = dktL_law_23 := dk_seg dksL_law_22 24 rfl rfl
theorem dksL_law_24 : cL_law.data.toList.drop 815 = dktL_law_24 := dk_seg dksL_law_23 22 rfl rfl
theorem dksL_law_25 : cL_law.data.toList.drop 837 = dktL_law_25 := dk_seg dksL_law_24 22 rfl rfl
theorem dksL_law_26 : cL_law.data.toList.drop 861 = dktL_law_26 := dk_seg dksL_law_25 24 rfl rfl
theorem dksL_law_27 : cL_law.data.toList.drop 883 = dktL_law_27 := dk_seg dksL_law_26 22 rfl rfl
theorem dksL_law_28 : cL_law.data.toList.drop 905 = dktL_law_28 := dk_seg dksL_law_27 22 rfl rfl
theorem dksL_law_29 : cL_law.data.toList.drop 928 = dktL_law_29 := dk_seg dksL_law_28 23 rfl rfl
theorem dksL_law_30 : cL_law.data.toList.drop 952 = dktL_law_30 := dk_seg dksL_law_29 24 rfl rfl
theorem dksL_law_31 : cL_law.data.toList.drop 975 = dktL_law_31 := dk_seg dksL_law_30 23 rfl rfl
theorem dksL_law_32 : cL_law.data.toList.drop 999 = dktL_law_32 := dk_seg dksL_law_31 24 rfl rfl
theorem dksL_law_33 : cL_law.data.toList.drop 1021 = dktL_law_33 := dk_seg dksL_law_32 22 rfl rfl
theorem dksL_law_34 : cL_law.data.toList.drop 1045 = dktL_law_34 := dk_seg dksL_law_33 24 rfl rfl
theorem dksL_law_35 : cL_law.data.toList.drop 1067 = dktL_law_35 := dk_seg dksL_law_34 22 rfl rfl
theorem dksL_law_36 : cL_law.data.toList.drop 1090 = dktL_law_36 := dk_seg dksL_law_35 23 rfl rfl
theorem dksL_law_37 : cL_law.data.toList.drop 1112 = dktL_law_37 := dk_seg dksL_law_36 22 rfl rfl
theorem dksL_law_38 : cL_law.data.toList.drop 1135 = dktL_law_38 := dk_seg dksL_law_37 23 rfl rfl
theorem dksL_law_39 : cL_law.data.toList.drop 1159 = dktL_law_39 := dk_seg dksL_law_38 24 rfl rfl
theorem dksL_law_40 : cL_law.data.toList.drop 1183 = dktL_law_40 := dk_seg dksL_law_39 24 rfl rfl
theorem dksL_law_41 : cL_law.data.toList.drop 1206 = dktL_law_41 := dk_seg dksL_law_40 23 rfl rfl
theorem dksL_law_42 : cL_law.data.toList.drop 1230 = dktL_law_42 := dk_seg dksL_law_41 24 rfl rfl
theorem dksL_law_43 : cL_law.data.toList.drop 1254 = dktL_law_43 := dk_seg dksL_law_42 24 rfl rfl
theorem dksL_law_44 : cL_law.data.toList.drop 1277 = dktL_law_44 := dk_seg dksL_law_43 23 rfl rfl
theorem dksL_law_45 : cL_law.data.toList.drop 1299 = dktL_law_45 := dk_seg dksL_law_44 22 rfl rfl
theorem dksL_law_46 : cL_law.data.toList.drop 1322 = dktL_law_46 := dk_seg dksL_law_45 23 rfl rfl
theorem dksL_law_47 : cL_law.data.toList.drop 1346 = dktL_law_47 := dk_seg dksL_law_46 24 rfl rfl
theorem dksL_law_48 : cL_law.data.toList.drop 1369 = dktL_law_48 := dk_seg dksL_law_47 23 rfl rfl
theorem dksL_law_49 : cL_law.data.toList.drop 1393 = dktL_law_49 := dk_seg dksL_law_48 24 rfl rfl
theorem dksL_law_50 : cL_law.data.toList.drop 1417 = dktL_law_50 := dk_seg dksL_law_49 24 rfl rfl
theorem dksL_law_51 : cL_law.data.toList.drop 1439 = dktL_law_51 := dk_seg dksL_law_50 22 rfl rfl
theorem dksL_law_52 : cL_law.data.toList.drop 1463 = dktL_law_52 := dk_seg dksL_law_51 24 rfl rfl
theorem dksL_law_53 : cL_law.data.toList.drop 1487 = dktL_law_53 := dk_seg dksL_law_52 24 rfl rfl
theorem dksL_law_54 : cL_law.data.toList.drop 1511 = dktL_law_54 := dk_seg dksL_law_53 24 rfl rfl
theorem dksL_law_55 : cL_law.data.toList.drop 1535 = dktL_law_55 := dk_seg dksL_law_54 24 rfl rfl
theorem dksL_law_56 : cL_law.data.toList.drop 1557 = dktL_law_56 := dk_seg dksL_law_55 22 rfl rfl
theorem dksL_law_57 : cL_law.data.toList.drop 1581 = dktL_law_57 := dk_seg dksL_law_56 24 rfl rfl
theorem dksL_law_58 : cL_law.data.toList.drop 1603 = dktL_law_58 := dk_seg dksL_law_57 22 rfl rfl
theorem dksL_law_59 : cL_law.data.toList.drop 1626 = dktL_law_59 := dk_seg dksL_law_58 23 rfl rfl
theorem dksL_law_60 : cL_law.data.toList.drop 1650 = dktL_law_60 := dk_seg dksL_law_59 24 rfl rfl
theorem dksL_law_61 : cL_law.data.toList.drop 1674 = dktL_law_61 := dk_seg dksL_law_60 24 rfl rfl
theorem dksL_law_62 : cL_law.data.toList.drop 1696 = dktL_law_62 := dk_seg dksL_law_61 22 rfl rfl
theorem dksL_law_63 : cL_law.data.toList.drop 1718 = dktL_law_63 := dk_seg dksL_law_62 22 rfl rfl
theorem dksL_law_64 : cL_law.data.toList.drop 1741 = dktL_law_64 := dk_seg dksL_law_63 23 rfl rfl
theorem dksL_law_65 : cL_law.data.toList.drop 1764 = dktL_law_65 := dk_seg dksL_law_64 23 rfl rfl
theorem dksL_law_66 : cL_law.data.toList.drop 1788 = dktL_law_66 := dk_seg dksL_law_65 24 rfl rfl
theorem dksL_law_67 : cL_law.data.toList.drop 1811 = dktL_law_67 := dk_seg dksL_law_66 23 rfl rfl
theorem dksL_law_68 : cL_law.data.toList.drop 1835 = dktL_law_68 := dk_seg dksL_law_67 24 rfl rfl
theorem dksL_law_69 : cL_law.data.toList.drop 1859 = dktL_law_69 := dk_seg dksL_law_68 24 rfl rfl
theorem dksL_law_70 : cL_law.data.toList.drop 1883 = dktL_law_70 := dk_seg dksL_law_69 24 rfl rfl
theorem dksL_law_71 : cL_law.data.toList.drop 1905 = dktL_law_71 := dk_seg dksL_law_70 22 rfl rfl
theorem dksL_law_72 : cL_law.data.toList.drop 1928 = dktL_law_72 := dk_seg dksL_law_71 23 rfl rfl
theorem dksL_law_73 : cL_law.data.toList.drop 1952 = dktL_law_73 := dk_seg dksL_law_72 24 rfl rfl
theorem dksL_law_74 : cL_law.data.toList.drop 1974 = dktL_law_74 := dk_seg dksL_law_73 22 rfl rfl
theorem dksL_law_75 : cL_law.data.toList.drop 1997 = dktL_law_75 := dk_seg dksL_law_74 23 rfl rfl
theorem dksL_law_76 : cL_law.data.toList.drop 2020 = dktL_law_76 := dk_seg dksL_law_75 23 rfl rfl
theorem dksL_law_77 : cL_law.data.toList.drop 2044 = dktL_law_77 := dk_seg dksL_law_76 24 rfl rfl
theorem dksL_law_78 : cL_law.data.toList.drop 2067 = dktL_law_78 := dk_seg dksL_law_77 23 rfl rfl
theorem dksL_law_79 : cL_law.data.toList.drop 2091 = dktL_law_79 := dk_seg dksL_law_78 24 rfl rfl
theorem dksL_law_80 : cL_law.data.toList.drop 2114 = dktL_law_80 := dk_seg dksL_law_79 23 rfl rfl
theorem dksL_law_81 : cL_law.data.toList.drop 2138 = dktL_law_81 := dk_seg dksL_law_80 24 rfl rfl
theorem dksL_law_82 : cL_law.data.toList.drop 2161 = dktL_law_82 := dk_seg dksL_law_81 23 rfl rfl
theorem dksL_law_83 : cL_law.data.toList.drop 2185 = dktL_law_83 := dk_seg dksL_law_82 24 rfl rfl
theorem dksL_law_84 : cL_law.data.toList.drop 2209 = dktL_law_84 := dk_seg dksL_law_83 24 rfl rfl
theorem dksL_law_85 : cL_law.data.toList.drop 2233 = dktL_law_85 := dk_seg dksL_law_84 24 rfl rfl
theorem dksL_law_86 : cL_law.data.toList.drop 2257 = dktL_law_86 := dk_seg dksL_law_85 24 rfl rfl
theorem dksL_law_87 : cL_law.data.toList.drop 2281 = dktL_law_87 := dk_seg dksL_law_86 24 rfl rfl
theorem dksL_law_88 : cL_law.data.toList.drop 2305 = dktL_law_88 := dk_seg dksL_law_87 24 rfl rfl
theorem dksL_law_89 : cL_law.data.toList.drop 2329 = dktL_law_89 := dk_seg dksL_law_88 24 rfl rfl
theorem dksL_law_90 : cL_law.data.toList.drop 2353 = dktL_law_90 := dk_seg dksL_law_89 24 rfl rfl
theorem dksL_law_91 : cL_law.data.toList.drop 2377 = dktL_law_91 := dk_seg dksL_law_90 24 rfl rfl
theorem dksL_law_92 : cL_law.data.toList.drop 2400 = dktL_law_92 := dk_seg dksL_law_91 23 rfl rfl
theorem dksL_law_93 : cL_law.data.toList.drop 2423 = dktL_law_93 := dk_seg dksL_law_92 23 rfl rfl
theorem dksL_law_94 : cL_law.data.toList.drop 2447 = dktL_law_94 := dk_seg dksL_law_93 24 rfl rfl
theorem dksL_law_95 : cL_law.data.toList.drop 2471 = dktL_law_95 := dk_seg dksL_law_94 24 rfl rfl
theorem dksL_law_96 : cL_law.data.toList.drop 2495 = dktL_law_96 := dk_seg dksL_law_95 24 rfl rfl
theorem dksL_law_97 : cL_law.data.toList.drop 2519 = dktL_law_97 := dk_seg dksL_law_96 24 rfl rfl
theorem dksL_law_98 : cL_law.data.toList.drop 2543 = dktL_law_98 := dk_seg dksL_law_97 24 rfl rfl
theorem dksL_law_99 : cL_law.data.toList.drop 2566 = dktL_law_99 := dk_seg dksL_law_98 23 rfl rfl
theorem dksL_law_100 : cL_law.data.toList.drop 2590 = dktL_law_100 := dk_seg dksL_law_99 24 rfl rfl
theorem dksL_law_101 : cL_law.data.toList.drop 2613 = dktL_law_101 := dk_seg dksL_law_100 23 rfl rfl
theorem dksL_law_102 : cL_law.data.toList.drop 2637 = dktL_law_102 := dk_seg dksL_law_101 24 rfl rfl
theorem dksL_law_103 : cL_law.data.toList.drop 2659 = dktL_law_103 := dk_seg dksL_law_102 22 rfl rfl
theorem dksL_law_104 : cL_law.data.toList.drop 2681 = dktL_law_104 := dk_seg dksL_law_103 22 rfl rfl
theorem dksL_law_105 : cL_law.data.toList.drop 2705 = dktL_law_105 := dk_seg dksL_law_104 24 rfl rfl
theorem dksL_law_106 : cL_law.data.toList.drop 2727 = dktL_law_106 := dk_seg dksL_law_105 22 rfl rfl
theorem dksL_law_107 : cL_law.data.toList.drop 2749 = dktL_law_107 := dk_seg dksL_law_106 22 rfl rfl
theorem dksL_law_108 : cL_law.data.toList.drop 2773 = dktL_law_108 := dk_seg dksL_law_107 24 rfl rfl
theorem dksL_law_109 : cL_law.data.toList.drop 2797 = dktL_law_109 := dk_seg dksL_law_108 24 rfl rfl
theorem dksL_law_110 : cL_law.data.toList.drop 2821 = dktL_law_110 := dk_seg dksL_law_109 24 rfl rfl
theorem dksL_law_111 : cL_law.data.toList.drop 2845 = dktL_law_111 := dk_seg dksL_law_110 24 rfl rfl
theorem dksL_law_112 : cL_law.data.toList.drop 2869 = dktL_law_112 := dk_seg dksL_law_111 24 rfl rfl
theorem dksL_law_113 : cL_law.data.toList.drop 2893 = dktL_law_113 := dk_seg dksL_law_112 24 rfl rfl
theorem dksL_law_114 : cL_law.data.toList.drop 2917 = dktL_law_114 := dk_seg dksL_law_113 24 rfl rfl
theorem dksL_law_115 : cL_law.data.toList.drop 2940 = dktL_law_115 := dk_seg dksL_law_114 23 rfl rfl
theorem dksL_law_116 : cL_law.data.toList.drop 2963 = dktL_law_116 := dk_seg dksL_law_115 23 rfl rfl
theorem dksL_law_117 : cL_law.data.toList.drop 2986 = dktL_law_117 := dk_seg dksL_law_116 23 rfl rfl
theorem dksL_law_118 : cL_law.data.toList.drop 3010 = dktL_law_118 := dk_seg dksL_law_117 24 rfl rfl
theorem dksL_law_119 : cL_law.data.toList.drop 3033 = dktL_law_119 := dk_seg dksL_law_118 23 rfl rfl
theorem dksL_law_120 : cL_law.data.toList.drop 3056 = dktL_law_120 := dk_seg dksL_law_119 23 rfl rfl
theorem dksL_law_121 : cL_law.data.toList.drop 3080 = dktL_law_121 := dk_seg dksL_law_120 24 rfl rfl
theorem dksL_law_122 : cL_law.data.toList.drop 3102 = dktL_law_122 := dk_seg dksL_law_121 22 rfl rfl
theorem dksL_law_123 : cL_law.data.toList.drop 3124 = dktL_law_123 := dk_seg dksL_law_122 22 rfl rfl
theorem dksL_law_124 : cL_law.data.toList.drop 3148 = dktL_law_124 := dk_seg dksL_law_123 24 rfl rfl
theorem dksL_law_125 : cL_law.data.toList.drop 3172 = dktL_law_125 := dk_seg dksL_law_124 24 rfl rfl
theorem dksL_law_126 : cL_law.data.toList.drop 3196 = dktL_law_126 := dk_seg dksL_law_125 24 rfl rfl
theorem dksL_law_127 : cL_law.data.toList.drop 3219 = dktL_law_127 := dk_seg dksL_law_126 23 rfl rfl
theorem dksL_law_128 : cL_law.data.toList.drop 3242 = dktL_law_128 := dk_seg dksL_law_127 23 rfl rfl
theorem dksL_law_129 : cL_law.data.toList.drop 3266 = dktL_law_129 := dk_seg dksL_law_128 24 rfl rfl
theorem dksL_law_130 : cL_law.data.toList.drop 3289 = dktL_law_130 := dk_seg dksL_law_129 23 rfl rfl
theorem dksL_law_131 : cL_law.data.toList.drop 3313 = dktL_law_131 := dk_seg dksL_law_130 24 rfl rfl
theorem dksL_law_132 : cL_law.data.toList.drop 3337 = dktL_law_132 := dk_seg dksL_law_131 24 rfl rfl
theorem dksL_law_133 : cL_law.data.toList.drop 3360 = dktL_law_133 := dk_seg dksL_law_132 23 rfl rfl
theorem dksL_law_134 : cL_law.data.toList.drop 3382 = dktL_law_134 := dk_seg dksL_law_133 22 rfl rfl
theorem dksL_law_135 : cL_law.data.toList.drop 3404 = dktL_law_135 := dk_seg dksL_law_134 22 rfl rfl
theorem dksL_law_136 : cL_law.data.toList.drop 3427 = dktL_law_136 := dk_seg dksL_law_135 23 rfl rfl
theorem dksL_law_137 : cL_law.data.toList.drop 3451 = dktL_law_137 := dk_seg dksL_law_136 24 rfl rfl
theorem dksL_law_138 : cL_law.data.toList.drop 3475 = dktL_law_138 := dk_seg dksL_law_137 24 rfl rfl
theorem dksL_law_139 : cL_law.data.toList.drop 3498 = dktL_law_139 := dk_seg dksL_law_138 23 rfl rfl
theorem dksL_law_140 : cL_law.data.toList.drop 3522 = dktL_law_140 := dk_seg dksL_law_139 24 rfl rfl
theorem dksL_law_141 : cL_law.data.toList.drop 3546 = dktL_law_141 := dk_seg dksL_law_140 24 rfl rfl
theorem dksL_law_142 : cL_law.data.toList.drop 3570 = dktL_law_142 := dk_seg dksL_law_141 24 rfl rfl
theorem dksL_law_143 : cL_law.data.toList.drop 3593 = dktL_law_143 := dk_seg dksL_law_142 23 rfl rfl
theorem dksL_law_144 : cL_law.data.toList.drop 3617 = dktL_law_144 := dk_seg dksL_law_143 24 rfl rfl
theorem dksL_law_145 : cL_law.data.toList.drop 3640 = dktL_law_145 := dk_seg dksL_law_144 23 rfl rfl
theorem dksL_law_146 : cL_law.data.toList.drop 3662 = dktL_law_146 := dk_seg dksL_law_145 22 rfl rfl
theorem dksL_law_147 : cL_law.data.toList.drop 3684 = dktL_law_147 := dk_seg dksL_law_146 22 rfl rfl
theorem dksL_law_148 : cL_law.data.toList.drop 3706 = dktL_law_148 := dk_seg dksL_law_147 22 rfl rfl
theorem dL_law_0 : decode cL_law 0 = .ok (.new 8, 3) := dk_187 0 8 (dk_at dksL_law_0 0 rfl rfl)
theorem dL_law_3 : decode cL_law 3 = .ok (.dup, 1) := dk_89 (dk_at dksL_law_0 3 rfl rfl)
theorem dL_law_4 : decode cL_law 4 = .ok (.invokespecial 181, 3) := dk_183 0 181 (dk_at dksL_law_0 4 rfl rfl)
theorem dL_law_7 : decode cL_law 7 = .ok (.astore_n 1, 1) := dk_76 (dk_at dksL_law_0 7 rfl rfl)
theorem dL_law_8 : decode cL_law 8 = .ok (.new 182, 3) := dk_187 0 182 (dk_at dksL_law_0 8 rfl rfl)
theorem dL_law_11 : decode cL_law 11 = .ok (.dup, 1) := dk_89 (dk_at dksL_law_0 11 rfl rfl)
theorem dL_law_12 : decode cL_law 12 = .ok (.invokespecial 184, 3) := dk_183 0 184 (dk_at dksL_law_0 12 rfl rfl)
theorem dL_law_15 : decode cL_law 15 = .ok (.astore_n 2, 1) := dk_77 (dk_at dksL_law_0 15 rfl rfl)
theorem dL_law_16 : decode cL_law 16 = .ok (.iconst 1, 1) := dk_4 (dk_at dksL_law_0 16 rfl rfl)
theorem dL_law_17 : decode cL_law 17 = .ok (.newarray .long, 2) := dk_188_11 (dk_at dksL_law_0 17 rfl rfl)
theorem dL_law_19 : decode cL_law 19 = .ok (.astore_n 3, 1) := dk_78 (dk_at dksL_law_0 19 rfl rfl)
theorem dL_law_20 : decode cL_law 20 = .ok (.iconst 1, 1) := dk_4 (dk_at dksL_law_0 20 rfl rfl)
theorem dL_law_21 : decode cL_law 21 = .ok (.newarray .float, 2) := dk_188_6 (dk_at dksL_law_0 21 rfl rfl)
theorem dL_law_23 : decode cL_law 23 = .ok (.astore 4, 2) := dk_58 4 (dk_at dksL_law_1 0 rfl rfl)
theorem dL_law_25 : decode cL_law 25 = .ok (.iconst 0, 1) := dk_3 (dk_at dksL_law_1 2 rfl rfl)
theorem dL_law_26 : decode cL_law 26 = .ok (.istore 5, 2) := dk_54 5 (dk_at dksL_law_1 3 rfl rfl)
theorem dL_law_28 : decode cL_law 28 = .ok (.iload 5, 2) := dk_21 5 (dk_at dksL_law_1 5 rfl rfl)
theorem dL_law_30 : decode cL_law 30 = .ok (.aload_n 0, 1) := dk_42 (dk_at dksL_law_1 7 rfl rfl)
theorem dL_law_31 : decode cL_law 31 = .ok (.arraylength, 1) := dk_190 (dk_at dksL_law_1 8 rfl rfl)
theorem dL_law_32 : decode cL_law 32 = .ok (.iconst 5, 1) := dk_8 (dk_at dksL_law_1 9 rfl rfl)
theorem dL_law_33 : decode cL_law 33 = .ok (.isub, 1) := dk_100 (dk_at dksL_law_1 10 rfl rfl)
theorem dL_law_34 : decode cL_law 34 = .ok (.if_icmp .gt 3686, 3) := dk_163 14 102 (dk_at dksL_law_1 11 rfl rfl)
theorem dL_law_37 : decode cL_law 37 = .ok (.aload_n 0, 1) := dk_42 (dk_at dksL_law_1 14 rfl rfl)
theorem dL_law_38 : decode cL_law 38 = .ok (.iload 5, 2) := dk_21 5 (dk_at dksL_law_1 15 rfl rfl)
theorem dL_law_40 : decode cL_law 40 = .ok (.iaload, 1) := dk_46 (dk_at dksL_law_1 17 rfl rfl)
theorem dL_law_41 : decode cL_law 41 = .ok (.bipush 127, 2) := dk_16 127 (dk_at dksL_law_1 18 rfl rfl)
theorem dL_law_43 : decode cL_law 43 = .ok (.iand, 1) := dk_126 (dk_at dksL_law_1 20 rfl rfl)
theorem dL_law_44 : decode cL_law 44 = .ok (.tableswitch 3670 0 67 #[288, 332, 400, 468, 524, 592, 660, 728, 796, 864, 920, 976, 989, 1002, 1015, 1071, 1127, 1195, 1258, 1314, 1369, 1424, 1487, 1542, 1626, 1682, 1738, 1801, 1856, 1869, 1882, 1938, 1994, 2050, 2106, 2169, 2249, 2329, 2396, 2463, 2555, 2623, 2691, 2704, 2717, 2730, 2810, 2823, 2891, 2904, 2960, 3015, 3083, 3160, 3216, 3272, 3285, 3298, 3311, 3324, 3368, 3381, 3425, 3481, 3494, 3538, 3582, 3626], 288) := by decide +kernel
theorem dL_law_332 : decode cL_law 332 = .ok (.aload_n 1, 1) := dk_43 (dk_at dksL_law_3 0 rfl rfl)
theorem dL_law_333 : decode cL_law 333 = .ok (.aload_n 3, 1) := dk_45 (dk_at dksL_law_3 1 rfl rfl)
theorem dL_law_334 : decode cL_law 334 = .ok (.invokestatic 185, 3) := dk_184 0 185 (dk_at dksL_law_3 2 rfl rfl)
theorem dL_law_337 : decode cL_law 337 = .ok (.istore 6, 2) := dk_54 6 (dk_at dksL_law_3 5 rfl rfl)
theorem dL_law_339 : decode cL_law 339 = .ok (.aload_n 2, 1) := dk_44 (dk_at dksL_law_3 7 rfl rfl)
theorem dL_law_340 : decode cL_law 340 = .ok (.invokevirtual 190, 3) := dk_182 0 190 (dk_at dksL_law_3 8 rfl rfl)
theorem dL_law_343 : decode cL_law 343 = .ok (.istore 7, 2) := dk_54 7 (dk_at dksL_law_3 11 rfl rfl)
theorem dL_law_345 : decode cL_law 345 = .ok (.aload_n 2, 1) := dk_44 (dk_at dksL_law_3 13 rfl rfl)
theorem dL_law_346 : decode cL_law 346 = .ok (.invokevirtual 191, 3) := dk_182 0 191 (dk_at dksL_law_3 14 rfl rfl)
theorem dL_law_349 : decode cL_law 349 = .ok (.iload 6, 2) := dk_21 6 (dk_at dksL_law_3 17 rfl rfl)
theorem dL_law_351 : decode cL_law 351 = .ok (.if_icmp .eq 5, 3) := dk_159 0 5 (dk_at dksL_law_3 19 rfl rfl)
theorem dL_law_354 : decode cL_law 354 = .ok (.iconst 0, 1) := dk_3 (dk_at dksL_law_3 22 rfl rfl)
theorem dL_law_355 : decode cL_law 355 = .ok (.ireturn, 1) := dk_172 (dk_at dksL_law_3 23 rfl rfl)
theorem dL_law_356 : decode cL_law 356 = .ok (.iload 6, 2) := dk_21 6 (dk_at dksL_law_4 0 rfl rfl)
theorem dL_law_358 : decode cL_law 358 = .ok (.ifCond .ne 15, 3) := dk_154 0 15 (dk_at dksL_law_4 2 rfl rfl)
theorem dL_law_361 : decode cL_law 361 = .ok (.aload_n 3, 1) := dk_45 (dk_at dksL_law_4 5 rfl rfl)
theorem dL_law_362 : decode cL_law 362 = .ok (.iconst 0, 1) := dk_3 (dk_at dksL_law_4 6 rfl rfl)
theorem dL_law_363 : decode cL_law 363 = .ok (.laload, 1) := dk_47 (dk_at dksL_law_4 7 rfl rfl)
theorem dL_law_364 : decode cL_law 364 = .ok (.iload 7, 2) := dk_21 7 (dk_at dksL_law_4 8 rfl rfl)
theorem dL_law_366 : decode cL_law 366 = .ok (.i2l, 1) := dk_133 (dk_at dksL_law_4 10 rfl rfl)
theorem dL_law_367 : decode cL_law 367 = .ok (.lcmp, 1) := dk_148 (dk_at dksL_law_4 11 rfl rfl)
theorem dL_law_368 : decode cL_law 368 = .ok (.ifCond .eq 5, 3) := dk_153 0 5 (dk_at dksL_law_4 12 rfl rfl)
theorem dL_law_371 : decode cL_law 371 = .ok (.iconst 0, 1) := dk_3 (dk_at dksL_law_4 15 rfl rfl)
theorem dL_law_372 : decode cL_law 372 = .ok (.ireturn, 1) := dk_172 (dk_at dksL_law_4 16 rfl rfl)
theorem dL_law_373 : decode cL_law 373 = .ok (.goto 3341, 3) := dk_167 13 13 (dk_at dksL_law_4 17 rfl rfl)
theorem dL_law_376 : decode cL_law 376 = .ok (.aload_n 1, 1) := dk_43 (dk_at dksL_law_4 20 rfl rfl)
theorem dL_law_377 : decode cL_law 377 = .ok (.aload_n 0, 1) := dk_42 (dk_at dksL_law_4 21 rfl rfl)
theorem dL_law_378 : decode cL_law 378 = .ok (.iload 5, 2) := dk_21 5 (dk_at dksL_law_4 22 rfl rfl)
theorem dL_law_380 : decode cL_law 380 = .ok (.iconst 1, 1) := dk_4 (dk_at dksL_law_5 0 rfl rfl)
theorem dL_law_381 : decode cL_law 381 = .ok (.iadd, 1) := dk_96 (dk_at dksL_law_5 1 rfl rfl)
theorem dL_law_382 : decode cL_law 382 = .ok (.iaload, 1) := dk_46 (dk_at dksL_law_5 2 rfl rfl)
theorem dL_law_383 : decode cL_law 383 = .ok (.aload_n 0, 1) := dk_42 (dk_at dksL_law_5 3 rfl rfl)
theorem dL_law_384 : decode cL_law 384 = .ok (.iload 5, 2) := dk_21 5 (dk_at dksL_law_5 4 rfl rfl)
theorem dL_law_386 : decode cL_law 386 = .ok (.iconst 2, 1) := dk_5 (dk_at dksL_law_5 6 rfl rfl)
theorem dL_law_387 : decode cL_law 387 = .ok (.iadd, 1) := dk_96 (dk_at dksL_law_5 7 rfl rfl)
theorem dL_law_388 : decode cL_law 388 = .ok (.iaload, 1) := dk_46 (dk_at dksL_law_5 8 rfl rfl)
theorem dL_law_389 : decode cL_law 389 = .ok (.aload_n 3, 1) := dk_45 (dk_at dksL_law_5 9 rfl rfl)
theorem dL_law_390 : decode cL_law 390 = .ok (.invokestatic 194, 3) := dk_184 0 194 (dk_at dksL_law_5 10 rfl rfl)
theorem dL_law_393 : decode cL_law 393 = .ok (.istore 6, 2) := dk_54 6 (dk_at dksL_law_5 13 rfl rfl)
theorem dL_law_395 : decode cL_law 395 = .ok (.aload_n 2, 1) := dk_44 (dk_at dksL_law_5 15 rfl rfl)
theorem dL_law_396 : decode cL_law 396 = .ok (.aload_n 0, 1) := dk_42 (dk_at dksL_law_5 16 rfl rfl)
theorem dL_law_397 : decode cL_law 397 = .ok (.iload 5, 2) := dk_21 5 (dk_at dksL_law_5 17 rfl rfl)
theorem dL_law_399 : decode cL_law 399 = .ok (.iconst 1, 1) := dk_4 (dk_at dksL_law_5 19 rfl rfl)
theorem dL_law_400 : decode cL_law 400 = .ok (.iadd, 1) := dk_96 (dk_at dksL_law_5 20 rfl rfl)
theorem dL_law_401 : decode cL_law 401 = .ok (.iaload, 1) := dk_46 (dk_at dksL_law_5 21 rfl rfl)
theorem dL_law_402 : decode cL_law 402 = .ok (.aload_n 0, 1) := dk_42 (dk_at dksL_law_5 22 rfl rfl)
theorem dL_law_403 : decode cL_law 403 = .ok (.iload 5, 2) := dk_21 5 (dk_at dksL_law_6 0 rfl rfl)
theorem dL_law_405 : decode cL_law 405 = .ok (.iconst 2, 1) := dk_5 (dk_at dksL_law_6 2 rfl rfl)
theorem dL_law_406 : decode cL_law 406 = .ok (.iadd, 1) := dk_96 (dk_at dksL_law_6 3 rfl rfl)
theorem dL_law_407 : decode cL_law 407 = .ok (.iaload, 1) := dk_46 (dk_at dksL_law_6 4 rfl rfl)
theorem dL_law_408 : decode cL_law 408 = .ok (.invokevirtual 197, 3) := dk_182 0 197 (dk_at dksL_law_6 5 rfl rfl)
theorem dL_law_411 : decode cL_law 411 = .ok (.istore 7, 2) := dk_54 7 (dk_at dksL_law_6 8 rfl rfl)
theorem dL_law_413 : decode cL_law 413 = .ok (.aload_n 2, 1) := dk_44 (dk_at dksL_law_6 10 rfl rfl)
theorem dL_law_414 : decode cL_law 414 = .ok (.invokevirtual 191, 3) := dk_182 0 191 (dk_at dksL_law_6 11 rfl rfl)
theorem dL_law_417 : decode cL_law 417 = .ok (.iload 6, 2) := dk_21 6 (dk_at dksL_law_6 14 rfl rfl)
theorem dL_law_419 : decode cL_law 419 = .ok (.if_icmp .eq 5, 3) := dk_159 0 5 (dk_at dksL_law_6 16 rfl rfl)
theorem dL_law_422 : decode cL_law 422 = .ok (.iconst 0, 1) := dk_3 (dk_at dksL_law_6 19 rfl rfl)
theorem dL_law_423 : decode cL_law 423 = .ok (.ireturn, 1) := dk_172 (dk_at dksL_law_6 20 rfl rfl)
theorem dL_law_424 : decode cL_law 424 = .ok (.iload 6, 2) := dk_21 6 (dk_at dksL_law_6 21 rfl rfl)
theorem dL_law_426 : decode cL_law 426 = .ok (.ifCond .ne 15, 3) := dk_154 0 15 (dk_at dksL_law_7 0 rfl rfl)
theorem dL_law_429 : decode cL_law 429 = .ok (.aload_n 3, 1) := dk_45 (dk_at dksL_law_7 3 rfl rfl)
theorem dL_law_430 : decode cL_law 430 = .ok (.iconst 0, 1) := dk_3 (dk_at dksL_law_7 4 rfl rfl)
theorem dL_law_431 : decode cL_law 431 = .ok (.laload, 1) := dk_47 (dk_at dksL_law_7 5 rfl rfl)
theorem dL_law_432 : decode cL_law 432 = .ok (.iload 7, 2) := dk_21 7 (dk_at dksL_law_7 6 rfl rfl)
theorem dL_law_434 : decode cL_law 434 = .ok (.i2l, 1) := dk_133 (dk_at dksL_law_7 8 rfl rfl)
theorem dL_law_435 : decode cL_law 435 = .ok (.lcmp, 1) := dk_148 (dk_at dksL_law_7 9 rfl rfl)
theorem dL_law_436 : decode cL_law 436 = .ok (.ifCond .eq 5, 3) := dk_153 0 5 (dk_at dksL_law_7 10 rfl rfl)
theorem dL_law_439 : decode cL_law 439 = .ok (.iconst 0, 1) := dk_3 (dk_at dksL_law_7 13 rfl rfl)
theorem dL_law_440 : decode cL_law 440 = .ok (.ireturn, 1) := dk_172 (dk_at dksL_law_7 14 rfl rfl)
theorem dL_law_441 : decode cL_law 441 = .ok (.goto 3273, 3) := dk_167 12 201 (dk_at dksL_law_7 15 rfl rfl)
theorem dL_law_444 : decode cL_law 444 = .ok (.aload_n 1, 1) := dk_43 (dk_at dksL_law_7 18 rfl rfl)
theorem dL_law_445 : decode cL_law 445 = .ok (.aload_n 0, 1) := dk_42 (dk_at dksL_law_7 19 rfl rfl)
theorem dL_law_446 : decode cL_law 446 = .ok (.iload 5, 2) := dk_21 5 (dk_at dksL_law_7 20 rfl rfl)
theorem dL_law_448 : decode cL_law 448 = .ok (.iconst 1, 1) := dk_4 (dk_at dksL_law_7 22 rfl rfl)
theorem dL_law_449 : decode cL_law 449 = .ok (.iadd, 1) := dk_96 (dk_at dksL_law_7 23 rfl rfl)
theorem dL_law_450 : decode cL_law 450 = .ok (.iaload, 1) := dk_46 (dk_at dksL_law_8 0 rfl rfl)
theorem dL_law_451 : decode cL_law 451 = .ok (.aload_n 0, 1) := dk_42 (dk_at dksL_law_8 1 rfl rfl)
theorem dL_law_452 : decode cL_law 452 = .ok (.iload 5, 2) := dk_21 5 (dk_at dksL_law_8 2 rfl rfl)
theorem dL_law_454 : decode cL_law 454 = .ok (.iconst 2, 1) := dk_5 (dk_at dksL_law_8 4 rfl rfl)
theorem dL_law_455 : decode cL_law 455 = .ok (.iadd, 1) := dk_96 (dk_at dksL_law_8 5 rfl rfl)
theorem dL_law_456 : decode cL_law 456 = .ok (.iaload, 1) := dk_46 (dk_at dksL_law_8 6 rfl rfl)
theorem dL_law_457 : decode cL_law 457 = .ok (.aload_n 3, 1) := dk_45 (dk_at dksL_law_8 7 rfl rfl)
theorem dL_law_458 : decode cL_law 458 = .ok (.invokestatic 198, 3) := dk_184 0 198 (dk_at dksL_law_8 8 rfl rfl)
theorem dL_law_461 : decode cL_law 461 = .ok (.istore 6, 2) := dk_54 6 (dk_at dksL_law_8 11 rfl rfl)
theorem dL_law_463 : decode cL_law 463 = .ok (.aload_n 2, 1) := dk_44 (dk_at dksL_law_8 13 rfl rfl)
theorem dL_law_464 : decode cL_law 464 = .ok (.aload_n 0, 1) := dk_42 (dk_at dksL_law_8 14 rfl rfl)
theorem dL_law_465 : decode cL_law 465 = .ok (.iload 5, 2) := dk_21 5 (dk_at dksL_law_8 15 rfl rfl)
theorem dL_law_467 : decode cL_law 467 = .ok (.iconst 1, 1) := dk_4 (dk_at dksL_law_8 17 rfl rfl)
theorem dL_law_468 : decode cL_law 468 = .ok (.iadd, 1) := dk_96 (dk_at dksL_law_8 18 rfl rfl)
theorem dL_law_469 : decode cL_law 469 = .ok (.iaload, 1) := dk_46 (dk_at dksL_law_8 19 rfl rfl)
theorem dL_law_470 : decode cL_law 470 = .ok (.aload_n 0, 1) := dk_42 (dk_at dksL_law_8 20 rfl rfl)
theorem dL_law_471 : decode cL_law 471 = .ok (.iload 5, 2) := dk_21 5 (dk_at dksL_law_8 21 rfl rfl)
theorem dL_law_473 : decode cL_law 473 = .ok (.iconst 2, 1) := dk_5 (dk_at dksL_law_8 23 rfl rfl)
theorem dL_law_474 : decode cL_law 474 = .ok (.iadd, 1) := dk_96 (dk_at dksL_law_9 0 rfl rfl)
theorem dL_law_475 : decode cL_law 475 = .ok (.iaload, 1) := dk_46 (dk_at dksL_law_9 1 rfl rfl)
theorem dL_law_476 : decode cL_law 476 = .ok (.invokevirtual 200, 3) := dk_182 0 200 (dk_at dksL_law_9 2 rfl rfl)
theorem dL_law_479 : decode cL_law 479 = .ok (.istore 7, 2) := dk_54 7 (dk_at dksL_law_9 5 rfl rfl)
theorem dL_law_481 : decode cL_law 481 = .ok (.aload_n 2, 1) := dk_44 (dk_at dksL_law_9 7 rfl rfl)
theorem dL_law_482 : decode cL_law 482 = .ok (.invokevirtual 191, 3) := dk_182 0 191 (dk_at dksL_law_9 8 rfl rfl)
theorem dL_law_485 : decode cL_law 485 = .ok (.iload 6, 2) := dk_21 6 (dk_at dksL_law_9 11 rfl rfl)
theorem dL_law_487 : decode cL_law 487 = .ok (.if_icmp .eq 5, 3) := dk_159 0 5 (dk_at dksL_law_9 13 rfl rfl)
theorem dL_law_490 : decode cL_law 490 = .ok (.iconst 0, 1) := dk_3 (dk_at dksL_law_9 16 rfl rfl)
theorem dL_law_491 : decode cL_law 491 = .ok (.ireturn, 1) := dk_172 (dk_at dksL_law_9 17 rfl rfl)
theorem dL_law_492 : decode cL_law 492 = .ok (.iload 6, 2) := dk_21 6 (dk_at dksL_law_9 18 rfl rfl)
theorem dL_law_494 : decode cL_law 494 = .ok (.ifCond .ne 15, 3) := dk_154 0 15 (dk_at dksL_law_9 20 rfl rfl)
theorem dL_law_497 : decode cL_law 497 = .ok (.aload_n 3, 1) := dk_45 (dk_at dksL_law_9 23 rfl rfl)
theorem dL_law_498 : decode cL_law 498 = .ok (.iconst 0, 1) := dk_3 (dk_at dksL_law_10 0 rfl rfl)
theorem dL_law_499 : decode cL_law 499 = .ok (.laload, 1) := dk_47 (dk_at dksL_law_10 1 rfl rfl)
theorem dL_law_500 : decode cL_law 500 = .ok (.iload 7, 2) := dk_21 7 (dk_at dksL_law_10 2 rfl rfl)
theorem dL_law_502 : decode cL_law 502 = .ok (.i2l, 1) := dk_133 (dk_at dksL_law_10 4 rfl rfl)
theorem dL_law_503 : decode cL_law 503 = .ok (.lcmp, 1) := dk_148 (dk_at dksL_law_10 5 rfl rfl)
theorem dL_law_504 : decode cL_law 504 = .ok (.ifCond .eq 5, 3) := dk_153 0 5 (dk_at dksL_law_10 6 rfl rfl)
theorem dL_law_507 : decode cL_law 507 = .ok (.iconst 0, 1) := dk_3 (dk_at dksL_law_10 9 rfl rfl)
theorem dL_law_508 : decode cL_law 508 = .ok (.ireturn, 1) := dk_172 (dk_at dksL_law_10 10 rfl rfl)
theorem dL_law_509 : decode cL_law 509 = .ok (.goto 3205, 3) := dk_167 12 133 (dk_at dksL_law_10 11 rfl rfl)
theorem dL_law_512 : decode cL_law 512 = .ok (.aload_n 1, 1) := dk_43 (dk_at dksL_law_10 14 rfl rfl)
theorem dL_law_513 : decode cL_law 513 = .ok (.aload_n 0, 1) := dk_42 (dk_at dksL_law_10 15 rfl rfl)
theorem dL_law_514 : decode cL_law 514 = .ok (.iload 5, 2) := dk_21 5 (dk_at dksL_law_10 16 rfl rfl)
theorem dL_law_516 : decode cL_law 516 = .ok (.iconst 1, 1) := dk_4 (dk_at dksL_law_10 18 rfl rfl)
theorem dL_law_517 : decode cL_law 517 = .ok (.iadd, 1) := dk_96 (dk_at dksL_law_10 19 rfl rfl)
theorem dL_law_518 : decode cL_law 518 = .ok (.iaload, 1) := dk_46 (dk_at dksL_law_10 20 rfl rfl)
theorem dL_law_519 : decode cL_law 519 = .ok (.aload_n 3, 1) := dk_45 (dk_at dksL_law_10 21 rfl rfl)
theorem dL_law_520 : decode cL_law 520 = .ok (.invokestatic 201, 3) := dk_184 0 201 (dk_at dksL_law_11 0 rfl rfl)
theorem dL_law_523 : decode cL_law 523 = .ok (.istore 6, 2) := dk_54 6 (dk_at dksL_law_11 3 rfl rfl)
theorem dL_law_525 : decode cL_law 525 = .ok (.aload_n 2, 1) := dk_44 (dk_at dksL_law_11 5 rfl rfl)
theorem dL_law_526 : decode cL_law 526 = .ok (.aload_n 0, 1) := dk_42 (dk_at dksL_law_11 6 rfl rfl)
theorem dL_law_527 : decode cL_law 527 = .ok (.iload 5, 2) := dk_21 5 (dk_at dksL_law_11 7 rfl rfl)
theorem dL_law_529 : decode cL_law 529 = .ok (.iconst 1, 1) := dk_4 (dk_at dksL_law_11 9 rfl rfl)
theorem dL_law_530 : decode cL_law 530 = .ok (.iadd, 1) := dk_96 (dk_at dksL_law_11 10 rfl rfl)
theorem dL_law_531 : decode cL_law 531 = .ok (.iaload, 1) := dk_46 (dk_at dksL_law_11 11 rfl rfl)
theorem dL_law_532 : decode cL_law 532 = .ok (.invokevirtual 204, 3) := dk_182 0 204 (dk_at dksL_law_11 12 rfl rfl)
theorem dL_law_535 : decode cL_law 535 = .ok (.istore 7, 2) := dk_54 7 (dk_at dksL_law_11 15 rfl rfl)
theorem dL_law_537 : decode cL_law 537 = .ok (.aload_n 2, 1) := dk_44 (dk_at dksL_law_11 17 rfl rfl)
theorem dL_law_538 : decode cL_law 538 = .ok (.invokevirtual 191, 3) := dk_182 0 191 (dk_at dksL_law_11 18 rfl rfl)
theorem dL_law_541 : decode cL_law 541 = .ok (.iload 6, 2) := dk_21 6 (dk_at dksL_law_11 21 rfl rfl)
theorem dL_law_543 : decode cL_law 543 = .ok (.if_icmp .eq 5, 3) := dk_159 0 5 (dk_at dksL_law_12 0 rfl rfl)
theorem dL_law_546 : decode cL_law 546 = .ok (.iconst 0, 1) := dk_3 (dk_at dksL_law_12 3 rfl rfl)
theorem dL_law_547 : decode cL_law 547 = .ok (.ireturn, 1) := dk_172 (dk_at dksL_law_12 4 rfl rfl)
theorem dL_law_548 : decode cL_law 548 = .ok (.iload 6, 2) := dk_21 6 (dk_at dksL_law_12 5 rfl rfl)
theorem dL_law_550 : decode cL_law 550 = .ok (.ifCond .ne 15, 3) := dk_154 0 15 (dk_at dksL_law_12 7 rfl rfl)
theorem dL_law_553 : decode cL_law 553 = .ok (.aload_n 3, 1) := dk_45 (dk_at dksL_law_12 10 rfl rfl)
theorem dL_law_554 : decode cL_law 554 = .ok (.iconst 0, 1) := dk_3 (dk_at dksL_law_12 11 rfl rfl)
theorem dL_law_555 : decode cL_law 555 = .ok (.laload, 1) := dk_47 (dk_at dksL_law_12 12 rfl rfl)
theorem dL_law_556 : decode cL_law 556 = .ok (.iload 7, 2) := dk_21 7 (dk_at dksL_law_12 13 rfl rfl)
theorem dL_law_558 : decode cL_law 558 = .ok (.i2l, 1) := dk_133 (dk_at dksL_law_12 15 rfl rfl)
theorem dL_law_559 : decode cL_law 559 = .ok (.lcmp, 1) := dk_148 (dk_at dksL_law_12 16 rfl rfl)
theorem dL_law_560 : decode cL_law 560 = .ok (.ifCond .eq 5, 3) := dk_153 0 5 (dk_at dksL_law_12 17 rfl rfl)
theorem dL_law_563 : decode cL_law 563 = .ok (.iconst 0, 1) := dk_3 (dk_at dksL_law_12 20 rfl rfl)
theorem dL_law_564 : decode cL_law 564 = .ok (.ireturn, 1) := dk_172 (dk_at dksL_law_12 21 rfl rfl)
theorem dL_law_565 : decode cL_law 565 = .ok (.goto 3149, 3) := dk_167 12 77 (dk_at dksL_law_13 0 rfl rfl)
theorem dL_law_568 : decode cL_law 568 = .ok (.aload_n 1, 1) := dk_43 (dk_at dksL_law_13 3 rfl rfl)
theorem dL_law_569 : decode cL_law 569 = .ok (.aload_n 0, 1) := dk_42 (dk_at dksL_law_13 4 rfl rfl)
theorem dL_law_570 : decode cL_law 570 = .ok (.iload 5, 2) := dk_21 5 (dk_at dksL_law_13 5 rfl rfl)
theorem dL_law_572 : decode cL_law 572 = .ok (.iconst 1, 1) := dk_4 (dk_at dksL_law_13 7 rfl rfl)
theorem dL_law_573 : decode cL_law 573 = .ok (.iadd, 1) := dk_96 (dk_at dksL_law_13 8 rfl rfl)
theorem dL_law_574 : decode cL_law 574 = .ok (.iaload, 1) := dk_46 (dk_at dksL_law_13 9 rfl rfl)
theorem dL_law_575 : decode cL_law 575 = .ok (.aload_n 0, 1) := dk_42 (dk_at dksL_law_13 10 rfl rfl)
theorem dL_law_576 : decode cL_law 576 = .ok (.iload 5, 2) := dk_21 5 (dk_at dksL_law_13 11 rfl rfl)
theorem dL_law_578 : decode cL_law 578 = .ok (.iconst 2, 1) := dk_5 (dk_at dksL_law_13 13 rfl rfl)
theorem dL_law_579 : decode cL_law 579 = .ok (.iadd, 1) := dk_96 (dk_at dksL_law_13 14 rfl rfl)
theorem dL_law_580 : decode cL_law 580 = .ok (.iaload, 1) := dk_46 (dk_at dksL_law_13 15 rfl rfl)
theorem dL_law_581 : decode cL_law 581 = .ok (.aload_n 3, 1) := dk_45 (dk_at dksL_law_13 16 rfl rfl)
theorem dL_law_582 : decode cL_law 582 = .ok (.invokestatic 205, 3) := dk_184 0 205 (dk_at dksL_law_13 17 rfl rfl)
theorem dL_law_585 : decode cL_law 585 = .ok (.istore 6, 2) := dk_54 6 (dk_at dksL_law_13 20 rfl rfl)
theorem dL_law_587 : decode cL_law 587 = .ok (.aload_n 2, 1) := dk_44 (dk_at dksL_law_13 22 rfl rfl)
theorem dL_law_588 : decode cL_law 588 = .ok (.aload_n 0, 1) := dk_42 (dk_at dksL_law_13 23 rfl rfl)
theorem dL_law_589 : decode cL_law 589 = .ok (.iload 5, 2) := dk_21 5 (dk_at dksL_law_14 0 rfl rfl)
theorem dL_law_591 : decode cL_law 591 = .ok (.iconst 1, 1) := dk_4 (dk_at dksL_law_14 2 rfl rfl)
theorem dL_law_592 : decode cL_law 592 = .ok (.iadd, 1) := dk_96 (dk_at dksL_law_14 3 rfl rfl)
theorem dL_law_593 : decode cL_law 593 = .ok (.iaload, 1) := dk_46 (dk_at dksL_law_14 4 rfl rfl)
theorem dL_law_594 : decode cL_law 594 = .ok (.aload_n 0, 1) := dk_42 (dk_at dksL_law_14 5 rfl rfl)
theorem dL_law_595 : decode cL_law 595 = .ok (.iload 5, 2) := dk_21 5 (dk_at dksL_law_14 6 rfl rfl)
theorem dL_law_597 : decode cL_law 597 = .ok (.iconst 2, 1) := dk_5 (dk_at dksL_law_14 8 rfl rfl)
theorem dL_law_598 : decode cL_law 598 = .ok (.iadd, 1) := dk_96 (dk_at dksL_law_14 9 rfl rfl)
theorem dL_law_599 : decode cL_law 599 = .ok (.iaload, 1) := dk_46 (dk_at dksL_law_14 10 rfl rfl)
theorem dL_law_600 : decode cL_law 600 = .ok (.invokevirtual 207, 3) := dk_182 0 207 (dk_at dksL_law_14 11 rfl rfl)
theorem dL_law_603 : decode cL_law 603 = .ok (.istore 7, 2) := dk_54 7 (dk_at dksL_law_14 14 rfl rfl)
theorem dL_law_605 : decode cL_law 605 = .ok (.aload_n 2, 1) := dk_44 (dk_at dksL_law_14 16 rfl rfl)
theorem dL_law_606 : decode cL_law 606 = .ok (.invokevirtual 191, 3) := dk_182 0 191 (dk_at dksL_law_14 17 rfl rfl)
theorem dL_law_609 : decode cL_law 609 = .ok (.iload 6, 2) := dk_21 6 (dk_at dksL_law_14 20 rfl rfl)
theorem dL_law_611 : decode cL_law 611 = .ok (.if_icmp .eq 5, 3) := dk_159 0 5 (dk_at dksL_law_15 0 rfl rfl)
theorem dL_law_614 : decode cL_law 614 = .ok (.iconst 0, 1) := dk_3 (dk_at dksL_law_15 3 rfl rfl)
theorem dL_law_615 : decode cL_law 615 = .ok (.ireturn, 1) := dk_172 (dk_at dksL_law_15 4 rfl rfl)
theorem dL_law_616 : decode cL_law 616 = .ok (.iload 6, 2) := dk_21 6 (dk_at dksL_law_15 5 rfl rfl)
theorem dL_law_618 : decode cL_law 618 = .ok (.ifCond .ne 15, 3) := dk_154 0 15 (dk_at dksL_law_15 7 rfl rfl)
theorem dL_law_621 : decode cL_law 621 = .ok (.aload_n 3, 1) := dk_45 (dk_at dksL_law_15 10 rfl rfl)
theorem dL_law_622 : decode cL_law 622 = .ok (.iconst 0, 1) := dk_3 (dk_at dksL_law_15 11 rfl rfl)
theorem dL_law_623 : decode cL_law 623 = .ok (.laload, 1) := dk_47 (dk_at dksL_law_15 12 rfl rfl)
theorem dL_law_624 : decode cL_law 624 = .ok (.iload 7, 2) := dk_21 7 (dk_at dksL_law_15 13 rfl rfl)
theorem dL_law_626 : decode cL_law 626 = .ok (.i2l, 1) := dk_133 (dk_at dksL_law_15 15 rfl rfl)
theorem dL_law_627 : decode cL_law 627 = .ok (.lcmp, 1) := dk_148 (dk_at dksL_law_15 16 rfl rfl)
theorem dL_law_628 : decode cL_law 628 = .ok (.ifCond .eq 5, 3) := dk_153 0 5 (dk_at dksL_law_15 17 rfl rfl)
theorem dL_law_631 : decode cL_law 631 = .ok (.iconst 0, 1) := dk_3 (dk_at dksL_law_15 20 rfl rfl)
theorem dL_law_632 : decode cL_law 632 = .ok (.ireturn, 1) := dk_172 (dk_at dksL_law_15 21 rfl rfl)
theorem dL_law_633 : decode cL_law 633 = .ok (.goto 3081, 3) := dk_167 12 9 (dk_at dksL_law_16 0 rfl rfl)
theorem dL_law_636 : decode cL_law 636 = .ok (.aload_n 1, 1) := dk_43 (dk_at dksL_law_16 3 rfl rfl)
theorem dL_law_637 : decode cL_law 637 = .ok (.aload_n 0, 1) := dk_42 (dk_at dksL_law_16 4 rfl rfl)
theorem dL_law_638 : decode cL_law 638 = .ok (.iload 5, 2) := dk_21 5 (dk_at dksL_law_16 5 rfl rfl)
theorem dL_law_640 : decode cL_law 640 = .ok (.iconst 1, 1) := dk_4 (dk_at dksL_law_16 7 rfl rfl)
theorem dL_law_641 : decode cL_law 641 = .ok (.iadd, 1) := dk_96 (dk_at dksL_law_16 8 rfl rfl)
theorem dL_law_642 : decode cL_law 642 = .ok (.iaload, 1) := dk_46 (dk_at dksL_law_16 9 rfl rfl)
theorem dL_law_643 : decode cL_law 643 = .ok (.aload_n 0, 1) := dk_42 (dk_at dksL_law_16 10 rfl rfl)
theorem dL_law_644 : decode cL_law 644 = .ok (.iload 5, 2) := dk_21 5 (dk_at dksL_law_16 11 rfl rfl)
theorem dL_law_646 : decode cL_law 646 = .ok (.iconst 2, 1) := dk_5 (dk_at dksL_law_16 13 rfl rfl)
theorem dL_law_647 : decode cL_law 647 = .ok (.iadd, 1) := dk_96 (dk_at dksL_law_16 14 rfl rfl)
theorem dL_law_648 : decode cL_law 648 = .ok (.iaload, 1) := dk_46 (dk_at dksL_law_16 15 rfl rfl)
theorem dL_law_649 : decode cL_law 649 = .ok (.aload_n 3, 1) := dk_45 (dk_at dksL_law_16 16 rfl rfl)
theorem dL_law_650 : decode cL_law 650 = .ok (.invokestatic 208, 3) := dk_184 0 208 (dk_at dksL_law_16 17 rfl rfl)
theorem dL_law_653 : decode cL_law 653 = .ok (.istore 6, 2) := dk_54 6 (dk_at dksL_law_16 20 rfl rfl)
theorem dL_law_655 : decode cL_law 655 = .ok (.aload_n 2, 1) := dk_44 (dk_at dksL_law_16 22 rfl rfl)
theorem dL_law_656 : decode cL_law 656 = .ok (.aload_n 0, 1) := dk_42 (dk_at dksL_law_16 23 rfl rfl)
theorem dL_law_657 : decode cL_law 657 = .ok (.iload 5, 2) := dk_21 5 (dk_at dksL_law_17 0 rfl rfl)
theorem dL_law_659 : decode cL_law 659 = .ok (.iconst 1, 1) := dk_4 (dk_at dksL_law_17 2 rfl rfl)
theorem dL_law_660 : decode cL_law 660 = .ok (.iadd, 1) := dk_96 (dk_at dksL_law_17 3 rfl rfl)
theorem dL_law_661 : decode cL_law 661 = .ok (.iaload, 1) := dk_46 (dk_at dksL_law_17 4 rfl rfl)
theorem dL_law_662 : decode cL_law 662 = .ok (.aload_n 0, 1) := dk_42 (dk_at dksL_law_17 5 rfl rfl)
theorem dL_law_663 : decode cL_law 663 = .ok (.iload 5, 2) := dk_21 5 (dk_at dksL_law_17 6 rfl rfl)
theorem dL_law_665 : decode cL_law 665 = .ok (.iconst 2, 1) := dk_5 (dk_at dksL_law_17 8 rfl rfl)
theorem dL_law_666 : decode cL_law 666 = .ok (.iadd, 1) := dk_96 (dk_at dksL_law_17 9 rfl rfl)
theorem dL_law_667 : decode cL_law 667 = .ok (.iaload, 1) := dk_46 (dk_at dksL_law_17 10 rfl rfl)
theorem dL_law_668 : decode cL_law 668 = .ok (.invokevirtual 210, 3) := dk_182 0 210 (dk_at dksL_law_17 11 rfl rfl)
theorem dL_law_671 : decode cL_law 671 = .ok (.istore 7, 2) := dk_54 7 (dk_at dksL_law_17 14 rfl rfl)
theorem dL_law_673 : decode cL_law 673 = .ok (.aload_n 2, 1) := dk_44 (dk_at dksL_law_17 16 rfl rfl)
theorem dL_law_674 : decode cL_law 674 = .ok (.invokevirtual 191, 3) := dk_182 0 191 (dk_at dksL_law_17 17 rfl rfl)
theorem dL_law_677 : decode cL_law 677 = .ok (.iload 6, 2) := dk_21 6 (dk_at dksL_law_17 20 rfl rfl)
theorem dL_law_679 : decode cL_law 679 = .ok (.if_icmp .eq 5, 3) := dk_159 0 5 (dk_at dksL_law_18 0 rfl rfl)
theorem dL_law_682 : decode cL_law 682 = .ok (.iconst 0, 1) := dk_3 (dk_at dksL_law_18 3 rfl rfl)
theorem dL_law_683 : decode cL_law 683 = .ok (.ireturn, 1) := dk_172 (dk_at dksL_law_18 4 rfl rfl)
theorem dL_law_684 : decode cL_law 684 = .ok (.iload 6, 2) := dk_21 6 (dk_at dksL_law_18 5 rfl rfl)
theorem dL_law_686 : decode cL_law 686 = .ok (.ifCond .ne 15, 3) := dk_154 0 15 (dk_at dksL_law_18 7 rfl rfl)
theorem dL_law_689 : decode cL_law 689 = .ok (.aload_n 3, 1) := dk_45 (dk_at dksL_law_18 10 rfl rfl)
theorem dL_law_690 : decode cL_law 690 = .ok (.iconst 0, 1) := dk_3 (dk_at dksL_law_18 11 rfl rfl)
theorem dL_law_691 : decode cL_law 691 = .ok (.laload, 1) := dk_47 (dk_at dksL_law_18 12 rfl rfl)
theorem dL_law_692 : decode cL_law 692 = .ok (.iload 7, 2) := dk_21 7 (dk_at dksL_law_18 13 rfl rfl)
theorem dL_law_694 : decode cL_law 694 = .ok (.i2l, 1) := dk_133 (dk_at dksL_law_18 15 rfl rfl)
theorem dL_law_695 : decode cL_law 695 = .ok (.lcmp, 1) := dk_148 (dk_at dksL_law_18 16 rfl rfl)
theorem dL_law_696 : decode cL_law 696 = .ok (.ifCond .eq 5, 3) := dk_153 0 5 (dk_at dksL_law_18 17 rfl rfl)
theorem dL_law_699 : decode cL_law 699 = .ok (.iconst 0, 1) := dk_3 (dk_at dksL_law_18 20 rfl rfl)
theorem dL_law_700 : decode cL_law 700 = .ok (.ireturn, 1) := dk_172 (dk_at dksL_law_18 21 rfl rfl)
theorem dL_law_701 : decode cL_law 701 = .ok (.goto 3013, 3) := dk_167 11 197 (dk_at dksL_law_19 0 rfl rfl)
theorem dL_law_704 : decode cL_law 704 = .ok (.aload_n 1, 1) := dk_43 (dk_at dksL_law_19 3 rfl rfl)
theorem dL_law_705 : decode cL_law 705 = .ok (.aload_n 0, 1) := dk_42 (dk_at dksL_law_19 4 rfl rfl)
theorem dL_law_706 : decode cL_law 706 = .ok (.iload 5, 2) := dk_21 5 (dk_at dksL_law_19 5 rfl rfl)
theorem dL_law_708 : decode cL_law 708 = .ok (.iconst 1, 1) := dk_4 (dk_at dksL_law_19 7 rfl rfl)
theorem dL_law_709 : decode cL_law 709 = .ok (.iadd, 1) := dk_96 (dk_at dksL_law_19 8 rfl rfl)
theorem dL_law_710 : decode cL_law 710 = .ok (.iaload, 1) := dk_46 (dk_at dksL_law_19 9 rfl rfl)
theorem dL_law_711 : decode cL_law 711 = .ok (.aload_n 0, 1) := dk_42 (dk_at dksL_law_19 10 rfl rfl)
theorem dL_law_712 : decode cL_law 712 = .ok (.iload 5, 2) := dk_21 5 (dk_at dksL_law_19 11 rfl rfl)
theorem dL_law_714 : decode cL_law 714 = .ok (.iconst 2, 1) := dk_5 (dk_at dksL_law_19 13 rfl rfl)
theorem dL_law_715 : decode cL_law 715 = .ok (.iadd, 1) := dk_96 (dk_at dksL_law_19 14 rfl rfl)
theorem dL_law_716 : decode cL_law 716 = .ok (.iaload, 1) := dk_46 (dk_at dksL_law_19 15 rfl rfl)
theorem dL_law_717 : decode cL_law 717 = .ok (.aload_n 3, 1) := dk_45 (dk_at dksL_law_19 16 rfl rfl)
theorem dL_law_718 : decode cL_law 718 = .ok (.invokestatic 211, 3) := dk_184 0 211 (dk_at dksL_law_19 17 rfl rfl)
theorem dL_law_721 : decode cL_law 721 = .ok (.istore 6, 2) := dk_54 6 (dk_at dksL_law_19 20 rfl rfl)
theorem dL_law_723 : decode cL_law 723 = .ok (.aload_n 2, 1) := dk_44 (dk_at dksL_law_19 22 rfl rfl)
theorem dL_law_724 : decode cL_law 724 = .ok (.aload_n 0, 1) := dk_42 (dk_at dksL_law_19 23 rfl rfl)
theorem dL_law_725 : decode cL_law 725 = .ok (.iload 5, 2) := dk_21 5 (dk_at dksL_law_20 0 rfl rfl)
theorem dL_law_727 : decode cL_law 727 = .ok (.iconst 1, 1) := dk_4 (dk_at dksL_law_20 2 rfl rfl)
theorem dL_law_728 : decode cL_law 728 = .ok (.iadd, 1) := dk_96 (dk_at dksL_law_20 3 rfl rfl)
theorem dL_law_729 : decode cL_law 729 = .ok (.iaload, 1) := dk_46 (dk_at dksL_law_20 4 rfl rfl)
theorem dL_law_730 : decode cL_law 730 = .ok (.aload_n 0, 1) := dk_42 (dk_at dksL_law_20 5 rfl rfl)
theorem dL_law_731 : decode cL_law 731 = .ok (.iload 5, 2) := dk_21 5 (dk_at dksL_law_20 6 rfl rfl)
theorem dL_law_733 : decode cL_law 733 = .ok (.iconst 2, 1) := dk_5 (dk_at dksL_law_20 8 rfl rfl)
theorem dL_law_734 : decode cL_law 734 = .ok (.iadd, 1) := dk_96 (dk_at dksL_law_20 9 rfl rfl)
theorem dL_law_735 : decode cL_law 735 = .ok (.iaload, 1) := dk_46 (dk_at dksL_law_20 10 rfl rfl)
theorem dL_law_736 : decode cL_law 736 = .ok (.invokevirtual 213, 3) := dk_182 0 213 (dk_at dksL_law_20 11 rfl rfl)
theorem dL_law_739 : decode cL_law 739 = .ok (.istore 7, 2) := dk_54 7 (dk_at dksL_law_20 14 rfl rfl)
theorem dL_law_741 : decode cL_law 741 = .ok (.aload_n 2, 1) := dk_44 (dk_at dksL_law_20 16 rfl rfl)
theorem dL_law_742 : decode cL_law 742 = .ok (.invokevirtual 191, 3) := dk_182 0 191 (dk_at dksL_law_20 17 rfl rfl)
theorem dL_law_745 : decode cL_law 745 = .ok (.iload 6, 2) := dk_21 6 (dk_at dksL_law_20 20 rfl rfl)
theorem dL_law_747 : decode cL_law 747 = .ok (.if_icmp .eq 5, 3) := dk_159 0 5 (dk_at dksL_law_21 0 rfl rfl)
theorem dL_law_750 : decode cL_law 750 = .ok (.iconst 0, 1) := dk_3 (dk_at dksL_law_21 3 rfl rfl)
theorem dL_law_751 : decode cL_law 751 = .ok (.ireturn, 1) := dk_172 (dk_at dksL_law_21 4 rfl rfl)
theorem dL_law_752 : decode cL_law 752 = .ok (.iload 6, 2) := dk_21 6 (dk_at dksL_law_21 5 rfl rfl)
theorem dL_law_754 : decode cL_law 754 = .ok (.ifCond .ne 15, 3) := dk_154 0 15 (dk_at dksL_law_21 7 rfl rfl)
theorem dL_law_757 : decode cL_law 757 = .ok (.aload_n 3, 1) := dk_45 (dk_at dksL_law_21 10 rfl rfl)
theorem dL_law_758 : decode cL_law 758 = .ok (.iconst 0, 1) := dk_3 (dk_at dksL_law_21 11 rfl rfl)
theorem dL_law_759 : decode cL_law 759 = .ok (.laload, 1) := dk_47 (dk_at dksL_law_21 12 rfl rfl)
theorem dL_law_760 : decode cL_law 760 = .ok (.iload 7, 2) := dk_21 7 (dk_at dksL_law_21 13 rfl rfl)
theorem dL_law_762 : decode cL_law 762 = .ok (.i2l, 1) := dk_133 (dk_at dksL_law_21 15 rfl rfl)
theorem dL_law_763 : decode cL_law 763 = .ok (.lcmp, 1) := dk_148 (dk_at dksL_law_21 16 rfl rfl)
theorem dL_law_764 : decode cL_law 764 = .ok (.ifCond .eq 5, 3) := dk_153 0 5 (dk_at dksL_law_21 17 rfl rfl)
theorem dL_law_767 : decode cL_law 767 = .ok (.iconst 0, 1) := dk_3 (dk_at dksL_law_21 20 rfl rfl)
theorem dL_law_768 : decode cL_law 768 = .ok (.ireturn, 1) := dk_172 (dk_at dksL_law_21 21 rfl rfl)
theorem dL_law_769 : decode cL_law 769 = .ok (.goto 2945, 3) := dk_167 11 129 (dk_at dksL_law_22 0 rfl rfl)
theorem dL_law_772 : decode cL_law 772 = .ok (.aload_n 1, 1) := dk_43 (dk_at dksL_law_22 3 rfl rfl)
theorem dL_law_773 : decode cL_law 773 = .ok (.aload_n 0, 1) := dk_42 (dk_at dksL_law_22 4 rfl rfl)
theorem dL_law_774 : decode cL_law 774 = .ok (.iload 5, 2) := dk_21 5 (dk_at dksL_law_22 5 rfl rfl)
theorem dL_law_776 : decode cL_law 776 = .ok (.iconst 1, 1) := dk_4 (dk_at dksL_law_22 7 rfl rfl)
theorem dL_law_777 : decode cL_law 777 = .ok (.iadd, 1) := dk_96 (dk_at dksL_law_22 8 rfl rfl)
theorem dL_law_778 : decode cL_law 778 = .ok (.iaload, 1) := dk_46 (dk_at dksL_law_22 9 rfl rfl)
theorem dL_law_779 : decode cL_law 779 = .ok (.aload_n 0, 1) := dk_42 (dk_at dksL_law_22 10 rfl rfl)
theorem dL_law_780 : decode cL_law 780 = .ok (.iload 5, 2) := dk_21 5 (dk_at dksL_law_22 11 rfl rfl)
theorem dL_law_782 : decode cL_law 782 = .ok (.iconst 2, 1) := dk_5 (dk_at dksL_law_22 13 rfl rfl)
theorem dL_law_783 : decode cL_law 783 = .ok (.iadd, 1) := dk_96 (dk_at dksL_law_22 14 rfl rfl)
theorem dL_law_784 : decode cL_law 784 = .ok (.iaload, 1) := dk_46 (dk_at dksL_law_22 15 rfl rfl)
theorem dL_law_785 : decode cL_law 785 = .ok (.aload_n 3, 1) := dk_45 (dk_at dksL_law_22 16 rfl rfl)
theorem dL_law_786 : decode cL_law 786 = .ok (.invokestatic 214, 3) := dk_184 0 214 (dk_at dksL_law_22 17 rfl rfl)
theorem dL_law_789 : decode cL_law 789 = .ok (.istore 6, 2) := dk_54 6 (dk_at dksL_law_22 20 rfl rfl)
theorem dL_law_791 : decode cL_law 791 = .ok (.aload_n 2, 1) := dk_44 (dk_at dksL_law_22 22 rfl rfl)
theorem dL_law_792 : decode cL_law 792 = .ok (.aload_n 0, 1) := dk_42 (dk_at dksL_law_22 23 rfl rfl)
theorem dL_law_793 : decode cL_law 793 = .ok (.iload 5, 2) := dk_21 5 (dk_at dksL_law_23 0 rfl rfl)
theorem dL_law_795 : decode cL_law 795 = .ok (.iconst 1, 1) := dk_4 (dk_at dksL_law_23 2 rfl rfl)
theorem dL_law_796 : decode cL_law 796 = .ok (.iadd, 1) := dk_96 (dk_at dksL_law_23 3 rfl rfl)
theorem dL_law_797 : decode cL_law 797 = .ok (.iaload, 1) := dk_46 (dk_at dksL_law_23 4 rfl rfl)
theorem dL_law_798 : decode cL_law 798 = .ok (.aload_n 0, 1) := dk_42 (dk_at dksL_law_23 5 rfl rfl)
theorem dL_law_799 : decode cL_law 799 = .ok (.iload 5, 2) := dk_21 5 (dk_at dksL_law_23 6 rfl rfl)
theorem dL_law_801 : decode cL_law 801 = .ok (.iconst 2, 1) := dk_5 (dk_at dksL_law_23 8 rfl rfl)
theorem dL_law_802 : decode cL_law 802 = .ok (.iadd, 1) := dk_96 (dk_at dksL_law_23 9 rfl rfl)
theorem dL_law_803 : decode cL_law 803 = .ok (.iaload, 1) := dk_46 (dk_at dksL_law_23 10 rfl rfl)
theorem dL_law_804 : decode cL_law 804 = .ok (.invokevirtual 216, 3) := dk_182 0 216 (dk_at dksL_law_23 11 rfl rfl)
theorem dL_law_807 : decode cL_law 807 = .ok (.istore 7, 2) := dk_54 7 (dk_at dksL_law_23 14 rfl rfl)
theorem dL_law_809 : decode cL_law 809 = .ok (.aload_n 2, 1) := dk_44 (dk_at dksL_law_23 16 rfl rfl)
theorem dL_law_810 : decode cL_law 810 = .ok (.invokevirtual 191, 3) := dk_182 0 191 (dk_at dksL_law_23 17 rfl rfl)
theorem dL_law_813 : decode cL_law 813 = .ok (.iload 6, 2) := dk_21 6 (dk_at dksL_law_23 20 rfl rfl)
theorem dL_law_815 : decode cL_law 815 = .ok (.if_icmp .eq 5, 3) := dk_159 0 5 (dk_at dksL_law_24 0 rfl rfl)
theorem dL_law_818 : decode cL_law 818 = .ok (.iconst 0, 1) := dk_3 (dk_at dksL_law_24 3 rfl rfl)
theorem dL_law_819 : decode cL_law 819 = .ok (.ireturn, 1) := dk_172 (dk_at dksL_law_24 4 rfl rfl)
theorem dL_law_820 : decode cL_law 820 = .ok (.iload 6, 2) := dk_21 6 (dk_at dksL_law_24 5 rfl rfl)
theorem dL_law_822 : decode cL_law 822 = .ok (.ifCond .ne 15, 3) := dk_154 0 15 (dk_at dksL_law_24 7 rfl rfl)
theorem dL_law_825 : decode cL_law 825 = .ok (.aload_n 3, 1) := dk_45 (dk_at dksL_law_24 10 rfl rfl)
theorem dL_law_826 : decode cL_law 826 = .ok (.iconst 0, 1) := dk_3 (dk_at dksL_law_24 11 rfl rfl)
theorem dL_law_827 : decode cL_law 827 = .ok (.laload, 1) := dk_47 (dk_at dksL_law_24 12 rfl rfl)
theorem dL_law_828 : decode cL_law 828 = .ok (.iload 7, 2) := dk_21 7 (dk_at dksL_law_24 13 rfl rfl)
theorem dL_law_830 : decode cL_law 830 = .ok (.i2l, 1) := dk_133 (dk_at dksL_law_24 15 rfl rfl)
theorem dL_law_831 : decode cL_law 831 = .ok (.lcmp, 1) := dk_148 (dk_at dksL_law_24 16 rfl rfl)
theorem dL_law_832 : decode cL_law 832 = .ok (.ifCond .eq 5, 3) := dk_153 0 5 (dk_at dksL_law_24 17 rfl rfl)
theorem dL_law_835 : decode cL_law 835 = .ok (.iconst 0, 1) := dk_3 (dk_at dksL_law_24 20 rfl rfl)
theorem dL_law_836 : decode cL_law 836 = .ok (.ireturn, 1) := dk_172 (dk_at dksL_law_24 21 rfl rfl)
theorem dL_law_837 : decode cL_law 837 = .ok (.goto 2877, 3) := dk_167 11 61 (dk_at dksL_law_25 0 rfl rfl)
theorem dL_law_840 : decode cL_law 840 = .ok (.aload_n 1, 1) := dk_43 (dk_at dksL_law_25 3 rfl rfl)
theorem dL_law_841 : decode cL_law 841 = .ok (.aload_n 0, 1) := dk_42 (dk_at dksL_law_25 4 rfl rfl)
theorem dL_law_842 : decode cL_law 842 = .ok (.iload 5, 2) := dk_21 5 (dk_at dksL_law_25 5 rfl rfl)
theorem dL_law_844 : decode cL_law 844 = .ok (.iconst 1, 1) := dk_4 (dk_at dksL_law_25 7 rfl rfl)
theorem dL_law_845 : decode cL_law 845 = .ok (.iadd, 1) := dk_96 (dk_at dksL_law_25 8 rfl rfl)
theorem dL_law_846 : decode cL_law 846 = .ok (.iaload, 1) := dk_46 (dk_at dksL_law_25 9 rfl rfl)
theorem dL_law_847 : decode cL_law 847 = .ok (.aload_n 0, 1) := dk_42 (dk_at dksL_law_25 10 rfl rfl)
theorem dL_law_848 : decode cL_law 848 = .ok (.iload 5, 2) := dk_21 5 (dk_at dksL_law_25 11 rfl rfl)
theorem dL_law_850 : decode cL_law 850 = .ok (.iconst 2, 1) := dk_5 (dk_at dksL_law_25 13 rfl rfl)
theorem dL_law_851 : decode cL_law 851 = .ok (.iadd, 1) := dk_96 (dk_at dksL_law_25 14 rfl rfl)
theorem dL_law_852 : decode cL_law 852 = .ok (.iaload, 1) := dk_46 (dk_at dksL_law_25 15 rfl rfl)
theorem dL_law_853 : decode cL_law 853 = .ok (.aload_n 3, 1) := dk_45 (dk_at dksL_law_25 16 rfl rfl)
theorem dL_law_854 : decode cL_law 854 = .ok (.invokestatic 217, 3) := dk_184 0 217 (dk_at dksL_law_25 17 rfl rfl)
theorem dL_law_857 : decode cL_law 857 = .ok (.istore 6, 2) := dk_54 6 (dk_at dksL_law_25 20 rfl rfl)
theorem dL_law_859 : decode cL_law 859 = .ok (.aload_n 2, 1) := dk_44 (dk_at dksL_law_25 22 rfl rfl)
theorem dL_law_860 : decode cL_law 860 = .ok (.aload_n 0, 1) := dk_42 (dk_at dksL_law_25 23 rfl rfl)
theorem dL_law_861 : decode cL_law 861 = .ok (.iload 5, 2) := dk_21 5 (dk_at dksL_law_26 0 rfl rfl)
theorem dL_law_863 : decode cL_law 863 = .ok (.iconst 1, 1) := dk_4 (dk_at dksL_law_26 2 rfl rfl)
theorem dL_law_864 : decode cL_law 864 = .ok (.iadd, 1) := dk_96 (dk_at dksL_law_26 3 rfl rfl)
theorem dL_law_865 : decode cL_law 865 = .ok (.iaload, 1) := dk_46 (dk_at dksL_law_26 4 rfl rfl)
theorem dL_law_866 : decode cL_law 866 = .ok (.aload_n 0, 1) := dk_42 (dk_at dksL_law_26 5 rfl rfl)
theorem dL_law_867 : decode cL_law 867 = .ok (.iload 5, 2) := dk_21 5 (dk_at dksL_law_26 6 rfl rfl)
theorem dL_law_869 : decode cL_law 869 = .ok (.iconst 2, 1) := dk_5 (dk_at dksL_law_26 8 rfl rfl)
theorem dL_law_870 : decode cL_law 870 = .ok (.iadd, 1) := dk_96 (dk_at dksL_law_26 9 rfl rfl)
theorem dL_law_871 : decode cL_law 871 = .ok (.iaload, 1) := dk_46 (dk_at dksL_law_26 10 rfl rfl)
theorem dL_law_872 : decode cL_law 872 = .ok (.invokevirtual 219, 3) := dk_182 0 219 (dk_at dksL_law_26 11 rfl rfl)
theorem dL_law_875 : decode cL_law 875 = .ok (.istore 7, 2) := dk_54 7 (dk_at dksL_law_26 14 rfl rfl)
theorem dL_law_877 : decode cL_law 877 = .ok (.aload_n 2, 1) := dk_44 (dk_at dksL_law_26 16 rfl rfl)
theorem dL_law_878 : decode cL_law 878 = .ok (.invokevirtual 191, 3) := dk_182 0 191 (dk_at dksL_law_26 17 rfl rfl)
theorem dL_law_881 : decode cL_law 881 = .ok (.iload 6, 2) := dk_21 6 (dk_at dksL_law_26 20 rfl rfl)
theorem dL_law_883 : decode cL_law 883 = .ok (.if_icmp .eq 5, 3) := dk_159 0 5 (dk_at dksL_law_27 0 rfl rfl)
theorem dL_law_886 : decode cL_law 886 = .ok (.iconst 0, 1) := dk_3 (dk_at dksL_law_27 3 rfl rfl)
theorem dL_law_887 : decode cL_law 887 = .ok (.ireturn, 1) := dk_172 (dk_at dksL_law_27 4 rfl rfl)
theorem dL_law_888 : decode cL_law 888 = .ok (.iload 6, 2) := dk_21 6 (dk_at dksL_law_27 5 rfl rfl)
theorem dL_law_890 : decode cL_law 890 = .ok (.ifCond .ne 15, 3) := dk_154 0 15 (dk_at dksL_law_27 7 rfl rfl)
theorem dL_law_893 : decode cL_law 893 = .ok (.aload_n 3, 1) := dk_45 (dk_at dksL_law_27 10 rfl rfl)
theorem dL_law_894 : decode cL_law 894 = .ok (.iconst 0, 1) := dk_3 (dk_at dksL_law_27 11 rfl rfl)
theorem dL_law_895 : decode cL_law 895 = .ok (.laload, 1) := dk_47 (dk_at dksL_law_27 12 rfl rfl)
theorem dL_law_896 : decode cL_law 896 = .ok (.iload 7, 2) := dk_21 7 (dk_at dksL_law_27 13 rfl rfl)
theorem dL_law_898 : decode cL_law 898 = .ok (.i2l, 1) := dk_133 (dk_at dksL_law_27 15 rfl rfl)
theorem dL_law_899 : decode cL_law 899 = .ok (.lcmp, 1) := dk_148 (dk_at dksL_law_27 16 rfl rfl)
theorem dL_law_900 : decode cL_law 900 = .ok (.ifCond .eq 5, 3) := dk_153 0 5 (dk_at dksL_law_27 17 rfl rfl)
theorem dL_law_903 : decode cL_law 903 = .ok (.iconst 0, 1) := dk_3 (dk_at dksL_law_27 20 rfl rfl)
theorem dL_law_904 : decode cL_law 904 = .ok (.ireturn, 1) := dk_172 (dk_at dksL_law_27 21 rfl rfl)
theorem dL_law_905 : decode cL_law 905 = .ok (.goto 2809, 3) := dk_167 10 249 (dk_at dksL_law_28 0 rfl rfl)
theorem dL_law_908 : decode cL_law 908 = .ok (.aload_n 1, 1) := dk_43 (dk_at dksL_law_28 3 rfl rfl)
theorem dL_law_909 : decode cL_law 909 = .ok (.aload_n 0, 1) := dk_42 (dk_at dksL_law_28 4 rfl rfl)
theorem dL_law_910 : decode cL_law 910 = .ok (.iload 5, 2) := dk_21 5 (dk_at dksL_law_28 5 rfl rfl)
theorem dL_law_912 : decode cL_law 912 = .ok (.iconst 1, 1) := dk_4 (dk_at dksL_law_28 7 rfl rfl)
theorem dL_law_913 : decode cL_law 913 = .ok (.iadd, 1) := dk_96 (dk_at dksL_law_28 8 rfl rfl)
theorem dL_law_914 : decode cL_law 914 = .ok (.iaload, 1) := dk_46 (dk_at dksL_law_28 9 rfl rfl)
theorem dL_law_915 : decode cL_law 915 = .ok (.aload_n 3, 1) := dk_45 (dk_at dksL_law_28 10 rfl rfl)
theorem dL_law_916 : decode cL_law 916 = .ok (.invokestatic 220, 3) := dk_184 0 220 (dk_at dksL_law_28 11 rfl rfl)
theorem dL_law_919 : decode cL_law 919 = .ok (.istore 6, 2) := dk_54 6 (dk_at dksL_law_28 14 rfl rfl)
theorem dL_law_921 : decode cL_law 921 = .ok (.aload_n 2, 1) := dk_44 (dk_at dksL_law_28 16 rfl rfl)
theorem dL_law_922 : decode cL_law 922 = .ok (.aload_n 0, 1) := dk_42 (dk_at dksL_law_28 17 rfl rfl)
theorem dL_law_923 : decode cL_law 923 = .ok (.iload 5, 2) := dk_21 5 (dk_at dksL_law_28 18 rfl rfl)
theorem dL_law_925 : decode cL_law 925 = .ok (.iconst 1, 1) := dk_4 (dk_at dksL_law_28 20 rfl rfl)
theorem dL_law_926 : decode cL_law 926 = .ok (.iadd, 1) := dk_96 (dk_at dksL_law_28 21 rfl rfl)
theorem dL_law_927 : decode cL_law 927 = .ok (.iaload, 1) := dk_46 (dk_at dksL_law_28 22 rfl rfl)
theorem dL_law_928 : decode cL_law 928 = .ok (.invokevirtual 222, 3) := dk_182 0 222 (dk_at dksL_law_29 0 rfl rfl)
theorem dL_law_931 : decode cL_law 931 = .ok (.istore 7, 2) := dk_54 7 (dk_at dksL_law_29 3 rfl rfl)
theorem dL_law_933 : decode cL_law 933 = .ok (.aload_n 2, 1) := dk_44 (dk_at dksL_law_29 5 rfl rfl)
theorem dL_law_934 : decode cL_law 934 = .ok (.invokevirtual 191, 3) := dk_182 0 191 (dk_at dksL_law_29 6 rfl rfl)
theorem dL_law_937 : decode cL_law 937 = .ok (.iload 6, 2) := dk_21 6 (dk_at dksL_law_29 9 rfl rfl)
theorem dL_law_939 : decode cL_law 939 = .ok (.if_icmp .eq 5, 3) := dk_159 0 5 (dk_at dksL_law_29 11 rfl rfl)
theorem dL_law_942 : decode cL_law 942 = .ok (.iconst 0, 1) := dk_3 (dk_at dksL_law_29 14 rfl rfl)
theorem dL_law_943 : decode cL_law 943 = .ok (.ireturn, 1) := dk_172 (dk_at dksL_law_29 15 rfl rfl)
theorem dL_law_944 : decode cL_law 944 = .ok (.iload 6, 2) := dk_21 6 (dk_at dksL_law_29 16 rfl rfl)
theorem dL_law_946 : decode cL_law 946 = .ok (.ifCond .ne 15, 3) := dk_154 0 15 (dk_at dksL_law_29 18 rfl rfl)
theorem dL_law_949 : decode cL_law 949 = .ok (.aload_n 3, 1) := dk_45 (dk_at dksL_law_29 21 rfl rfl)
theorem dL_law_950 : decode cL_law 950 = .ok (.iconst 0, 1) := dk_3 (dk_at dksL_law_29 22 rfl rfl)
theorem dL_law_951 : decode cL_law 951 = .ok (.laload, 1) := dk_47 (dk_at dksL_law_29 23 rfl rfl)
theorem dL_law_952 : decode cL_law 952 = .ok (.iload 7, 2) := dk_21 7 (dk_at dksL_law_30 0 rfl rfl)
theorem dL_law_954 : decode cL_law 954 = .ok (.i2l, 1) := dk_133 (dk_at dksL_law_30 2 rfl rfl)
theorem dL_law_955 : decode cL_law 955 = .ok (.lcmp, 1) := dk_148 (dk_at dksL_law_30 3 rfl rfl)
theorem dL_law_956 : decode cL_law 956 = .ok (.ifCond .eq 5, 3) := dk_153 0 5 (dk_at dksL_law_30 4 rfl rfl)
theorem dL_law_959 : decode cL_law 959 = .ok (.iconst 0, 1) := dk_3 (dk_at dksL_law_30 7 rfl rfl)
theorem dL_law_960 : decode cL_law 960 = .ok (.ireturn, 1) := dk_172 (dk_at dksL_law_30 8 rfl rfl)
theorem dL_law_961 : decode cL_law 961 = .ok (.goto 2753, 3) := dk_167 10 193 (dk_at dksL_law_30 9 rfl rfl)
theorem dL_law_964 : decode cL_law 964 = .ok (.aload_n 1, 1) := dk_43 (dk_at dksL_law_30 12 rfl rfl)
theorem dL_law_965 : decode cL_law 965 = .ok (.aload_n 0, 1) := dk_42 (dk_at dksL_law_30 13 rfl rfl)
theorem dL_law_966 : decode cL_law 966 = .ok (.iload 5, 2) := dk_21 5 (dk_at dksL_law_30 14 rfl rfl)
theorem dL_law_968 : decode cL_law 968 = .ok (.iconst 1, 1) := dk_4 (dk_at dksL_law_30 16 rfl rfl)
theorem dL_law_969 : decode cL_law 969 = .ok (.iadd, 1) := dk_96 (dk_at dksL_law_30 17 rfl rfl)
theorem dL_law_970 : decode cL_law 970 = .ok (.iaload, 1) := dk_46 (dk_at dksL_law_30 18 rfl rfl)
theorem dL_law_971 : decode cL_law 971 = .ok (.aload_n 3, 1) := dk_45 (dk_at dksL_law_30 19 rfl rfl)
theorem dL_law_972 : decode cL_law 972 = .ok (.invokestatic 223, 3) := dk_184 0 223 (dk_at dksL_law_30 20 rfl rfl)
theorem dL_law_975 : decode cL_law 975 = .ok (.istore 6, 2) := dk_54 6 (dk_at dksL_law_31 0 rfl rfl)
theorem dL_law_977 : decode cL_law 977 = .ok (.aload_n 2, 1) := dk_44 (dk_at dksL_law_31 2 rfl rfl)
theorem dL_law_978 : decode cL_law 978 = .ok (.aload_n 0, 1) := dk_42 (dk_at dksL_law_31 3 rfl rfl)
theorem dL_law_979 : decode cL_law 979 = .ok (.iload 5, 2) := dk_21 5 (dk_at dksL_law_31 4 rfl rfl)
theorem dL_law_981 : decode cL_law 981 = .ok (.iconst 1, 1) := dk_4 (dk_at dksL_law_31 6 rfl rfl)
theorem dL_law_982 : decode cL_law 982 = .ok (.iadd, 1) := dk_96 (dk_at dksL_law_31 7 rfl rfl)
theorem dL_law_983 : decode cL_law 983 = .ok (.iaload, 1) := dk_46 (dk_at dksL_law_31 8 rfl rfl)
theorem dL_law_984 : decode cL_law 984 = .ok (.invokevirtual 225, 3) := dk_182 0 225 (dk_at dksL_law_31 9 rfl rfl)
theorem dL_law_987 : decode cL_law 987 = .ok (.istore 7, 2) := dk_54 7 (dk_at dksL_law_31 12 rfl rfl)
theorem dL_law_989 : decode cL_law 989 = .ok (.aload_n 2, 1) := dk_44 (dk_at dksL_law_31 14 rfl rfl)
theorem dL_law_990 : decode cL_law 990 = .ok (.invokevirtual 191, 3) := dk_182 0 191 (dk_at dksL_law_31 15 rfl rfl)
theorem dL_law_993 : decode cL_law 993 = .ok (.iload 6, 2) := dk_21 6 (dk_at dksL_law_31 18 rfl rfl)
theorem dL_law_995 : decode cL_law 995 = .ok (.if_icmp .eq 5, 3) := dk_159 0 5 (dk_at dksL_law_31 20 rfl rfl)
theorem dL_law_998 : decode cL_law 998 = .ok (.iconst 0, 1) := dk_3 (dk_at dksL_law_31 23 rfl rfl)
theorem dL_law_999 : decode cL_law 999 = .ok (.ireturn, 1) := dk_172 (dk_at dksL_law_32 0 rfl rfl)
theorem dL_law_1000 : decode cL_law 1000 = .ok (.iload 6, 2) := dk_21 6 (dk_at dksL_law_32 1 rfl rfl)
theorem dL_law_1002 : decode cL_law 1002 = .ok (.ifCond .ne 15, 3) := dk_154 0 15 (dk_at dksL_law_32 3 rfl rfl)
theorem dL_law_1005 : decode cL_law 1005 = .ok (.aload_n 3, 1) := dk_45 (dk_at dksL_law_32 6 rfl rfl)
theorem dL_law_1006 : decode cL_law 1006 = .ok (.iconst 0, 1) := dk_3 (dk_at dksL_law_32 7 rfl rfl)
theorem dL_law_1007 : decode cL_law 1007 = .ok (.laload, 1) := dk_47 (dk_at dksL_law_32 8 rfl rfl)
theorem dL_law_1008 : decode cL_law 1008 = .ok (.iload 7, 2) := dk_21 7 (dk_at dksL_law_32 9 rfl rfl)
theorem dL_law_1010 : decode cL_law 1010 = .ok (.i2l, 1) := dk_133 (dk_at dksL_law_32 11 rfl rfl)
theorem dL_law_1011 : decode cL_law 1011 = .ok (.lcmp, 1) := dk_148 (dk_at dksL_law_32 12 rfl rfl)
theorem dL_law_1012 : decode cL_law 1012 = .ok (.ifCond .eq 5, 3) := dk_153 0 5 (dk_at dksL_law_32 13 rfl rfl)
theorem dL_law_1015 : decode cL_law 1015 = .ok (.iconst 0, 1) := dk_3 (dk_at dksL_law_32 16 rfl rfl)
theorem dL_law_1016 : decode cL_law 1016 = .ok (.ireturn, 1) := dk_172 (dk_at dksL_law_32 17 rfl rfl)
theorem dL_law_1017 : decode cL_law 1017 = .ok (.goto 2697, 3) := dk_167 10 137 (dk_at dksL_law_32 18 rfl rfl)
theorem dL_law_1020 : decode cL_law 1020 = .ok (.aload_n 1, 1) := dk_43 (dk_at dksL_law_32 21 rfl rfl)
theorem dL_law_1021 : decode cL_law 1021 = .ok (.invokevirtual 226, 3) := dk_182 0 226 (dk_at dksL_law_33 0 rfl rfl)
theorem dL_law_1024 : decode cL_law 1024 = .ok (.aload_n 2, 1) := dk_44 (dk_at dksL_law_33 3 rfl rfl)
theorem dL_law_1025 : decode cL_law 1025 = .ok (.invokevirtual 229, 3) := dk_182 0 229 (dk_at dksL_law_33 4 rfl rfl)
theorem dL_law_1028 : decode cL_law 1028 = .ok (.if_icmp .eq 2686, 3) := dk_159 10 126 (dk_at dksL_law_33 7 rfl rfl)
theorem dL_law_1031 : decode cL_law 1031 = .ok (.iconst 0, 1) := dk_3 (dk_at dksL_law_33 10 rfl rfl)
theorem dL_law_1032 : decode cL_law 1032 = .ok (.ireturn, 1) := dk_172 (dk_at dksL_law_33 11 rfl rfl)
theorem dL_law_1033 : decode cL_law 1033 = .ok (.aload_n 1, 1) := dk_43 (dk_at dksL_law_33 12 rfl rfl)
theorem dL_law_1034 : decode cL_law 1034 = .ok (.invokevirtual 230, 3) := dk_182 0 230 (dk_at dksL_law_33 13 rfl rfl)
theorem dL_law_1037 : decode cL_law 1037 = .ok (.aload_n 2, 1) := dk_44 (dk_at dksL_law_33 16 rfl rfl)
theorem dL_law_1038 : decode cL_law 1038 = .ok (.invokevirtual 233, 3) := dk_182 0 233 (dk_at dksL_law_33 17 rfl rfl)
theorem dL_law_1041 : decode cL_law 1041 = .ok (.if_icmp .eq 2673, 3) := dk_159 10 113 (dk_at dksL_law_33 20 rfl rfl)
theorem dL_law_1044 : decode cL_law 1044 = .ok (.iconst 0, 1) := dk_3 (dk_at dksL_law_33 23 rfl rfl)
theorem dL_law_1045 : decode cL_law 1045 = .ok (.ireturn, 1) := dk_172 (dk_at dksL_law_34 0 rfl rfl)
theorem dL_law_1046 : decode cL_law 1046 = .ok (.aload_n 1, 1) := dk_43 (dk_at dksL_law_34 1 rfl rfl)
theorem dL_law_1047 : decode cL_law 1047 = .ok (.invokevirtual 234, 3) := dk_182 0 234 (dk_at dksL_law_34 2 rfl rfl)
theorem dL_law_1050 : decode cL_law 1050 = .ok (.aload_n 2, 1) := dk_44 (dk_at dksL_law_34 5 rfl rfl)
theorem dL_law_1051 : decode cL_law 1051 = .ok (.invokevirtual 237, 3) := dk_182 0 237 (dk_at dksL_law_34 6 rfl rfl)
theorem dL_law_1054 : decode cL_law 1054 = .ok (.if_icmp .eq 2660, 3) := dk_159 10 100 (dk_at dksL_law_34 9 rfl rfl)
theorem dL_law_1057 : decode cL_law 1057 = .ok (.iconst 0, 1) := dk_3 (dk_at dksL_law_34 12 rfl rfl)
theorem dL_law_1058 : decode cL_law 1058 = .ok (.ireturn, 1) := dk_172 (dk_at dksL_law_34 13 rfl rfl)
theorem dL_law_1059 : decode cL_law 1059 = .ok (.aload_n 1, 1) := dk_43 (dk_at dksL_law_34 14 rfl rfl)
theorem dL_law_1060 : decode cL_law 1060 = .ok (.aload_n 0, 1) := dk_42 (dk_at dksL_law_34 15 rfl rfl)
theorem dL_law_1061 : decode cL_law 1061 = .ok (.iload 5, 2) := dk_21 5 (dk_at dksL_law_34 16 rfl rfl)
theorem dL_law_1063 : decode cL_law 1063 = .ok (.iconst 1, 1) := dk_4 (dk_at dksL_law_34 18 rfl rfl)
theorem dL_law_1064 : decode cL_law 1064 = .ok (.iadd, 1) := dk_96 (dk_at dksL_law_34 19 rfl rfl)
theorem dL_law_1065 : decode cL_law 1065 = .ok (.iaload, 1) := dk_46 (dk_at dksL_law_34 20 rfl rfl)
theorem dL_law_1066 : decode cL_law 1066 = .ok (.aload_n 3, 1) := dk_45 (dk_at dksL_law_34 21 rfl rfl)
theorem dL_law_1067 : decode cL_law 1067 = .ok (.invokestatic 238, 3) := dk_184 0 238 (dk_at dksL_law_35 0 rfl rfl)
theorem dL_law_1070 : decode cL_law 1070 = .ok (.istore 6, 2) := dk_54 6 (dk_at dksL_law_35 3 rfl rfl)
theorem dL_law_1072 : decode cL_law 1072 = .ok (.aload_n 2, 1) := dk_44 (dk_at dksL_law_35 5 rfl rfl)
theorem dL_law_1073 : decode cL_law 1073 = .ok (.aload_n 0, 1) := dk_42 (dk_at dksL_law_35 6 rfl rfl)
theorem dL_law_1074 : decode cL_law 1074 = .ok (.iload 5, 2) := dk_21 5 (dk_at dksL_law_35 7 rfl rfl)
theorem dL_law_1076 : decode cL_law 1076 = .ok (.iconst 1, 1) := dk_4 (dk_at dksL_law_35 9 rfl rfl)
theorem dL_law_1077 : decode cL_law 1077 = .ok (.iadd, 1) := dk_96 (dk_at dksL_law_35 10 rfl rfl)
theorem dL_law_1078 : decode cL_law 1078 = .ok (.iaload, 1) := dk_46 (dk_at dksL_law_35 11 rfl rfl)
theorem dL_law_1079 : decode cL_law 1079 = .ok (.invokevirtual 240, 3) := dk_182 0 240 (dk_at dksL_law_35 12 rfl rfl)
theorem dL_law_1082 : decode cL_law 1082 = .ok (.istore 7, 2) := dk_54 7 (dk_at dksL_law_35 15 rfl rfl)
theorem dL_law_1084 : decode cL_law 1084 = .ok (.aload_n 2, 1) := dk_44 (dk_at dksL_law_35 17 rfl rfl)
theorem dL_law_1085 : decode cL_law 1085 = .ok (.invokevirtual 191, 3) := dk_182 0 191 (dk_at dksL_law_35 18 rfl rfl)
theorem dL_law_1088 : decode cL_law 1088 = .ok (.iload 6, 2) := dk_21 6 (dk_at dksL_law_35 21 rfl rfl)
theorem dL_law_1090 : decode cL_law 1090 = .ok (.if_icmp .eq 5, 3) := dk_159 0 5 (dk_at dksL_law_36 0 rfl rfl)
theorem dL_law_1093 : decode cL_law 1093 = .ok (.iconst 0, 1) := dk_3 (dk_at dksL_law_36 3 rfl rfl)
theorem dL_law_1094 : decode cL_law 1094 = .ok (.ireturn, 1) := dk_172 (dk_at dksL_law_36 4 rfl rfl)
theorem dL_law_1095 : decode cL_law 1095 = .ok (.iload 6, 2) := dk_21 6 (dk_at dksL_law_36 5 rfl rfl)
theorem dL_law_1097 : decode cL_law 1097 = .ok (.ifCond .ne 15, 3) := dk_154 0 15 (dk_at dksL_law_36 7 rfl rfl)
theorem dL_law_1100 : decode cL_law 1100 = .ok (.aload_n 3, 1) := dk_45 (dk_at dksL_law_36 10 rfl rfl)
theorem dL_law_1101 : decode cL_law 1101 = .ok (.iconst 0, 1) := dk_3 (dk_at dksL_law_36 11 rfl rfl)
theorem dL_law_1102 : decode cL_law 1102 = .ok (.laload, 1) := dk_47 (dk_at dksL_law_36 12 rfl rfl)
theorem dL_law_1103 : decode cL_law 1103 = .ok (.iload 7, 2) := dk_21 7 (dk_at dksL_law_36 13 rfl rfl)
theorem dL_law_1105 : decode cL_law 1105 = .ok (.i2l, 1) := dk_133 (dk_at dksL_law_36 15 rfl rfl)
theorem dL_law_1106 : decode cL_law 1106 = .ok (.lcmp, 1) := dk_148 (dk_at dksL_law_36 16 rfl rfl)
theorem dL_law_1107 : decode cL_law 1107 = .ok (.ifCond .eq 5, 3) := dk_153 0 5 (dk_at dksL_law_36 17 rfl rfl)
theorem dL_law_1110 : decode cL_law 1110 = .ok (.iconst 0, 1) := dk_3 (dk_at dksL_law_36 20 rfl rfl)
theorem dL_law_1111 : decode cL_law 1111 = .ok (.ireturn, 1) := dk_172 (dk_at dksL_law_36 21 rfl rfl)
theorem dL_law_1112 : decode cL_law 1112 = .ok (.goto 2602, 3) := dk_167 10 42 (dk_at dksL_law_37 0 rfl rfl)
theorem dL_law_1115 : decode cL_law 1115 = .ok (.aload_n 1, 1) := dk_43 (dk_at dksL_law_37 3 rfl rfl)
theorem dL_law_1116 : decode cL_law 1116 = .ok (.aload_n 0, 1) := dk_42 (dk_at dksL_law_37 4 rfl rfl)
theorem dL_law_1117 : decode cL_law 1117 = .ok (.iload 5, 2) := dk_21 5 (dk_at dksL_law_37 5 rfl rfl)
theorem dL_law_1119 : decode cL_law 1119 = .ok (.iconst 1, 1) := dk_4 (dk_at dksL_law_37 7 rfl rfl)
theorem dL_law_1120 : decode cL_law 1120 = .ok (.iadd, 1) := dk_96 (dk_at dksL_law_37 8 rfl rfl)
theorem dL_law_1121 : decode cL_law 1121 = .ok (.iaload, 1) := dk_46 (dk_at dksL_law_37 9 rfl rfl)
theorem dL_law_1122 : decode cL_law 1122 = .ok (.aload_n 3, 1) := dk_45 (dk_at dksL_law_37 10 rfl rfl)
theorem dL_law_1123 : decode cL_law 1123 = .ok (.invokestatic 241, 3) := dk_184 0 241 (dk_at dksL_law_37 11 rfl rfl)
theorem dL_law_1126 : decode cL_law 1126 = .ok (.istore 6, 2) := dk_54 6 (dk_at dksL_law_37 14 rfl rfl)
theorem dL_law_1128 : decode cL_law 1128 = .ok (.aload_n 2, 1) := dk_44 (dk_at dksL_law_37 16 rfl rfl)
theorem dL_law_1129 : decode cL_law 1129 = .ok (.aload_n 0, 1) := dk_42 (dk_at dksL_law_37 17 rfl rfl)
theorem dL_law_1130 : decode cL_law 1130 = .ok (.iload 5, 2) := dk_21 5 (dk_at dksL_law_37 18 rfl rfl)
theorem dL_law_1132 : decode cL_law 1132 = .ok (.iconst 1, 1) := dk_4 (dk_at dksL_law_37 20 rfl rfl)
theorem dL_law_1133 : decode cL_law 1133 = .ok (.iadd, 1) := dk_96 (dk_at dksL_law_37 21 rfl rfl)
theorem dL_law_1134 : decode cL_law 1134 = .ok (.iaload, 1) := dk_46 (dk_at dksL_law_37 22 rfl rfl)
theorem dL_law_1135 : decode cL_law 1135 = .ok (.invokevirtual 243, 3) := dk_182 0 243 (dk_at dksL_law_38 0 rfl rfl)
theorem dL_law_1138 : decode cL_law 1138 = .ok (.istore 7, 2) := dk_54 7 (dk_at dksL_law_38 3 rfl rfl)
theorem dL_law_1140 : decode cL_law 1140 = .ok (.aload_n 2, 1) := dk_44 (dk_at dksL_law_38 5 rfl rfl)
theorem dL_law_1141 : decode cL_law 1141 = .ok (.invokevirtual 191, 3) := dk_182 0 191 (dk_at dksL_law_38 6 rfl rfl)
theorem dL_law_1144 : decode cL_law 1144 = .ok (.iload 6, 2) := dk_21 6 (dk_at dksL_law_38 9 rfl rfl)
theorem dL_law_1146 : decode cL_law 1146 = .ok (.if_icmp .eq 5, 3) := dk_159 0 5 (dk_at dksL_law_38 11 rfl rfl)
theorem dL_law_1149 : decode cL_law 1149 = .ok (.iconst 0, 1) := dk_3 (dk_at dksL_law_38 14 rfl rfl)
theorem dL_law_1150 : decode cL_law 1150 = .ok (.ireturn, 1) := dk_172 (dk_at dksL_law_38 15 rfl rfl)
theorem dL_law_1151 : decode cL_law 1151 = .ok (.iload 6, 2) := dk_21 6 (dk_at dksL_law_38 16 rfl rfl)
theorem dL_law_1153 : decode cL_law 1153 = .ok (.ifCond .ne 15, 3) := dk_154 0 15 (dk_at dksL_law_38 18 rfl rfl)
theorem dL_law_1156 : decode cL_law 1156 = .ok (.aload_n 3, 1) := dk_45 (dk_at dksL_law_38 21 rfl rfl)
theorem dL_law_1157 : decode cL_law 1157 = .ok (.iconst 0, 1) := dk_3 (dk_at dksL_law_38 22 rfl rfl)
theorem dL_law_1158 : decode cL_law 1158 = .ok (.laload, 1) := dk_47 (dk_at dksL_law_38 23 rfl rfl)
theorem dL_law_1159 : decode cL_law 1159 = .ok (.iload 7, 2) := dk_21 7 (dk_at dksL_law_39 0 rfl rfl)
theorem dL_law_1161 : decode cL_law 1161 = .ok (.i2l, 1) := dk_133 (dk_at dksL_law_39 2 rfl rfl)
theorem dL_law_1162 : decode cL_law 1162 = .ok (.lcmp, 1) := dk_148 (dk_at dksL_law_39 3 rfl rfl)
theorem dL_law_1163 : decode cL_law 1163 = .ok (.ifCond .eq 5, 3) := dk_153 0 5 (dk_at dksL_law_39 4 rfl rfl)
theorem dL_law_1166 : decode cL_law 1166 = .ok (.iconst 0, 1) := dk_3 (dk_at dksL_law_39 7 rfl rfl)
theorem dL_law_1167 : decode cL_law 1167 = .ok (.ireturn, 1) := dk_172 (dk_at dksL_law_39 8 rfl rfl)
theorem dL_law_1168 : decode cL_law 1168 = .ok (.goto 2546, 3) := dk_167 9 242 (dk_at dksL_law_39 9 rfl rfl)
theorem dL_law_1171 : decode cL_law 1171 = .ok (.aload_n 1, 1) := dk_43 (dk_at dksL_law_39 12 rfl rfl)
theorem dL_law_1172 : decode cL_law 1172 = .ok (.aload_n 0, 1) := dk_42 (dk_at dksL_law_39 13 rfl rfl)
theorem dL_law_1173 : decode cL_law 1173 = .ok (.iload 5, 2) := dk_21 5 (dk_at dksL_law_39 14 rfl rfl)
theorem dL_law_1175 : decode cL_law 1175 = .ok (.iconst 1, 1) := dk_4 (dk_at dksL_law_39 16 rfl rfl)
theorem dL_law_1176 : decode cL_law 1176 = .ok (.iadd, 1) := dk_96 (dk_at dksL_law_39 17 rfl rfl)
theorem dL_law_1177 : decode cL_law 1177 = .ok (.iaload, 1) := dk_46 (dk_at dksL_law_39 18 rfl rfl)
theorem dL_law_1178 : decode cL_law 1178 = .ok (.aload_n 0, 1) := dk_42 (dk_at dksL_law_39 19 rfl rfl)
theorem dL_law_1179 : decode cL_law 1179 = .ok (.iload 5, 2) := dk_21 5 (dk_at dksL_law_39 20 rfl rfl)
theorem dL_law_1181 : decode cL_law 1181 = .ok (.iconst 2, 1) := dk_5 (dk_at dksL_law_39 22 rfl rfl)
theorem dL_law_1182 : decode cL_law 1182 = .ok (.iadd, 1) := dk_96 (dk_at dksL_law_39 23 rfl rfl)
theorem dL_law_1183 : decode cL_law 1183 = .ok (.iaload, 1) := dk_46 (dk_at dksL_law_40 0 rfl rfl)
theorem dL_law_1184 : decode cL_law 1184 = .ok (.aload_n 3, 1) := dk_45 (dk_at dksL_law_40 1 rfl rfl)
theorem dL_law_1185 : decode cL_law 1185 = .ok (.invokestatic 244, 3) := dk_184 0 244 (dk_at dksL_law_40 2 rfl rfl)
theorem dL_law_1188 : decode cL_law 1188 = .ok (.istore 6, 2) := dk_54 6 (dk_at dksL_law_40 5 rfl rfl)
theorem dL_law_1190 : decode cL_law 1190 = .ok (.aload_n 2, 1) := dk_44 (dk_at dksL_law_40 7 rfl rfl)
theorem dL_law_1191 : decode cL_law 1191 = .ok (.aload_n 0, 1) := dk_42 (dk_at dksL_law_40 8 rfl rfl)
theorem dL_law_1192 : decode cL_law 1192 = .ok (.iload 5, 2) := dk_21 5 (dk_at dksL_law_40 9 rfl rfl)
theorem dL_law_1194 : decode cL_law 1194 = .ok (.iconst 1, 1) := dk_4 (dk_at dksL_law_40 11 rfl rfl)
theorem dL_law_1195 : decode cL_law 1195 = .ok (.iadd, 1) := dk_96 (dk_at dksL_law_40 12 rfl rfl)
theorem dL_law_1196 : decode cL_law 1196 = .ok (.iaload, 1) := dk_46 (dk_at dksL_law_40 13 rfl rfl)
theorem dL_law_1197 : decode cL_law 1197 = .ok (.aload_n 0, 1) := dk_42 (dk_at dksL_law_40 14 rfl rfl)
theorem dL_law_1198 : decode cL_law 1198 = .ok (.iload 5, 2) := dk_21 5 (dk_at dksL_law_40 15 rfl rfl)
theorem dL_law_1200 : decode cL_law 1200 = .ok (.iconst 2, 1) := dk_5 (dk_at dksL_law_40 17 rfl rfl)
theorem dL_law_1201 : decode cL_law 1201 = .ok (.iadd, 1) := dk_96 (dk_at dksL_law_40 18 rfl rfl)
theorem dL_law_1202 : decode cL_law 1202 = .ok (.iaload, 1) := dk_46 (dk_at dksL_law_40 19 rfl rfl)
theorem dL_law_1203 : decode cL_law 1203 = .ok (.invokevirtual 246, 3) := dk_182 0 246 (dk_at dksL_law_40 20 rfl rfl)
theorem dL_law_1206 : decode cL_law 1206 = .ok (.istore 7, 2) := dk_54 7 (dk_at dksL_law_41 0 rfl rfl)
theorem dL_law_1208 : decode cL_law 1208 = .ok (.aload_n 2, 1) := dk_44 (dk_at dksL_law_41 2 rfl rfl)
theorem dL_law_1209 : decode cL_law 1209 = .ok (.invokevirtual 191, 3) := dk_182 0 191 (dk_at dksL_law_41 3 rfl rfl)
theorem dL_law_1212 : decode cL_law 1212 = .ok (.iload 6, 2) := dk_21 6 (dk_at dksL_law_41 6 rfl rfl)
theorem dL_law_1214 : decode cL_law 1214 = .ok (.if_icmp .eq 5, 3) := dk_159 0 5 (dk_at dksL_law_41 8 rfl rfl)
theorem dL_law_1217 : decode cL_law 1217 = .ok (.iconst 0, 1) := dk_3 (dk_at dksL_law_41 11 rfl rfl)
theorem dL_law_1218 : decode cL_law 1218 = .ok (.ireturn, 1) := dk_172 (dk_at dksL_law_41 12 rfl rfl)
theorem dL_law_1219 : decode cL_law 1219 = .ok (.iload 6, 2) := dk_21 6 (dk_at dksL_law_41 13 rfl rfl)
theorem dL_law_1221 : decode cL_law 1221 = .ok (.ifCond .ne 15, 3) := dk_154 0 15 (dk_at dksL_law_41 15 rfl rfl)
theorem dL_law_1224 : decode cL_law 1224 = .ok (.aload_n 3, 1) := dk_45 (dk_at dksL_law_41 18 rfl rfl)
theorem dL_law_1225 : decode cL_law 1225 = .ok (.iconst 0, 1) := dk_3 (dk_at dksL_law_41 19 rfl rfl)
theorem dL_law_1226 : decode cL_law 1226 = .ok (.laload, 1) := dk_47 (dk_at dksL_law_41 20 rfl rfl)
theorem dL_law_1227 : decode cL_law 1227 = .ok (.iload 7, 2) := dk_21 7 (dk_at dksL_law_41 21 rfl rfl)
theorem dL_law_1229 : decode cL_law 1229 = .ok (.i2l, 1) := dk_133 (dk_at dksL_law_41 23 rfl rfl)
theorem dL_law_1230 : decode cL_law 1230 = .ok (.lcmp, 1) := dk_148 (dk_at dksL_law_42 0 rfl rfl)
theorem dL_law_1231 : decode cL_law 1231 = .ok (.ifCond .eq 5, 3) := dk_153 0 5 (dk_at dksL_law_42 1 rfl rfl)
theorem dL_law_1234 : decode cL_law 1234 = .ok (.iconst 0, 1) := dk_3 (dk_at dksL_law_42 4 rfl rfl)
theorem dL_law_1235 : decode cL_law 1235 = .ok (.ireturn, 1) := dk_172 (dk_at dksL_law_42 5 rfl rfl)
theorem dL_law_1236 : decode cL_law 1236 = .ok (.goto 2478, 3) := dk_167 9 174 (dk_at dksL_law_42 6 rfl rfl)
theorem dL_law_1239 : decode cL_law 1239 = .ok (.aload_n 1, 1) := dk_43 (dk_at dksL_law_42 9 rfl rfl)
theorem dL_law_1240 : decode cL_law 1240 = .ok (.aload_n 0, 1) := dk_42 (dk_at dksL_law_42 10 rfl rfl)
theorem dL_law_1241 : decode cL_law 1241 = .ok (.iload 5, 2) := dk_21 5 (dk_at dksL_law_42 11 rfl rfl)
theorem dL_law_1243 : decode cL_law 1243 = .ok (.iconst 1, 1) := dk_4 (dk_at dksL_law_42 13 rfl rfl)
theorem dL_law_1244 : decode cL_law 1244 = .ok (.iadd, 1) := dk_96 (dk_at dksL_law_42 14 rfl rfl)
theorem dL_law_1245 : decode cL_law 1245 = .ok (.iaload, 1) := dk_46 (dk_at dksL_law_42 15 rfl rfl)
theorem dL_law_1246 : decode cL_law 1246 = .ok (.aload_n 3, 1) := dk_45 (dk_at dksL_law_42 16 rfl rfl)
theorem dL_law_1247 : decode cL_law 1247 = .ok (.invokestatic 247, 3) := dk_184 0 247 (dk_at dksL_law_42 17 rfl rfl)
theorem dL_law_1250 : decode cL_law 1250 = .ok (.istore 6, 2) := dk_54 6 (dk_at dksL_law_42 20 rfl rfl)
theorem dL_law_1252 : decode cL_law 1252 = .ok (.aload_n 2, 1) := dk_44 (dk_at dksL_law_42 22 rfl rfl)
theorem dL_law_1253 : decode cL_law 1253 = .ok (.aload_n 0, 1) := dk_42 (dk_at dksL_law_42 23 rfl rfl)
theorem dL_law_1254 : decode cL_law 1254 = .ok (.iload 5, 2) := dk_21 5 (dk_at dksL_law_43 0 rfl rfl)
theorem dL_law_1256 : decode cL_law 1256 = .ok (.iconst 1, 1) := dk_4 (dk_at dksL_law_43 2 rfl rfl)
theorem dL_law_1257 : decode cL_law 1257 = .ok (.iadd, 1) := dk_96 (dk_at dksL_law_43 3 rfl rfl)
theorem dL_law_1258 : decode cL_law 1258 = .ok (.iaload, 1) := dk_46 (dk_at dksL_law_43 4 rfl rfl)
theorem dL_law_1259 : decode cL_law 1259 = .ok (.invokevirtual 249, 3) := dk_182 0 249 (dk_at dksL_law_43 5 rfl rfl)
theorem dL_law_1262 : decode cL_law 1262 = .ok (.istore 7, 2) := dk_54 7 (dk_at dksL_law_43 8 rfl rfl)
theorem dL_law_1264 : decode cL_law 1264 = .ok (.aload_n 2, 1) := dk_44 (dk_at dksL_law_43 10 rfl rfl)
theorem dL_law_1265 : decode cL_law 1265 = .ok (.invokevirtual 191, 3) := dk_182 0 191 (dk_at dksL_law_43 11 rfl rfl)
theorem dL_law_1268 : decode cL_law 1268 = .ok (.iload 6, 2) := dk_21 6 (dk_at dksL_law_43 14 rfl rfl)
theorem dL_law_1270 : decode cL_law 1270 = .ok (.if_icmp .eq 5, 3) := dk_159 0 5 (dk_at dksL_law_43 16 rfl rfl)
theorem dL_law_1273 : decode cL_law 1273 = .ok (.iconst 0, 1) := dk_3 (dk_at dksL_law_43 19 rfl rfl)
theorem dL_law_1274 : decode cL_law 1274 = .ok (.ireturn, 1) := dk_172 (dk_at dksL_law_43 20 rfl rfl)
theorem dL_law_1275 : decode cL_law 1275 = .ok (.iload 6, 2) := dk_21 6 (dk_at dksL_law_43 21 rfl rfl)
theorem dL_law_1277 : decode cL_law 1277 = .ok (.ifCond .ne 22, 3) := dk_154 0 22 (dk_at dksL_law_44 0 rfl rfl)
theorem dL_law_1280 : decode cL_law 1280 = .ok (.aload_n 3, 1) := dk_45 (dk_at dksL_law_44 3 rfl rfl)
theorem dL_law_1281 : decode cL_law 1281 = .ok (.iconst 0, 1) := dk_3 (dk_at dksL_law_44 4 rfl rfl)
theorem dL_law_1282 : decode cL_law 1282 = .ok (.laload, 1) := dk_47 (dk_at dksL_law_44 5 rfl rfl)
theorem dL_law_1283 : decode cL_law 1283 = .ok (.iload 7, 2) := dk_21 7 (dk_at dksL_law_44 6 rfl rfl)
theorem dL_law_1285 : decode cL_law 1285 = .ok (.ifCond .eq 7, 3) := dk_153 0 7 (dk_at dksL_law_44 8 rfl rfl)
theorem dL_law_1288 : decode cL_law 1288 = .ok (.lconst 1, 1) := dk_10 (dk_at dksL_law_44 11 rfl rfl)
theorem dL_law_1289 : decode cL_law 1289 = .ok (.goto 4, 3) := dk_167 0 4 (dk_at dksL_law_44 12 rfl rfl)
theorem dL_law_1292 : decode cL_law 1292 = .ok (.lconst 0, 1) := dk_9 (dk_at dksL_law_44 15 rfl rfl)
theorem dL_law_1293 : decode cL_law 1293 = .ok (.lcmp, 1) := dk_148 (dk_at dksL_law_44 16 rfl rfl)
theorem dL_law_1294 : decode cL_law 1294 = .ok (.ifCond .eq 5, 3) := dk_153 0 5 (dk_at dksL_law_44 17 rfl rfl)
theorem dL_law_1297 : decode cL_law 1297 = .ok (.iconst 0, 1) := dk_3 (dk_at dksL_law_44 20 rfl rfl)
theorem dL_law_1298 : decode cL_law 1298 = .ok (.ireturn, 1) := dk_172 (dk_at dksL_law_44 21 rfl rfl)
theorem dL_law_1299 : decode cL_law 1299 = .ok (.goto 2415, 3) := dk_167 9 111 (dk_at dksL_law_45 0 rfl rfl)
theorem dL_law_1302 : decode cL_law 1302 = .ok (.aload_n 1, 1) := dk_43 (dk_at dksL_law_45 3 rfl rfl)
theorem dL_law_1303 : decode cL_law 1303 = .ok (.aload_n 0, 1) := dk_42 (dk_at dksL_law_45 4 rfl rfl)
theorem dL_law_1304 : decode cL_law 1304 = .ok (.iload 5, 2) := dk_21 5 (dk_at dksL_law_45 5 rfl rfl)
theorem dL_law_1306 : decode cL_law 1306 = .ok (.iconst 1, 1) := dk_4 (dk_at dksL_law_45 7 rfl rfl)
theorem dL_law_1307 : decode cL_law 1307 = .ok (.iadd, 1) := dk_96 (dk_at dksL_law_45 8 rfl rfl)
theorem dL_law_1308 : decode cL_law 1308 = .ok (.iaload, 1) := dk_46 (dk_at dksL_law_45 9 rfl rfl)
theorem dL_law_1309 : decode cL_law 1309 = .ok (.aload_n 3, 1) := dk_45 (dk_at dksL_law_45 10 rfl rfl)
theorem dL_law_1310 : decode cL_law 1310 = .ok (.invokestatic 250, 3) := dk_184 0 250 (dk_at dksL_law_45 11 rfl rfl)
theorem dL_law_1313 : decode cL_law 1313 = .ok (.istore 6, 2) := dk_54 6 (dk_at dksL_law_45 14 rfl rfl)
theorem dL_law_1315 : decode cL_law 1315 = .ok (.aload_n 2, 1) := dk_44 (dk_at dksL_law_45 16 rfl rfl)
theorem dL_law_1316 : decode cL_law 1316 = .ok (.aload_n 0, 1) := dk_42 (dk_at dksL_law_45 17 rfl rfl)
theorem dL_law_1317 : decode cL_law 1317 = .ok (.iload 5, 2) := dk_21 5 (dk_at dksL_law_45 18 rfl rfl)
theorem dL_law_1319 : decode cL_law 1319 = .ok (.iconst 1, 1) := dk_4 (dk_at dksL_law_45 20 rfl rfl)
theorem dL_law_1320 : decode cL_law 1320 = .ok (.iadd, 1) := dk_96 (dk_at dksL_law_45 21 rfl rfl)
theorem dL_law_1321 : decode cL_law 1321 = .ok (.iaload, 1) := dk_46 (dk_at dksL_law_45 22 rfl rfl)
theorem dL_law_1322 : decode cL_law 1322 = .ok (.invokevirtual 252, 3) := dk_182 0 252 (dk_at dksL_law_46 0 rfl rfl)
theorem dL_law_1325 : decode cL_law 1325 = .ok (.istore 7, 2) := dk_54 7 (dk_at dksL_law_46 3 rfl rfl)
theorem dL_law_1327 : decode cL_law 1327 = .ok (.aload_n 2, 1) := dk_44 (dk_at dksL_law_46 5 rfl rfl)
theorem dL_law_1328 : decode cL_law 1328 = .ok (.invokevirtual 191, 3) := dk_182 0 191 (dk_at dksL_law_46 6 rfl rfl)
theorem dL_law_1331 : decode cL_law 1331 = .ok (.iload 6, 2) := dk_21 6 (dk_at dksL_law_46 9 rfl rfl)
theorem dL_law_1333 : decode cL_law 1333 = .ok (.if_icmp .eq 5, 3) := dk_159 0 5 (dk_at dksL_law_46 11 rfl rfl)
theorem dL_law_1336 : decode cL_law 1336 = .ok (.iconst 0, 1) := dk_3 (dk_at dksL_law_46 14 rfl rfl)
theorem dL_law_1337 : decode cL_law 1337 = .ok (.ireturn, 1) := dk_172 (dk_at dksL_law_46 15 rfl rfl)
theorem dL_law_1338 : decode cL_law 1338 = .ok (.iload 6, 2) := dk_21 6 (dk_at dksL_law_46 16 rfl rfl)
theorem dL_law_1340 : decode cL_law 1340 = .ok (.ifCond .ne 15, 3) := dk_154 0 15 (dk_at dksL_law_46 18 rfl rfl)
theorem dL_law_1343 : decode cL_law 1343 = .ok (.aload_n 3, 1) := dk_45 (dk_at dksL_law_46 21 rfl rfl)
theorem dL_law_1344 : decode cL_law 1344 = .ok (.iconst 0, 1) := dk_3 (dk_at dksL_law_46 22 rfl rfl)
theorem dL_law_1345 : decode cL_law 1345 = .ok (.laload, 1) := dk_47 (dk_at dksL_law_46 23 rfl rfl)
theorem dL_law_1346 : decode cL_law 1346 = .ok (.iload 7, 2) := dk_21 7 (dk_at dksL_law_47 0 rfl rfl)
theorem dL_law_1348 : decode cL_law 1348 = .ok (.i2l, 1) := dk_133 (dk_at dksL_law_47 2 rfl rfl)
theorem dL_law_1349 : decode cL_law 1349 = .ok (.lcmp, 1) := dk_148 (dk_at dksL_law_47 3 rfl rfl)
theorem dL_law_1350 : decode cL_law 1350 = .ok (.ifCond .eq 5, 3) := dk_153 0 5 (dk_at dksL_law_47 4 rfl rfl)
theorem dL_law_1353 : decode cL_law 1353 = .ok (.iconst 0, 1) := dk_3 (dk_at dksL_law_47 7 rfl rfl)
theorem dL_law_1354 : decode cL_law 1354 = .ok (.ireturn, 1) := dk_172 (dk_at dksL_law_47 8 rfl rfl)
theorem dL_law_1355 : decode cL_law 1355 = .ok (.goto 2359, 3) := dk_167 9 55 (dk_at dksL_law_47 9 rfl rfl)
theorem dL_law_1358 : decode cL_law 1358 = .ok (.aload_n 1, 1) := dk_43 (dk_at dksL_law_47 12 rfl rfl)
theorem dL_law_1359 : decode cL_law 1359 = .ok (.aload_n 0, 1) := dk_42 (dk_at dksL_law_47 13 rfl rfl)
theorem dL_law_1360 : decode cL_law 1360 = .ok (.iload 5, 2) := dk_21 5 (dk_at dksL_law_47 14 rfl rfl)
theorem dL_law_1362 : decode cL_law 1362 = .ok (.iconst 1, 1) := dk_4 (dk_at dksL_law_47 16 rfl rfl)
theorem dL_law_1363 : decode cL_law 1363 = .ok (.iadd, 1) := dk_96 (dk_at dksL_law_47 17 rfl rfl)
theorem dL_law_1364 : decode cL_law 1364 = .ok (.iaload, 1) := dk_46 (dk_at dksL_law_47 18 rfl rfl)
theorem dL_law_1365 : decode cL_law 1365 = .ok (.aload_n 3, 1) := dk_45 (dk_at dksL_law_47 19 rfl rfl)
theorem dL_law_1366 : decode cL_law 1366 = .ok (.invokestatic 253, 3) := dk_184 0 253 (dk_at dksL_law_47 20 rfl rfl)
theorem dL_law_1369 : decode cL_law 1369 = .ok (.istore 6, 2) := dk_54 6 (dk_at dksL_law_48 0 rfl rfl)
theorem dL_law_1371 : decode cL_law 1371 = .ok (.aload_n 2, 1) := dk_44 (dk_at dksL_law_48 2 rfl rfl)
theorem dL_law_1372 : decode cL_law 1372 = .ok (.aload_n 0, 1) := dk_42 (dk_at dksL_law_48 3 rfl rfl)
theorem dL_law_1373 : decode cL_law 1373 = .ok (.iload 5, 2) := dk_21 5 (dk_at dksL_law_48 4 rfl rfl)
theorem dL_law_1375 : decode cL_law 1375 = .ok (.iconst 1, 1) := dk_4 (dk_at dksL_law_48 6 rfl rfl)
theorem dL_law_1376 : decode cL_law 1376 = .ok (.iadd, 1) := dk_96 (dk_at dksL_law_48 7 rfl rfl)
theorem dL_law_1377 : decode cL_law 1377 = .ok (.iaload, 1) := dk_46 (dk_at dksL_law_48 8 rfl rfl)
theorem dL_law_1378 : decode cL_law 1378 = .ok (.invokevirtual 255, 3) := dk_182 0 255 (dk_at dksL_law_48 9 rfl rfl)
theorem dL_law_1381 : decode cL_law 1381 = .ok (.lstore 7, 2) := dk_55 7 (dk_at dksL_law_48 12 rfl rfl)
theorem dL_law_1383 : decode cL_law 1383 = .ok (.aload_n 2, 1) := dk_44 (dk_at dksL_law_48 14 rfl rfl)
theorem dL_law_1384 : decode cL_law 1384 = .ok (.invokevirtual 191, 3) := dk_182 0 191 (dk_at dksL_law_48 15 rfl rfl)
theorem dL_law_1387 : decode cL_law 1387 = .ok (.iload 6, 2) := dk_21 6 (dk_at dksL_law_48 18 rfl rfl)
theorem dL_law_1389 : decode cL_law 1389 = .ok (.if_icmp .eq 5, 3) := dk_159 0 5 (dk_at dksL_law_48 20 rfl rfl)
theorem dL_law_1392 : decode cL_law 1392 = .ok (.iconst 0, 1) := dk_3 (dk_at dksL_law_48 23 rfl rfl)
theorem dL_law_1393 : decode cL_law 1393 = .ok (.ireturn, 1) := dk_172 (dk_at dksL_law_49 0 rfl rfl)
theorem dL_law_1394 : decode cL_law 1394 = .ok (.iload 6, 2) := dk_21 6 (dk_at dksL_law_49 1 rfl rfl)
theorem dL_law_1396 : decode cL_law 1396 = .ok (.ifCond .ne 14, 3) := dk_154 0 14 (dk_at dksL_law_49 3 rfl rfl)
theorem dL_law_1399 : decode cL_law 1399 = .ok (.aload_n 3, 1) := dk_45 (dk_at dksL_law_49 6 rfl rfl)
theorem dL_law_1400 : decode cL_law 1400 = .ok (.iconst 0, 1) := dk_3 (dk_at dksL_law_49 7 rfl rfl)
theorem dL_law_1401 : decode cL_law 1401 = .ok (.laload, 1) := dk_47 (dk_at dksL_law_49 8 rfl rfl)
theorem dL_law_1402 : decode cL_law 1402 = .ok (.lload 7, 2) := dk_22 7 (dk_at dksL_law_49 9 rfl rfl)
theorem dL_law_1404 : decode cL_law 1404 = .ok (.lcmp, 1) := dk_148 (dk_at dksL_law_49 11 rfl rfl)
theorem dL_law_1405 : decode cL_law 1405 = .ok (.ifCond .eq 5, 3) := dk_153 0 5 (dk_at dksL_law_49 12 rfl rfl)
theorem dL_law_1408 : decode cL_law 1408 = .ok (.iconst 0, 1) := dk_3 (dk_at dksL_law_49 15 rfl rfl)
theorem dL_law_1409 : decode cL_law 1409 = .ok (.ireturn, 1) := dk_172 (dk_at dksL_law_49 16 rfl rfl)
theorem dL_law_1410 : decode cL_law 1410 = .ok (.goto 2304, 3) := dk_167 9 0 (dk_at dksL_law_49 17 rfl rfl)
theorem dL_law_1413 : decode cL_law 1413 = .ok (.aload_n 1, 1) := dk_43 (dk_at dksL_law_49 20 rfl rfl)
theorem dL_law_1414 : decode cL_law 1414 = .ok (.aload_n 0, 1) := dk_42 (dk_at dksL_law_49 21 rfl rfl)
theorem dL_law_1415 : decode cL_law 1415 = .ok (.iload 5, 2) := dk_21 5 (dk_at dksL_law_49 22 rfl rfl)
theorem dL_law_1417 : decode cL_law 1417 = .ok (.iconst 1, 1) := dk_4 (dk_at dksL_law_50 0 rfl rfl)
theorem dL_law_1418 : decode cL_law 1418 = .ok (.iadd, 1) := dk_96 (dk_at dksL_law_50 1 rfl rfl)
theorem dL_law_1419 : decode cL_law 1419 = .ok (.iaload, 1) := dk_46 (dk_at dksL_law_50 2 rfl rfl)
theorem dL_law_1420 : decode cL_law 1420 = .ok (.aload_n 3, 1) := dk_45 (dk_at dksL_law_50 3 rfl rfl)
theorem dL_law_1421 : decode cL_law 1421 = .ok (.invokestatic 256, 3) := dk_184 1 0 (dk_at dksL_law_50 4 rfl rfl)
theorem dL_law_1424 : decode cL_law 1424 = .ok (.istore 6, 2) := dk_54 6 (dk_at dksL_law_50 7 rfl rfl)
theorem dL_law_1426 : decode cL_law 1426 = .ok (.aload_n 2, 1) := dk_44 (dk_at dksL_law_50 9 rfl rfl)
theorem dL_law_1427 : decode cL_law 1427 = .ok (.aload_n 0, 1) := dk_42 (dk_at dksL_law_50 10 rfl rfl)
theorem dL_law_1428 : decode cL_law 1428 = .ok (.iload 5, 2) := dk_21 5 (dk_at dksL_law_50 11 rfl rfl)
theorem dL_law_1430 : decode cL_law 1430 = .ok (.iconst 1, 1) := dk_4 (dk_at dksL_law_50 13 rfl rfl)
theorem dL_law_1431 : decode cL_law 1431 = .ok (.iadd, 1) := dk_96 (dk_at dksL_law_50 14 rfl rfl)
theorem dL_law_1432 : decode cL_law 1432 = .ok (.iaload, 1) := dk_46 (dk_at dksL_law_50 15 rfl rfl)
theorem dL_law_1433 : decode cL_law 1433 = .ok (.invokevirtual 258, 3) := dk_182 1 2 (dk_at dksL_law_50 16 rfl rfl)
theorem dL_law_1436 : decode cL_law 1436 = .ok (.lstore 7, 2) := dk_55 7 (dk_at dksL_law_50 19 rfl rfl)
theorem dL_law_1438 : decode cL_law 1438 = .ok (.aload_n 2, 1) := dk_44 (dk_at dksL_law_50 21 rfl rfl)
theorem dL_law_1439 : decode cL_law 1439 = .ok (.invokevirtual 191, 3) := dk_182 0 191 (dk_at dksL_law_51 0 rfl rfl)
theorem dL_law_1442 : decode cL_law 1442 = .ok (.iload 6, 2) := dk_21 6 (dk_at dksL_law_51 3 rfl rfl)
theorem dL_law_1444 : decode cL_law 1444 = .ok (.if_icmp .eq 5, 3) := dk_159 0 5 (dk_at dksL_law_51 5 rfl rfl)
theorem dL_law_1447 : decode cL_law 1447 = .ok (.iconst 0, 1) := dk_3 (dk_at dksL_law_51 8 rfl rfl)
theorem dL_law_1448 : decode cL_law 1448 = .ok (.ireturn, 1) := dk_172 (dk_at dksL_law_51 9 rfl rfl)
theorem dL_law_1449 : decode cL_law 1449 = .ok (.iload 6, 2) := dk_21 6 (dk_at dksL_law_51 10 rfl rfl)
theorem dL_law_1451 : decode cL_law 1451 = .ok (.ifCond .ne 14, 3) := dk_154 0 14 (dk_at dksL_law_51 12 rfl rfl)
theorem dL_law_1454 : decode cL_law 1454 = .ok (.aload_n 3, 1) := dk_45 (dk_at dksL_law_51 15 rfl rfl)
theorem dL_law_1455 : decode cL_law 1455 = .ok (.iconst 0, 1) := dk_3 (dk_at dksL_law_51 16 rfl rfl)
theorem dL_law_1456 : decode cL_law 1456 = .ok (.laload, 1) := dk_47 (dk_at dksL_law_51 17 rfl rfl)
theorem dL_law_1457 : decode cL_law 1457 = .ok (.lload 7, 2) := dk_22 7 (dk_at dksL_law_51 18 rfl rfl)
theorem dL_law_1459 : decode cL_law 1459 = .ok (.lcmp, 1) := dk_148 (dk_at dksL_law_51 20 rfl rfl)
theorem dL_law_1460 : decode cL_law 1460 = .ok (.ifCond .eq 5, 3) := dk_153 0 5 (dk_at dksL_law_51 21 rfl rfl)
theorem dL_law_1463 : decode cL_law 1463 = .ok (.iconst 0, 1) := dk_3 (dk_at dksL_law_52 0 rfl rfl)
theorem dL_law_1464 : decode cL_law 1464 = .ok (.ireturn, 1) := dk_172 (dk_at dksL_law_52 1 rfl rfl)
theorem dL_law_1465 : decode cL_law 1465 = .ok (.goto 2249, 3) := dk_167 8 201 (dk_at dksL_law_52 2 rfl rfl)
theorem dL_law_1468 : decode cL_law 1468 = .ok (.aload_n 1, 1) := dk_43 (dk_at dksL_law_52 5 rfl rfl)
theorem dL_law_1469 : decode cL_law 1469 = .ok (.aload_n 0, 1) := dk_42 (dk_at dksL_law_52 6 rfl rfl)
theorem dL_law_1470 : decode cL_law 1470 = .ok (.iload 5, 2) := dk_21 5 (dk_at dksL_law_52 7 rfl rfl)
theorem dL_law_1472 : decode cL_law 1472 = .ok (.iconst 1, 1) := dk_4 (dk_at dksL_law_52 9 rfl rfl)
theorem dL_law_1473 : decode cL_law 1473 = .ok (.iadd, 1) := dk_96 (dk_at dksL_law_52 10 rfl rfl)
theorem dL_law_1474 : decode cL_law 1474 = .ok (.iaload, 1) := dk_46 (dk_at dksL_law_52 11 rfl rfl)
theorem dL_law_1475 : decode cL_law 1475 = .ok (.aload_n 3, 1) := dk_45 (dk_at dksL_law_52 12 rfl rfl)
theorem dL_law_1476 : decode cL_law 1476 = .ok (.invokestatic 259, 3) := dk_184 1 3 (dk_at dksL_law_52 13 rfl rfl)
theorem dL_law_1479 : decode cL_law 1479 = .ok (.istore 6, 2) := dk_54 6 (dk_at dksL_law_52 16 rfl rfl)
theorem dL_law_1481 : decode cL_law 1481 = .ok (.aload_n 2, 1) := dk_44 (dk_at dksL_law_52 18 rfl rfl)
theorem dL_law_1482 : decode cL_law 1482 = .ok (.aload_n 0, 1) := dk_42 (dk_at dksL_law_52 19 rfl rfl)
theorem dL_law_1483 : decode cL_law 1483 = .ok (.iload 5, 2) := dk_21 5 (dk_at dksL_law_52 20 rfl rfl)
theorem dL_law_1485 : decode cL_law 1485 = .ok (.iconst 1, 1) := dk_4 (dk_at dksL_law_52 22 rfl rfl)
theorem dL_law_1486 : decode cL_law 1486 = .ok (.iadd, 1) := dk_96 (dk_at dksL_law_52 23 rfl rfl)
theorem dL_law_1487 : decode cL_law 1487 = .ok (.iaload, 1) := dk_46 (dk_at dksL_law_53 0 rfl rfl)
theorem dL_law_1488 : decode cL_law 1488 = .ok (.invokevirtual 261, 3) := dk_182 1 5 (dk_at dksL_law_53 1 rfl rfl)
theorem dL_law_1491 : decode cL_law 1491 = .ok (.istore 7, 2) := dk_54 7 (dk_at dksL_law_53 4 rfl rfl)
theorem dL_law_1493 : decode cL_law 1493 = .ok (.aload_n 2, 1) := dk_44 (dk_at dksL_law_53 6 rfl rfl)
theorem dL_law_1494 : decode cL_law 1494 = .ok (.invokevirtual 191, 3) := dk_182 0 191 (dk_at dksL_law_53 7 rfl rfl)
theorem dL_law_1497 : decode cL_law 1497 = .ok (.iload 6, 2) := dk_21 6 (dk_at dksL_law_53 10 rfl rfl)
theorem dL_law_1499 : decode cL_law 1499 = .ok (.if_icmp .eq 5, 3) := dk_159 0 5 (dk_at dksL_law_53 12 rfl rfl)
theorem dL_law_1502 : decode cL_law 1502 = .ok (.iconst 0, 1) := dk_3 (dk_at dksL_law_53 15 rfl rfl)
theorem dL_law_1503 : decode cL_law 1503 = .ok (.ireturn, 1) := dk_172 (dk_at dksL_law_53 16 rfl rfl)
theorem dL_law_1504 : decode cL_law 1504 = .ok (.iload 6, 2) := dk_21 6 (dk_at dksL_law_53 17 rfl rfl)
theorem dL_law_1506 : decode cL_law 1506 = .ok (.ifCond .ne 22, 3) := dk_154 0 22 (dk_at dksL_law_53 19 rfl rfl)
theorem dL_law_1509 : decode cL_law 1509 = .ok (.aload_n 3, 1) := dk_45 (dk_at dksL_law_53 22 rfl rfl)
theorem dL_law_1510 : decode cL_law 1510 = .ok (.iconst 0, 1) := dk_3 (dk_at dksL_law_53 23 rfl rfl)
theorem dL_law_1511 : decode cL_law 1511 = .ok (.laload, 1) := dk_47 (dk_at dksL_law_54 0 rfl rfl)
theorem dL_law_1512 : decode cL_law 1512 = .ok (.iload 7, 2) := dk_21 7 (dk_at dksL_law_54 1 rfl rfl)
theorem dL_law_1514 : decode cL_law 1514 = .ok (.ifCond .eq 7, 3) := dk_153 0 7 (dk_at dksL_law_54 3 rfl rfl)
theorem dL_law_1517 : decode cL_law 1517 = .ok (.lconst 1, 1) := dk_10 (dk_at dksL_law_54 6 rfl rfl)
theorem dL_law_1518 : decode cL_law 1518 = .ok (.goto 4, 3) := dk_167 0 4 (dk_at dksL_law_54 7 rfl rfl)
theorem dL_law_1521 : decode cL_law 1521 = .ok (.lconst 0, 1) := dk_9 (dk_at dksL_law_54 10 rfl rfl)
theorem dL_law_1522 : decode cL_law 1522 = .ok (.lcmp, 1) := dk_148 (dk_at dksL_law_54 11 rfl rfl)
theorem dL_law_1523 : decode cL_law 1523 = .ok (.ifCond .eq 5, 3) := dk_153 0 5 (dk_at dksL_law_54 12 rfl rfl)
theorem dL_law_1526 : decode cL_law 1526 = .ok (.iconst 0, 1) := dk_3 (dk_at dksL_law_54 15 rfl rfl)
theorem dL_law_1527 : decode cL_law 1527 = .ok (.ireturn, 1) := dk_172 (dk_at dksL_law_54 16 rfl rfl)
theorem dL_law_1528 : decode cL_law 1528 = .ok (.goto 2186, 3) := dk_167 8 138 (dk_at dksL_law_54 17 rfl rfl)
theorem dL_law_1531 : decode cL_law 1531 = .ok (.aload_n 1, 1) := dk_43 (dk_at dksL_law_54 20 rfl rfl)
theorem dL_law_1532 : decode cL_law 1532 = .ok (.aload_n 0, 1) := dk_42 (dk_at dksL_law_54 21 rfl rfl)
theorem dL_law_1533 : decode cL_law 1533 = .ok (.iload 5, 2) := dk_21 5 (dk_at dksL_law_54 22 rfl rfl)
theorem dL_law_1535 : decode cL_law 1535 = .ok (.iconst 1, 1) := dk_4 (dk_at dksL_law_55 0 rfl rfl)
theorem dL_law_1536 : decode cL_law 1536 = .ok (.iadd, 1) := dk_96 (dk_at dksL_law_55 1 rfl rfl)
theorem dL_law_1537 : decode cL_law 1537 = .ok (.iaload, 1) := dk_46 (dk_at dksL_law_55 2 rfl rfl)
theorem dL_law_1538 : decode cL_law 1538 = .ok (.aload_n 3, 1) := dk_45 (dk_at dksL_law_55 3 rfl rfl)
theorem dL_law_1539 : decode cL_law 1539 = .ok (.invokestatic 262, 3) := dk_184 1 6 (dk_at dksL_law_55 4 rfl rfl)
theorem dL_law_1542 : decode cL_law 1542 = .ok (.istore 6, 2) := dk_54 6 (dk_at dksL_law_55 7 rfl rfl)
theorem dL_law_1544 : decode cL_law 1544 = .ok (.aload_n 2, 1) := dk_44 (dk_at dksL_law_55 9 rfl rfl)
theorem dL_law_1545 : decode cL_law 1545 = .ok (.aload_n 0, 1) := dk_42 (dk_at dksL_law_55 10 rfl rfl)
theorem dL_law_1546 : decode cL_law 1546 = .ok (.iload 5, 2) := dk_21 5 (dk_at dksL_law_55 11 rfl rfl)
theorem dL_law_1548 : decode cL_law 1548 = .ok (.iconst 1, 1) := dk_4 (dk_at dksL_law_55 13 rfl rfl)
theorem dL_law_1549 : decode cL_law 1549 = .ok (.iadd, 1) := dk_96 (dk_at dksL_law_55 14 rfl rfl)
theorem dL_law_1550 : decode cL_law 1550 = .ok (.iaload, 1) := dk_46 (dk_at dksL_law_55 15 rfl rfl)
theorem dL_law_1551 : decode cL_law 1551 = .ok (.invokevirtual 264, 3) := dk_182 1 8 (dk_at dksL_law_55 16 rfl rfl)
theorem dL_law_1554 : decode cL_law 1554 = .ok (.lstore 7, 2) := dk_55 7 (dk_at dksL_law_55 19 rfl rfl)
theorem dL_law_1556 : decode cL_law 1556 = .ok (.aload_n 2, 1) := dk_44 (dk_at dksL_law_55 21 rfl rfl)
theorem dL_law_1557 : decode cL_law 1557 = .ok (.invokevirtual 191, 3) := dk_182 0 191 (dk_at dksL_law_56 0 rfl rfl)
theorem dL_law_1560 : decode cL_law 1560 = .ok (.iload 6, 2) := dk_21 6 (dk_at dksL_law_56 3 rfl rfl)
theorem dL_law_1562 : decode cL_law 1562 = .ok (.if_icmp .eq 5, 3) := dk_159 0 5 (dk_at dksL_law_56 5 rfl rfl)
theorem dL_law_1565 : decode cL_law 1565 = .ok (.iconst 0, 1) := dk_3 (dk_at dksL_law_56 8 rfl rfl)
theorem dL_law_1566 : decode cL_law 1566 = .ok (.ireturn, 1) := dk_172 (dk_at dksL_law_56 9 rfl rfl)
theorem dL_law_1567 : decode cL_law 1567 = .ok (.iload 6, 2) := dk_21 6 (dk_at dksL_law_56 10 rfl rfl)
theorem dL_law_1569 : decode cL_law 1569 = .ok (.ifCond .ne 14, 3) := dk_154 0 14 (dk_at dksL_law_56 12 rfl rfl)
theorem dL_law_1572 : decode cL_law 1572 = .ok (.aload_n 3, 1) := dk_45 (dk_at dksL_law_56 15 rfl rfl)
theorem dL_law_1573 : decode cL_law 1573 = .ok (.iconst 0, 1) := dk_3 (dk_at dksL_law_56 16 rfl rfl)
theorem dL_law_1574 : decode cL_law 1574 = .ok (.laload, 1) := dk_47 (dk_at dksL_law_56 17 rfl rfl)
theorem dL_law_1575 : decode cL_law 1575 = .ok (.lload 7, 2) := dk_22 7 (dk_at dksL_law_56 18 rfl rfl)
theorem dL_law_1577 : decode cL_law 1577 = .ok (.lcmp, 1) := dk_148 (dk_at dksL_law_56 20 rfl rfl)
theorem dL_law_1578 : decode cL_law 1578 = .ok (.ifCond .eq 5, 3) := dk_153 0 5 (dk_at dksL_law_56 21 rfl rfl)
theorem dL_law_1581 : decode cL_law 1581 = .ok (.iconst 0, 1) := dk_3 (dk_at dksL_law_57 0 rfl rfl)
theorem dL_law_1582 : decode cL_law 1582 = .ok (.ireturn, 1) := dk_172 (dk_at dksL_law_57 1 rfl rfl)
theorem dL_law_1583 : decode cL_law 1583 = .ok (.goto 2131, 3) := dk_167 8 83 (dk_at dksL_law_57 2 rfl rfl)
theorem dL_law_1586 : decode cL_law 1586 = .ok (.aload_n 1, 1) := dk_43 (dk_at dksL_law_57 5 rfl rfl)
theorem dL_law_1587 : decode cL_law 1587 = .ok (.aload_n 0, 1) := dk_42 (dk_at dksL_law_57 6 rfl rfl)
theorem dL_law_1588 : decode cL_law 1588 = .ok (.iload 5, 2) := dk_21 5 (dk_at dksL_law_57 7 rfl rfl)
theorem dL_law_1590 : decode cL_law 1590 = .ok (.iconst 1, 1) := dk_4 (dk_at dksL_law_57 9 rfl rfl)
theorem dL_law_1591 : decode cL_law 1591 = .ok (.iadd, 1) := dk_96 (dk_at dksL_law_57 10 rfl rfl)
theorem dL_law_1592 : decode cL_law 1592 = .ok (.iaload, 1) := dk_46 (dk_at dksL_law_57 11 rfl rfl)
theorem dL_law_1593 : decode cL_law 1593 = .ok (.aload_n 0, 1) := dk_42 (dk_at dksL_law_57 12 rfl rfl)
theorem dL_law_1594 : decode cL_law 1594 = .ok (.iload 5, 2) := dk_21 5 (dk_at dksL_law_57 13 rfl rfl)
theorem dL_law_1596 : decode cL_law 1596 = .ok (.iconst 2, 1) := dk_5 (dk_at dksL_law_57 15 rfl rfl)
theorem dL_law_1597 : decode cL_law 1597 = .ok (.iadd, 1) := dk_96 (dk_at dksL_law_57 16 rfl rfl)
theorem dL_law_1598 : decode cL_law 1598 = .ok (.iaload, 1) := dk_46 (dk_at dksL_law_57 17 rfl rfl)
theorem dL_law_1599 : decode cL_law 1599 = .ok (.ifCond .eq 7, 3) := dk_153 0 7 (dk_at dksL_law_57 18 rfl rfl)
theorem dL_law_1602 : decode cL_law 1602 = .ok (.iconst 1, 1) := dk_4 (dk_at dksL_law_57 21 rfl rfl)
theorem dL_law_1603 : decode cL_law 1603 = .ok (.goto 4, 3) := dk_167 0 4 (dk_at dksL_law_58 0 rfl rfl)
theorem dL_law_1606 : decode cL_law 1606 = .ok (.iconst 0, 1) := dk_3 (dk_at dksL_law_58 3 rfl rfl)
theorem dL_law_1607 : decode cL_law 1607 = .ok (.aload_n 3, 1) := dk_45 (dk_at dksL_law_58 4 rfl rfl)
theorem dL_law_1608 : decode cL_law 1608 = .ok (.invokestatic 265, 3) := dk_184 1 9 (dk_at dksL_law_58 5 rfl rfl)
theorem dL_law_1611 : decode cL_law 1611 = .ok (.istore 6, 2) := dk_54 6 (dk_at dksL_law_58 8 rfl rfl)
theorem dL_law_1613 : decode cL_law 1613 = .ok (.aload_n 2, 1) := dk_44 (dk_at dksL_law_58 10 rfl rfl)
theorem dL_law_1614 : decode cL_law 1614 = .ok (.aload_n 0, 1) := dk_42 (dk_at dksL_law_58 11 rfl rfl)
theorem dL_law_1615 : decode cL_law 1615 = .ok (.iload 5, 2) := dk_21 5 (dk_at dksL_law_58 12 rfl rfl)
theorem dL_law_1617 : decode cL_law 1617 = .ok (.iconst 1, 1) := dk_4 (dk_at dksL_law_58 14 rfl rfl)
theorem dL_law_1618 : decode cL_law 1618 = .ok (.iadd, 1) := dk_96 (dk_at dksL_law_58 15 rfl rfl)
theorem dL_law_1619 : decode cL_law 1619 = .ok (.iaload, 1) := dk_46 (dk_at dksL_law_58 16 rfl rfl)
theorem dL_law_1620 : decode cL_law 1620 = .ok (.aload_n 0, 1) := dk_42 (dk_at dksL_law_58 17 rfl rfl)
theorem dL_law_1621 : decode cL_law 1621 = .ok (.iload 5, 2) := dk_21 5 (dk_at dksL_law_58 18 rfl rfl)
theorem dL_law_1623 : decode cL_law 1623 = .ok (.iconst 2, 1) := dk_5 (dk_at dksL_law_58 20 rfl rfl)
theorem dL_law_1624 : decode cL_law 1624 = .ok (.iadd, 1) := dk_96 (dk_at dksL_law_58 21 rfl rfl)
theorem dL_law_1625 : decode cL_law 1625 = .ok (.iaload, 1) := dk_46 (dk_at dksL_law_58 22 rfl rfl)
theorem dL_law_1626 : decode cL_law 1626 = .ok (.ifCond .eq 7, 3) := dk_153 0 7 (dk_at dksL_law_59 0 rfl rfl)
theorem dL_law_1629 : decode cL_law 1629 = .ok (.iconst 1, 1) := dk_4 (dk_at dksL_law_59 3 rfl rfl)
theorem dL_law_1630 : decode cL_law 1630 = .ok (.goto 4, 3) := dk_167 0 4 (dk_at dksL_law_59 4 rfl rfl)
theorem dL_law_1633 : decode cL_law 1633 = .ok (.iconst 0, 1) := dk_3 (dk_at dksL_law_59 7 rfl rfl)
theorem dL_law_1634 : decode cL_law 1634 = .ok (.invokevirtual 268, 3) := dk_182 1 12 (dk_at dksL_law_59 8 rfl rfl)
theorem dL_law_1637 : decode cL_law 1637 = .ok (.istore 7, 2) := dk_54 7 (dk_at dksL_law_59 11 rfl rfl)
theorem dL_law_1639 : decode cL_law 1639 = .ok (.aload_n 2, 1) := dk_44 (dk_at dksL_law_59 13 rfl rfl)
theorem dL_law_1640 : decode cL_law 1640 = .ok (.invokevirtual 191, 3) := dk_182 0 191 (dk_at dksL_law_59 14 rfl rfl)
theorem dL_law_1643 : decode cL_law 1643 = .ok (.iload 6, 2) := dk_21 6 (dk_at dksL_law_59 17 rfl rfl)
theorem dL_law_1645 : decode cL_law 1645 = .ok (.if_icmp .eq 5, 3) := dk_159 0 5 (dk_at dksL_law_59 19 rfl rfl)
theorem dL_law_1648 : decode cL_law 1648 = .ok (.iconst 0, 1) := dk_3 (dk_at dksL_law_59 22 rfl rfl)
theorem dL_law_1649 : decode cL_law 1649 = .ok (.ireturn, 1) := dk_172 (dk_at dksL_law_59 23 rfl rfl)
theorem dL_law_1650 : decode cL_law 1650 = .ok (.iload 6, 2) := dk_21 6 (dk_at dksL_law_60 0 rfl rfl)
theorem dL_law_1652 : decode cL_law 1652 = .ok (.ifCond .ne 15, 3) := dk_154 0 15 (dk_at dksL_law_60 2 rfl rfl)
theorem dL_law_1655 : decode cL_law 1655 = .ok (.aload_n 3, 1) := dk_45 (dk_at dksL_law_60 5 rfl rfl)
theorem dL_law_1656 : decode cL_law 1656 = .ok (.iconst 0, 1) := dk_3 (dk_at dksL_law_60 6 rfl rfl)
theorem dL_law_1657 : decode cL_law 1657 = .ok (.laload, 1) := dk_47 (dk_at dksL_law_60 7 rfl rfl)
theorem dL_law_1658 : decode cL_law 1658 = .ok (.iload 7, 2) := dk_21 7 (dk_at dksL_law_60 8 rfl rfl)
theorem dL_law_1660 : decode cL_law 1660 = .ok (.i2l, 1) := dk_133 (dk_at dksL_law_60 10 rfl rfl)
theorem dL_law_1661 : decode cL_law 1661 = .ok (.lcmp, 1) := dk_148 (dk_at dksL_law_60 11 rfl rfl)
theorem dL_law_1662 : decode cL_law 1662 = .ok (.ifCond .eq 5, 3) := dk_153 0 5 (dk_at dksL_law_60 12 rfl rfl)
theorem dL_law_1665 : decode cL_law 1665 = .ok (.iconst 0, 1) := dk_3 (dk_at dksL_law_60 15 rfl rfl)
theorem dL_law_1666 : decode cL_law 1666 = .ok (.ireturn, 1) := dk_172 (dk_at dksL_law_60 16 rfl rfl)
theorem dL_law_1667 : decode cL_law 1667 = .ok (.goto 2047, 3) := dk_167 7 255 (dk_at dksL_law_60 17 rfl rfl)
theorem dL_law_1670 : decode cL_law 1670 = .ok (.aload_n 1, 1) := dk_43 (dk_at dksL_law_60 20 rfl rfl)
theorem dL_law_1671 : decode cL_law 1671 = .ok (.aload_n 0, 1) := dk_42 (dk_at dksL_law_60 21 rfl rfl)
theorem dL_law_1672 : decode cL_law 1672 = .ok (.iload 5, 2) := dk_21 5 (dk_at dksL_law_60 22 rfl rfl)
theorem dL_law_1674 : decode cL_law 1674 = .ok (.iconst 1, 1) := dk_4 (dk_at dksL_law_61 0 rfl rfl)
theorem dL_law_1675 : decode cL_law 1675 = .ok (.iadd, 1) := dk_96 (dk_at dksL_law_61 1 rfl rfl)
theorem dL_law_1676 : decode cL_law 1676 = .ok (.iaload, 1) := dk_46 (dk_at dksL_law_61 2 rfl rfl)
theorem dL_law_1677 : decode cL_law 1677 = .ok (.aload_n 3, 1) := dk_45 (dk_at dksL_law_61 3 rfl rfl)
theorem dL_law_1678 : decode cL_law 1678 = .ok (.invokestatic 269, 3) := dk_184 1 13 (dk_at dksL_law_61 4 rfl rfl)
theorem dL_law_1681 : decode cL_law 1681 = .ok (.istore 6, 2) := dk_54 6 (dk_at dksL_law_61 7 rfl rfl)
theorem dL_law_1683 : decode cL_law 1683 = .ok (.aload_n 2, 1) := dk_44 (dk_at dksL_law_61 9 rfl rfl)
theorem dL_law_1684 : decode cL_law 1684 = .ok (.aload_n 0, 1) := dk_42 (dk_at dksL_law_61 10 rfl rfl)
theorem dL_law_1685 : decode cL_law 1685 = .ok (.iload 5, 2) := dk_21 5 (dk_at dksL_law_61 11 rfl rfl)
theorem dL_law_1687 : decode cL_law 1687 = .ok (.iconst 1, 1) := dk_4 (dk_at dksL_law_61 13 rfl rfl)
theorem dL_law_1688 : decode cL_law 1688 = .ok (.iadd, 1) := dk_96 (dk_at dksL_law_61 14 rfl rfl)
theorem dL_law_1689 : decode cL_law 1689 = .ok (.iaload, 1) := dk_46 (dk_at dksL_law_61 15 rfl rfl)
theorem dL_law_1690 : decode cL_law 1690 = .ok (.invokevirtual 271, 3) := dk_182 1 15 (dk_at dksL_law_61 16 rfl rfl)
theorem dL_law_1693 : decode cL_law 1693 = .ok (.istore 7, 2) := dk_54 7 (dk_at dksL_law_61 19 rfl rfl)
theorem dL_law_1695 : decode cL_law 1695 = .ok (.aload_n 2, 1) := dk_44 (dk_at dksL_law_61 21 rfl rfl)
theorem dL_law_1696 : decode cL_law 1696 = .ok (.invokevirtual 191, 3) := dk_182 0 191 (dk_at dksL_law_62 0 rfl rfl)
theorem dL_law_1699 : decode cL_law 1699 = .ok (.iload 6, 2) := dk_21 6 (dk_at dksL_law_62 3 rfl rfl)
theorem dL_law_1701 : decode cL_law 1701 = .ok (.if_icmp .eq 5, 3) := dk_159 0 5 (dk_at dksL_law_62 5 rfl rfl)
theorem dL_law_1704 : decode cL_law 1704 = .ok (.iconst 0, 1) := dk_3 (dk_at dksL_law_62 8 rfl rfl)
theorem dL_law_1705 : decode cL_law 1705 = .ok (.ireturn, 1) := dk_172 (dk_at dksL_law_62 9 rfl rfl)
theorem dL_law_1706 : decode cL_law 1706 = .ok (.iload 6, 2) := dk_21 6 (dk_at dksL_law_62 10 rfl rfl)
theorem dL_law_1708 : decode cL_law 1708 = .ok (.ifCond .ne 15, 3) := dk_154 0 15 (dk_at dksL_law_62 12 rfl rfl)
theorem dL_law_1711 : decode cL_law 1711 = .ok (.aload_n 3, 1) := dk_45 (dk_at dksL_law_62 15 rfl rfl)
theorem dL_law_1712 : decode cL_law 1712 = .ok (.iconst 0, 1) := dk_3 (dk_at dksL_law_62 16 rfl rfl)
theorem dL_law_1713 : decode cL_law 1713 = .ok (.laload, 1) := dk_47 (dk_at dksL_law_62 17 rfl rfl)
theorem dL_law_1714 : decode cL_law 1714 = .ok (.iload 7, 2) := dk_21 7 (dk_at dksL_law_62 18 rfl rfl)
theorem dL_law_1716 : decode cL_law 1716 = .ok (.i2l, 1) := dk_133 (dk_at dksL_law_62 20 rfl rfl)
theorem dL_law_1717 : decode cL_law 1717 = .ok (.lcmp, 1) := dk_148 (dk_at dksL_law_62 21 rfl rfl)
theorem dL_law_1718 : decode cL_law 1718 = .ok (.ifCond .eq 5, 3) := dk_153 0 5 (dk_at dksL_law_63 0 rfl rfl)
theorem dL_law_1721 : decode cL_law 1721 = .ok (.iconst 0, 1) := dk_3 (dk_at dksL_law_63 3 rfl rfl)
theorem dL_law_1722 : decode cL_law 1722 = .ok (.ireturn, 1) := dk_172 (dk_at dksL_law_63 4 rfl rfl)
theorem dL_law_1723 : decode cL_law 1723 = .ok (.goto 1991, 3) := dk_167 7 199 (dk_at dksL_law_63 5 rfl rfl)
theorem dL_law_1726 : decode cL_law 1726 = .ok (.aload_n 1, 1) := dk_43 (dk_at dksL_law_63 8 rfl rfl)
theorem dL_law_1727 : decode cL_law 1727 = .ok (.aload_n 0, 1) := dk_42 (dk_at dksL_law_63 9 rfl rfl)
theorem dL_law_1728 : decode cL_law 1728 = .ok (.iload 5, 2) := dk_21 5 (dk_at dksL_law_63 10 rfl rfl)
theorem dL_law_1730 : decode cL_law 1730 = .ok (.iconst 1, 1) := dk_4 (dk_at dksL_law_63 12 rfl rfl)
theorem dL_law_1731 : decode cL_law 1731 = .ok (.iadd, 1) := dk_96 (dk_at dksL_law_63 13 rfl rfl)
theorem dL_law_1732 : decode cL_law 1732 = .ok (.iaload, 1) := dk_46 (dk_at dksL_law_63 14 rfl rfl)
theorem dL_law_1733 : decode cL_law 1733 = .ok (.aload_n 3, 1) := dk_45 (dk_at dksL_law_63 15 rfl rfl)
theorem dL_law_1734 : decode cL_law 1734 = .ok (.invokestatic 272, 3) := dk_184 1 16 (dk_at dksL_law_63 16 rfl rfl)
theorem dL_law_1737 : decode cL_law 1737 = .ok (.istore 6, 2) := dk_54 6 (dk_at dksL_law_63 19 rfl rfl)
theorem dL_law_1739 : decode cL_law 1739 = .ok (.aload_n 2, 1) := dk_44 (dk_at dksL_law_63 21 rfl rfl)
theorem dL_law_1740 : decode cL_law 1740 = .ok (.aload_n 0, 1) := dk_42 (dk_at dksL_law_63 22 rfl rfl)
theorem dL_law_1741 : decode cL_law 1741 = .ok (.iload 5, 2) := dk_21 5 (dk_at dksL_law_64 0 rfl rfl)
theorem dL_law_1743 : decode cL_law 1743 = .ok (.iconst 1, 1) := dk_4 (dk_at dksL_law_64 2 rfl rfl)
theorem dL_law_1744 : decode cL_law 1744 = .ok (.iadd, 1) := dk_96 (dk_at dksL_law_64 3 rfl rfl)
theorem dL_law_1745 : decode cL_law 1745 = .ok (.iaload, 1) := dk_46 (dk_at dksL_law_64 4 rfl rfl)
theorem dL_law_1746 : decode cL_law 1746 = .ok (.invokevirtual 274, 3) := dk_182 1 18 (dk_at dksL_law_64 5 rfl rfl)
theorem dL_law_1749 : decode cL_law 1749 = .ok (.istore 7, 2) := dk_54 7 (dk_at dksL_law_64 8 rfl rfl)
theorem dL_law_1751 : decode cL_law 1751 = .ok (.aload_n 2, 1) := dk_44 (dk_at dksL_law_64 10 rfl rfl)
theorem dL_law_1752 : decode cL_law 1752 = .ok (.invokevirtual 191, 3) := dk_182 0 191 (dk_at dksL_law_64 11 rfl rfl)
theorem dL_law_1755 : decode cL_law 1755 = .ok (.iload 6, 2) := dk_21 6 (dk_at dksL_law_64 14 rfl rfl)
theorem dL_law_1757 : decode cL_law 1757 = .ok (.if_icmp .eq 5, 3) := dk_159 0 5 (dk_at dksL_law_64 16 rfl rfl)
theorem dL_law_1760 : decode cL_law 1760 = .ok (.iconst 0, 1) := dk_3 (dk_at dksL_law_64 19 rfl rfl)
theorem dL_law_1761 : decode cL_law 1761 = .ok (.ireturn, 1) := dk_172 (dk_at dksL_law_64 20 rfl rfl)
theorem dL_law_1762 : decode cL_law 1762 = .ok (.iload 6, 2) := dk_21 6 (dk_at dksL_law_64 21 rfl rfl)
theorem dL_law_1764 : decode cL_law 1764 = .ok (.ifCond .ne 15, 3) := dk_154 0 15 (dk_at dksL_law_65 0 rfl rfl)
theorem dL_law_1767 : decode cL_law 1767 = .ok (.aload_n 3, 1) := dk_45 (dk_at dksL_law_65 3 rfl rfl)
theorem dL_law_1768 : decode cL_law 1768 = .ok (.iconst 0, 1) := dk_3 (dk_at dksL_law_65 4 rfl rfl)
theorem dL_law_1769 : decode cL_law 1769 = .ok (.laload, 1) := dk_47 (dk_at dksL_law_65 5 rfl rfl)
theorem dL_law_1770 : decode cL_law 1770 = .ok (.iload 7, 2) := dk_21 7 (dk_at dksL_law_65 6 rfl rfl)
theorem dL_law_1772 : decode cL_law 1772 = .ok (.i2l, 1) := dk_133 (dk_at dksL_law_65 8 rfl rfl)
theorem dL_law_1773 : decode cL_law 1773 = .ok (.lcmp, 1) := dk_148 (dk_at dksL_law_65 9 rfl rfl)
theorem dL_law_1774 : decode cL_law 1774 = .ok (.ifCond .eq 5, 3) := dk_153 0 5 (dk_at dksL_law_65 10 rfl rfl)
theorem dL_law_1777 : decode cL_law 1777 = .ok (.iconst 0, 1) := dk_3 (dk_at dksL_law_65 13 rfl rfl)
theorem dL_law_1778 : decode cL_law 1778 = .ok (.ireturn, 1) := dk_172 (dk_at dksL_law_65 14 rfl rfl)
theorem dL_law_1779 : decode cL_law 1779 = .ok (.goto 1935, 3) := dk_167 7 143 (dk_at dksL_law_65 15 rfl rfl)
theorem dL_law_1782 : decode cL_law 1782 = .ok (.aload_n 1, 1) := dk_43 (dk_at dksL_law_65 18 rfl rfl)
theorem dL_law_1783 : decode cL_law 1783 = .ok (.aload_n 0, 1) := dk_42 (dk_at dksL_law_65 19 rfl rfl)
theorem dL_law_1784 : decode cL_law 1784 = .ok (.iload 5, 2) := dk_21 5 (dk_at dksL_law_65 20 rfl rfl)
theorem dL_law_1786 : decode cL_law 1786 = .ok (.iconst 1, 1) := dk_4 (dk_at dksL_law_65 22 rfl rfl)
theorem dL_law_1787 : decode cL_law 1787 = .ok (.iadd, 1) := dk_96 (dk_at dksL_law_65 23 rfl rfl)
theorem dL_law_1788 : decode cL_law 1788 = .ok (.iaload, 1) := dk_46 (dk_at dksL_law_66 0 rfl rfl)
theorem dL_law_1789 : decode cL_law 1789 = .ok (.aload_n 3, 1) := dk_45 (dk_at dksL_law_66 1 rfl rfl)
theorem dL_law_1790 : decode cL_law 1790 = .ok (.invokestatic 275, 3) := dk_184 1 19 (dk_at dksL_law_66 2 rfl rfl)
theorem dL_law_1793 : decode cL_law 1793 = .ok (.istore 6, 2) := dk_54 6 (dk_at dksL_law_66 5 rfl rfl)
theorem dL_law_1795 : decode cL_law 1795 = .ok (.aload_n 2, 1) := dk_44 (dk_at dksL_law_66 7 rfl rfl)
theorem dL_law_1796 : decode cL_law 1796 = .ok (.aload_n 0, 1) := dk_42 (dk_at dksL_law_66 8 rfl rfl)
theorem dL_law_1797 : decode cL_law 1797 = .ok (.iload 5, 2) := dk_21 5 (dk_at dksL_law_66 9 rfl rfl)
theorem dL_law_1799 : decode cL_law 1799 = .ok (.iconst 1, 1) := dk_4 (dk_at dksL_law_66 11 rfl rfl)
theorem dL_law_1800 : decode cL_law 1800 = .ok (.iadd, 1) := dk_96 (dk_at dksL_law_66 12 rfl rfl)
theorem dL_law_1801 : decode cL_law 1801 = .ok (.iaload, 1) := dk_46 (dk_at dksL_law_66 13 rfl rfl)
theorem dL_law_1802 : decode cL_law 1802 = .ok (.invokevirtual 277, 3) := dk_182 1 21 (dk_at dksL_law_66 14 rfl rfl)
theorem dL_law_1805 : decode cL_law 1805 = .ok (.istore 7, 2) := dk_54 7 (dk_at dksL_law_66 17 rfl rfl)
theorem dL_law_1807 : decode cL_law 1807 = .ok (.aload_n 2, 1) := dk_44 (dk_at dksL_law_66 19 rfl rfl)
theorem dL_law_1808 : decode cL_law 1808 = .ok (.invokevirtual 191, 3) := dk_182 0 191 (dk_at dksL_law_66 20 rfl rfl)
theorem dL_law_1811 : decode cL_law 1811 = .ok (.iload 6, 2) := dk_21 6 (dk_at dksL_law_67 0 rfl rfl)
theorem dL_law_1813 : decode cL_law 1813 = .ok (.if_icmp .eq 5, 3) := dk_159 0 5 (dk_at dksL_law_67 2 rfl rfl)
theorem dL_law_1816 : decode cL_law 1816 = .ok (.iconst 0, 1) := dk_3 (dk_at dksL_law_67 5 rfl rfl)
theorem dL_law_1817 : decode cL_law 1817 = .ok (.ireturn, 1) := dk_172 (dk_at dksL_law_67 6 rfl rfl)
theorem dL_law_1818 : decode cL_law 1818 = .ok (.iload 6, 2) := dk_21 6 (dk_at dksL_law_67 7 rfl rfl)
theorem dL_law_1820 : decode cL_law 1820 = .ok (.ifCond .ne 22, 3) := dk_154 0 22 (dk_at dksL_law_67 9 rfl rfl)
theorem dL_law_1823 : decode cL_law 1823 = .ok (.aload_n 3, 1) := dk_45 (dk_at dksL_law_67 12 rfl rfl)
theorem dL_law_1824 : decode cL_law 1824 = .ok (.iconst 0, 1) := dk_3 (dk_at dksL_law_67 13 rfl rfl)
theorem dL_law_1825 : decode cL_law 1825 = .ok (.laload, 1) := dk_47 (dk_at dksL_law_67 14 rfl rfl)
theorem dL_law_1826 : decode cL_law 1826 = .ok (.iload 7, 2) := dk_21 7 (dk_at dksL_law_67 15 rfl rfl)
theorem dL_law_1828 : decode cL_law 1828 = .ok (.ifCond .eq 7, 3) := dk_153 0 7 (dk_at dksL_law_67 17 rfl rfl)
theorem dL_law_1831 : decode cL_law 1831 = .ok (.lconst 1, 1) := dk_10 (dk_at dksL_law_67 20 rfl rfl)
theorem dL_law_1832 : decode cL_law 1832 = .ok (.goto 4, 3) := dk_167 0 4 (dk_at dksL_law_67 21 rfl rfl)
theorem dL_law_1835 : decode cL_law 1835 = .ok (.lconst 0, 1) := dk_9 (dk_at dksL_law_68 0 rfl rfl)
theorem dL_law_1836 : decode cL_law 1836 = .ok (.lcmp, 1) := dk_148 (dk_at dksL_law_68 1 rfl rfl)
theorem dL_law_1837 : decode cL_law 1837 = .ok (.ifCond .eq 5, 3) := dk_153 0 5 (dk_at dksL_law_68 2 rfl rfl)
theorem dL_law_1840 : decode cL_law 1840 = .ok (.iconst 0, 1) := dk_3 (dk_at dksL_law_68 5 rfl rfl)
theorem dL_law_1841 : decode cL_law 1841 = .ok (.ireturn, 1) := dk_172 (dk_at dksL_law_68 6 rfl rfl)
theorem dL_law_1842 : decode cL_law 1842 = .ok (.goto 1872, 3) := dk_167 7 80 (dk_at dksL_law_68 7 rfl rfl)
theorem dL_law_1845 : decode cL_law 1845 = .ok (.aload_n 1, 1) := dk_43 (dk_at dksL_law_68 10 rfl rfl)
theorem dL_law_1846 : decode cL_law 1846 = .ok (.aload_n 0, 1) := dk_42 (dk_at dksL_law_68 11 rfl rfl)
theorem dL_law_1847 : decode cL_law 1847 = .ok (.iload 5, 2) := dk_21 5 (dk_at dksL_law_68 12 rfl rfl)
theorem dL_law_1849 : decode cL_law 1849 = .ok (.iconst 1, 1) := dk_4 (dk_at dksL_law_68 14 rfl rfl)
theorem dL_law_1850 : decode cL_law 1850 = .ok (.iadd, 1) := dk_96 (dk_at dksL_law_68 15 rfl rfl)
theorem dL_law_1851 : decode cL_law 1851 = .ok (.iaload, 1) := dk_46 (dk_at dksL_law_68 16 rfl rfl)
theorem dL_law_1852 : decode cL_law 1852 = .ok (.aload_n 3, 1) := dk_45 (dk_at dksL_law_68 17 rfl rfl)
theorem dL_law_1853 : decode cL_law 1853 = .ok (.invokestatic 278, 3) := dk_184 1 22 (dk_at dksL_law_68 18 rfl rfl)
theorem dL_law_1856 : decode cL_law 1856 = .ok (.istore 6, 2) := dk_54 6 (dk_at dksL_law_68 21 rfl rfl)
theorem dL_law_1858 : decode cL_law 1858 = .ok (.aload_n 2, 1) := dk_44 (dk_at dksL_law_68 23 rfl rfl)
theorem dL_law_1859 : decode cL_law 1859 = .ok (.aload_n 0, 1) := dk_42 (dk_at dksL_law_69 0 rfl rfl)
theorem dL_law_1860 : decode cL_law 1860 = .ok (.iload 5, 2) := dk_21 5 (dk_at dksL_law_69 1 rfl rfl)
theorem dL_law_1862 : decode cL_law 1862 = .ok (.iconst 1, 1) := dk_4 (dk_at dksL_law_69 3 rfl rfl)
theorem dL_law_1863 : decode cL_law 1863 = .ok (.iadd, 1) := dk_96 (dk_at dksL_law_69 4 rfl rfl)
theorem dL_law_1864 : decode cL_law 1864 = .ok (.iaload, 1) := dk_46 (dk_at dksL_law_69 5 rfl rfl)
theorem dL_law_1865 : decode cL_law 1865 = .ok (.invokevirtual 280, 3) := dk_182 1 24 (dk_at dksL_law_69 6 rfl rfl)
theorem dL_law_1868 : decode cL_law 1868 = .ok (.lstore 7, 2) := dk_55 7 (dk_at dksL_law_69 9 rfl rfl)
theorem dL_law_1870 : decode cL_law 1870 = .ok (.aload_n 2, 1) := dk_44 (dk_at dksL_law_69 11 rfl rfl)
theorem dL_law_1871 : decode cL_law 1871 = .ok (.invokevirtual 191, 3) := dk_182 0 191 (dk_at dksL_law_69 12 rfl rfl)
theorem dL_law_1874 : decode cL_law 1874 = .ok (.iload 6, 2) := dk_21 6 (dk_at dksL_law_69 15 rfl rfl)
theorem dL_law_1876 : decode cL_law 1876 = .ok (.if_icmp .eq 5, 3) := dk_159 0 5 (dk_at dksL_law_69 17 rfl rfl)
theorem dL_law_1879 : decode cL_law 1879 = .ok (.iconst 0, 1) := dk_3 (dk_at dksL_law_69 20 rfl rfl)
theorem dL_law_1880 : decode cL_law 1880 = .ok (.ireturn, 1) := dk_172 (dk_at dksL_law_69 21 rfl rfl)
theorem dL_law_1881 : decode cL_law 1881 = .ok (.iload 6, 2) := dk_21 6 (dk_at dksL_law_69 22 rfl rfl)
theorem dL_law_1883 : decode cL_law 1883 = .ok (.ifCond .ne 14, 3) := dk_154 0 14 (dk_at dksL_law_70 0 rfl rfl)
theorem dL_law_1886 : decode cL_law 1886 = .ok (.aload_n 3, 1) := dk_45 (dk_at dksL_law_70 3 rfl rfl)
theorem dL_law_1887 : decode cL_law 1887 = .ok (.iconst 0, 1) := dk_3 (dk_at dksL_law_70 4 rfl rfl)
theorem dL_law_1888 : decode cL_law 1888 = .ok (.laload, 1) := dk_47 (dk_at dksL_law_70 5 rfl rfl)
theorem dL_law_1889 : decode cL_law 1889 = .ok (.lload 7, 2) := dk_22 7 (dk_at dksL_law_70 6 rfl rfl)
theorem dL_law_1891 : decode cL_law 1891 = .ok (.lcmp, 1) := dk_148 (dk_at dksL_law_70 8 rfl rfl)
theorem dL_law_1892 : decode cL_law 1892 = .ok (.ifCond .eq 5, 3) := dk_153 0 5 (dk_at dksL_law_70 9 rfl rfl)
theorem dL_law_1895 : decode cL_law 1895 = .ok (.iconst 0, 1) := dk_3 (dk_at dksL_law_70 12 rfl rfl)
theorem dL_law_1896 : decode cL_law 1896 = .ok (.ireturn, 1) := dk_172 (dk_at dksL_law_70 13 rfl rfl)
theorem dL_law_1897 : decode cL_law 1897 = .ok (.goto 1817, 3) := dk_167 7 25 (dk_at dksL_law_70 14 rfl rfl)
theorem dL_law_1900 : decode cL_law 1900 = .ok (.aload_n 1, 1) := dk_43 (dk_at dksL_law_70 17 rfl rfl)
theorem dL_law_1901 : decode cL_law 1901 = .ok (.invokevirtual 281, 3) := dk_182 1 25 (dk_at dksL_law_70 18 rfl rfl)
theorem dL_law_1904 : decode cL_law 1904 = .ok (.aload_n 2, 1) := dk_44 (dk_at dksL_law_70 21 rfl rfl)
theorem dL_law_1905 : decode cL_law 1905 = .ok (.invokevirtual 284, 3) := dk_182 1 28 (dk_at dksL_law_71 0 rfl rfl)
theorem dL_law_1908 : decode cL_law 1908 = .ok (.if_icmp .eq 1806, 3) := dk_159 7 14 (dk_at dksL_law_71 3 rfl rfl)
theorem dL_law_1911 : decode cL_law 1911 = .ok (.iconst 0, 1) := dk_3 (dk_at dksL_law_71 6 rfl rfl)
theorem dL_law_1912 : decode cL_law 1912 = .ok (.ireturn, 1) := dk_172 (dk_at dksL_law_71 7 rfl rfl)
theorem dL_law_1913 : decode cL_law 1913 = .ok (.aload_n 1, 1) := dk_43 (dk_at dksL_law_71 8 rfl rfl)
theorem dL_law_1914 : decode cL_law 1914 = .ok (.invokevirtual 285, 3) := dk_182 1 29 (dk_at dksL_law_71 9 rfl rfl)
theorem dL_law_1917 : decode cL_law 1917 = .ok (.aload_n 2, 1) := dk_44 (dk_at dksL_law_71 12 rfl rfl)
theorem dL_law_1918 : decode cL_law 1918 = .ok (.invokevirtual 288, 3) := dk_182 1 32 (dk_at dksL_law_71 13 rfl rfl)
theorem dL_law_1921 : decode cL_law 1921 = .ok (.if_icmp .eq 1793, 3) := dk_159 7 1 (dk_at dksL_law_71 16 rfl rfl)
theorem dL_law_1924 : decode cL_law 1924 = .ok (.iconst 0, 1) := dk_3 (dk_at dksL_law_71 19 rfl rfl)
theorem dL_law_1925 : decode cL_law 1925 = .ok (.ireturn, 1) := dk_172 (dk_at dksL_law_71 20 rfl rfl)
theorem dL_law_1926 : decode cL_law 1926 = .ok (.aload_n 1, 1) := dk_43 (dk_at dksL_law_71 21 rfl rfl)
theorem dL_law_1927 : decode cL_law 1927 = .ok (.aload_n 0, 1) := dk_42 (dk_at dksL_law_71 22 rfl rfl)
theorem dL_law_1928 : decode cL_law 1928 = .ok (.iload 5, 2) := dk_21 5 (dk_at dksL_law_72 0 rfl rfl)
theorem dL_law_1930 : decode cL_law 1930 = .ok (.iconst 1, 1) := dk_4 (dk_at dksL_law_72 2 rfl rfl)
theorem dL_law_1931 : decode cL_law 1931 = .ok (.iadd, 1) := dk_96 (dk_at dksL_law_72 3 rfl rfl)
theorem dL_law_1932 : decode cL_law 1932 = .ok (.iaload, 1) := dk_46 (dk_at dksL_law_72 4 rfl rfl)
theorem dL_law_1933 : decode cL_law 1933 = .ok (.aload_n 3, 1) := dk_45 (dk_at dksL_law_72 5 rfl rfl)
theorem dL_law_1934 : decode cL_law 1934 = .ok (.invokestatic 289, 3) := dk_184 1 33 (dk_at dksL_law_72 6 rfl rfl)
theorem dL_law_1937 : decode cL_law 1937 = .ok (.istore 6, 2) := dk_54 6 (dk_at dksL_law_72 9 rfl rfl)
theorem dL_law_1939 : decode cL_law 1939 = .ok (.aload_n 2, 1) := dk_44 (dk_at dksL_law_72 11 rfl rfl)
theorem dL_law_1940 : decode cL_law 1940 = .ok (.aload_n 0, 1) := dk_42 (dk_at dksL_law_72 12 rfl rfl)
theorem dL_law_1941 : decode cL_law 1941 = .ok (.iload 5, 2) := dk_21 5 (dk_at dksL_law_72 13 rfl rfl)
theorem dL_law_1943 : decode cL_law 1943 = .ok (.iconst 1, 1) := dk_4 (dk_at dksL_law_72 15 rfl rfl)
theorem dL_law_1944 : decode cL_law 1944 = .ok (.iadd, 1) := dk_96 (dk_at dksL_law_72 16 rfl rfl)
theorem dL_law_1945 : decode cL_law 1945 = .ok (.iaload, 1) := dk_46 (dk_at dksL_law_72 17 rfl rfl)
theorem dL_law_1946 : decode cL_law 1946 = .ok (.invokevirtual 291, 3) := dk_182 1 35 (dk_at dksL_law_72 18 rfl rfl)
theorem dL_law_1949 : decode cL_law 1949 = .ok (.istore 7, 2) := dk_54 7 (dk_at dksL_law_72 21 rfl rfl)
theorem dL_law_1951 : decode cL_law 1951 = .ok (.aload_n 2, 1) := dk_44 (dk_at dksL_law_72 23 rfl rfl)
theorem dL_law_1952 : decode cL_law 1952 = .ok (.invokevirtual 191, 3) := dk_182 0 191 (dk_at dksL_law_73 0 rfl rfl)
theorem dL_law_1955 : decode cL_law 1955 = .ok (.iload 6, 2) := dk_21 6 (dk_at dksL_law_73 3 rfl rfl)
theorem dL_law_1957 : decode cL_law 1957 = .ok (.if_icmp .eq 5, 3) := dk_159 0 5 (dk_at dksL_law_73 5 rfl rfl)
theorem dL_law_1960 : decode cL_law 1960 = .ok (.iconst 0, 1) := dk_3 (dk_at dksL_law_73 8 rfl rfl)
theorem dL_law_1961 : decode cL_law 1961 = .ok (.ireturn, 1) := dk_172 (dk_at dksL_law_73 9 rfl rfl)
theorem dL_law_1962 : decode cL_law 1962 = .ok (.iload 6, 2) := dk_21 6 (dk_at dksL_law_73 10 rfl rfl)
theorem dL_law_1964 : decode cL_law 1964 = .ok (.ifCond .ne 15, 3) := dk_154 0 15 (dk_at dksL_law_73 12 rfl rfl)
theorem dL_law_1967 : decode cL_law 1967 = .ok (.aload_n 3, 1) := dk_45 (dk_at dksL_law_73 15 rfl rfl)
theorem dL_law_1968 : decode cL_law 1968 = .ok (.iconst 0, 1) := dk_3 (dk_at dksL_law_73 16 rfl rfl)
theorem dL_law_1969 : decode cL_law 1969 = .ok (.laload, 1) := dk_47 (dk_at dksL_law_73 17 rfl rfl)
theorem dL_law_1970 : decode cL_law 1970 = .ok (.iload 7, 2) := dk_21 7 (dk_at dksL_law_73 18 rfl rfl)
theorem dL_law_1972 : decode cL_law 1972 = .ok (.i2l, 1) := dk_133 (dk_at dksL_law_73 20 rfl rfl)
theorem dL_law_1973 : decode cL_law 1973 = .ok (.lcmp, 1) := dk_148 (dk_at dksL_law_73 21 rfl rfl)
theorem dL_law_1974 : decode cL_law 1974 = .ok (.ifCond .eq 5, 3) := dk_153 0 5 (dk_at dksL_law_74 0 rfl rfl)
theorem dL_law_1977 : decode cL_law 1977 = .ok (.iconst 0, 1) := dk_3 (dk_at dksL_law_74 3 rfl rfl)
theorem dL_law_1978 : decode cL_law 1978 = .ok (.ireturn, 1) := dk_172 (dk_at dksL_law_74 4 rfl rfl)
theorem dL_law_1979 : decode cL_law 1979 = .ok (.goto 1735, 3) := dk_167 6 199 (dk_at dksL_law_74 5 rfl rfl)
theorem dL_law_1982 : decode cL_law 1982 = .ok (.aload_n 1, 1) := dk_43 (dk_at dksL_law_74 8 rfl rfl)
theorem dL_law_1983 : decode cL_law 1983 = .ok (.aload_n 0, 1) := dk_42 (dk_at dksL_law_74 9 rfl rfl)
theorem dL_law_1984 : decode cL_law 1984 = .ok (.iload 5, 2) := dk_21 5 (dk_at dksL_law_74 10 rfl rfl)
theorem dL_law_1986 : decode cL_law 1986 = .ok (.iconst 1, 1) := dk_4 (dk_at dksL_law_74 12 rfl rfl)
theorem dL_law_1987 : decode cL_law 1987 = .ok (.iadd, 1) := dk_96 (dk_at dksL_law_74 13 rfl rfl)
theorem dL_law_1988 : decode cL_law 1988 = .ok (.iaload, 1) := dk_46 (dk_at dksL_law_74 14 rfl rfl)
theorem dL_law_1989 : decode cL_law 1989 = .ok (.aload_n 3, 1) := dk_45 (dk_at dksL_law_74 15 rfl rfl)
theorem dL_law_1990 : decode cL_law 1990 = .ok (.invokestatic 292, 3) := dk_184 1 36 (dk_at dksL_law_74 16 rfl rfl)
theorem dL_law_1993 : decode cL_law 1993 = .ok (.istore 6, 2) := dk_54 6 (dk_at dksL_law_74 19 rfl rfl)
theorem dL_law_1995 : decode cL_law 1995 = .ok (.aload_n 2, 1) := dk_44 (dk_at dksL_law_74 21 rfl rfl)
theorem dL_law_1996 : decode cL_law 1996 = .ok (.aload_n 0, 1) := dk_42 (dk_at dksL_law_74 22 rfl rfl)
theorem dL_law_1997 : decode cL_law 1997 = .ok (.iload 5, 2) := dk_21 5 (dk_at dksL_law_75 0 rfl rfl)
theorem dL_law_1999 : decode cL_law 1999 = .ok (.iconst 1, 1) := dk_4 (dk_at dksL_law_75 2 rfl rfl)
theorem dL_law_2000 : decode cL_law 2000 = .ok (.iadd, 1) := dk_96 (dk_at dksL_law_75 3 rfl rfl)
theorem dL_law_2001 : decode cL_law 2001 = .ok (.iaload, 1) := dk_46 (dk_at dksL_law_75 4 rfl rfl)
theorem dL_law_2002 : decode cL_law 2002 = .ok (.invokevirtual 294, 3) := dk_182 1 38 (dk_at dksL_law_75 5 rfl rfl)
theorem dL_law_2005 : decode cL_law 2005 = .ok (.istore 7, 2) := dk_54 7 (dk_at dksL_law_75 8 rfl rfl)
theorem dL_law_2007 : decode cL_law 2007 = .ok (.aload_n 2, 1) := dk_44 (dk_at dksL_law_75 10 rfl rfl)
theorem dL_law_2008 : decode cL_law 2008 = .ok (.invokevirtual 191, 3) := dk_182 0 191 (dk_at dksL_law_75 11 rfl rfl)
theorem dL_law_2011 : decode cL_law 2011 = .ok (.iload 6, 2) := dk_21 6 (dk_at dksL_law_75 14 rfl rfl)
theorem dL_law_2013 : decode cL_law 2013 = .ok (.if_icmp .eq 5, 3) := dk_159 0 5 (dk_at dksL_law_75 16 rfl rfl)
theorem dL_law_2016 : decode cL_law 2016 = .ok (.iconst 0, 1) := dk_3 (dk_at dksL_law_75 19 rfl rfl)
theorem dL_law_2017 : decode cL_law 2017 = .ok (.ireturn, 1) := dk_172 (dk_at dksL_law_75 20 rfl rfl)
theorem dL_law_2018 : decode cL_law 2018 = .ok (.iload 6, 2) := dk_21 6 (dk_at dksL_law_75 21 rfl rfl)
theorem dL_law_2020 : decode cL_law 2020 = .ok (.ifCond .ne 15, 3) := dk_154 0 15 (dk_at dksL_law_76 0 rfl rfl)
theorem dL_law_2023 : decode cL_law 2023 = .ok (.aload_n 3, 1) := dk_45 (dk_at dksL_law_76 3 rfl rfl)
theorem dL_law_2024 : decode cL_law 2024 = .ok (.iconst 0, 1) := dk_3 (dk_at dksL_law_76 4 rfl rfl)
theorem dL_law_2025 : decode cL_law 2025 = .ok (.laload, 1) := dk_47 (dk_at dksL_law_76 5 rfl rfl)
theorem dL_law_2026 : decode cL_law 2026 = .ok (.iload 7, 2) := dk_21 7 (dk_at dksL_law_76 6 rfl rfl)
theorem dL_law_2028 : decode cL_law 2028 = .ok (.i2l, 1) := dk_133 (dk_at dksL_law_76 8 rfl rfl)
theorem dL_law_2029 : decode cL_law 2029 = .ok (.lcmp, 1) := dk_148 (dk_at dksL_law_76 9 rfl rfl)
theorem dL_law_2030 : decode cL_law 2030 = .ok (.ifCond .eq 5, 3) := dk_153 0 5 (dk_at dksL_law_76 10 rfl rfl)
theorem dL_law_2033 : decode cL_law 2033 = .ok (.iconst 0, 1) := dk_3 (dk_at dksL_law_76 13 rfl rfl)
theorem dL_law_2034 : decode cL_law 2034 = .ok (.ireturn, 1) := dk_172 (dk_at dksL_law_76 14 rfl rfl)
theorem dL_law_2035 : decode cL_law 2035 = .ok (.goto 1679, 3) := dk_167 6 143 (dk_at dksL_law_76 15 rfl rfl)
theorem dL_law_2038 : decode cL_law 2038 = .ok (.aload_n 1, 1) := dk_43 (dk_at dksL_law_76 18 rfl rfl)
theorem dL_law_2039 : decode cL_law 2039 = .ok (.aload_n 0, 1) := dk_42 (dk_at dksL_law_76 19 rfl rfl)
theorem dL_law_2040 : decode cL_law 2040 = .ok (.iload 5, 2) := dk_21 5 (dk_at dksL_law_76 20 rfl rfl)
theorem dL_law_2042 : decode cL_law 2042 = .ok (.iconst 1, 1) := dk_4 (dk_at dksL_law_76 22 rfl rfl)
theorem dL_law_2043 : decode cL_law 2043 = .ok (.iadd, 1) := dk_96 (dk_at dksL_law_76 23 rfl rfl)
theorem dL_law_2044 : decode cL_law 2044 = .ok (.iaload, 1) := dk_46 (dk_at dksL_law_77 0 rfl rfl)
theorem dL_law_2045 : decode cL_law 2045 = .ok (.aload_n 3, 1) := dk_45 (dk_at dksL_law_77 1 rfl rfl)
theorem dL_law_2046 : decode cL_law 2046 = .ok (.invokestatic 295, 3) := dk_184 1 39 (dk_at dksL_law_77 2 rfl rfl)
theorem dL_law_2049 : decode cL_law 2049 = .ok (.istore 6, 2) := dk_54 6 (dk_at dksL_law_77 5 rfl rfl)
theorem dL_law_2051 : decode cL_law 2051 = .ok (.aload_n 2, 1) := dk_44 (dk_at dksL_law_77 7 rfl rfl)
theorem dL_law_2052 : decode cL_law 2052 = .ok (.aload_n 0, 1) := dk_42 (dk_at dksL_law_77 8 rfl rfl)
theorem dL_law_2053 : decode cL_law 2053 = .ok (.iload 5, 2) := dk_21 5 (dk_at dksL_law_77 9 rfl rfl)
theorem dL_law_2055 : decode cL_law 2055 = .ok (.iconst 1, 1) := dk_4 (dk_at dksL_law_77 11 rfl rfl)
theorem dL_law_2056 : decode cL_law 2056 = .ok (.iadd, 1) := dk_96 (dk_at dksL_law_77 12 rfl rfl)
theorem dL_law_2057 : decode cL_law 2057 = .ok (.iaload, 1) := dk_46 (dk_at dksL_law_77 13 rfl rfl)
theorem dL_law_2058 : decode cL_law 2058 = .ok (.invokevirtual 297, 3) := dk_182 1 41 (dk_at dksL_law_77 14 rfl rfl)
theorem dL_law_2061 : decode cL_law 2061 = .ok (.istore 7, 2) := dk_54 7 (dk_at dksL_law_77 17 rfl rfl)
theorem dL_law_2063 : decode cL_law 2063 = .ok (.aload_n 2, 1) := dk_44 (dk_at dksL_law_77 19 rfl rfl)
theorem dL_law_2064 : decode cL_law 2064 = .ok (.invokevirtual 191, 3) := dk_182 0 191 (dk_at dksL_law_77 20 rfl rfl)
theorem dL_law_2067 : decode cL_law 2067 = .ok (.iload 6, 2) := dk_21 6 (dk_at dksL_law_78 0 rfl rfl)
theorem dL_law_2069 : decode cL_law 2069 = .ok (.if_icmp .eq 5, 3) := dk_159 0 5 (dk_at dksL_law_78 2 rfl rfl)
theorem dL_law_2072 : decode cL_law 2072 = .ok (.iconst 0, 1) := dk_3 (dk_at dksL_law_78 5 rfl rfl)
theorem dL_law_2073 : decode cL_law 2073 = .ok (.ireturn, 1) := dk_172 (dk_at dksL_law_78 6 rfl rfl)
theorem dL_law_2074 : decode cL_law 2074 = .ok (.iload 6, 2) := dk_21 6 (dk_at dksL_law_78 7 rfl rfl)
theorem dL_law_2076 : decode cL_law 2076 = .ok (.ifCond .ne 15, 3) := dk_154 0 15 (dk_at dksL_law_78 9 rfl rfl)
theorem dL_law_2079 : decode cL_law 2079 = .ok (.aload_n 3, 1) := dk_45 (dk_at dksL_law_78 12 rfl rfl)
theorem dL_law_2080 : decode cL_law 2080 = .ok (.iconst 0, 1) := dk_3 (dk_at dksL_law_78 13 rfl rfl)
theorem dL_law_2081 : decode cL_law 2081 = .ok (.laload, 1) := dk_47 (dk_at dksL_law_78 14 rfl rfl)
theorem dL_law_2082 : decode cL_law 2082 = .ok (.iload 7, 2) := dk_21 7 (dk_at dksL_law_78 15 rfl rfl)
theorem dL_law_2084 : decode cL_law 2084 = .ok (.i2l, 1) := dk_133 (dk_at dksL_law_78 17 rfl rfl)
theorem dL_law_2085 : decode cL_law 2085 = .ok (.lcmp, 1) := dk_148 (dk_at dksL_law_78 18 rfl rfl)
theorem dL_law_2086 : decode cL_law 2086 = .ok (.ifCond .eq 5, 3) := dk_153 0 5 (dk_at dksL_law_78 19 rfl rfl)
theorem dL_law_2089 : decode cL_law 2089 = .ok (.iconst 0, 1) := dk_3 (dk_at dksL_law_78 22 rfl rfl)
theorem dL_law_2090 : decode cL_law 2090 = .ok (.ireturn, 1) := dk_172 (dk_at dksL_law_78 23 rfl rfl)
theorem dL_law_2091 : decode cL_law 2091 = .ok (.goto 1623, 3) := dk_167 6 87 (dk_at dksL_law_79 0 rfl rfl)
theorem dL_law_2094 : decode cL_law 2094 = .ok (.aload_n 1, 1) := dk_43 (dk_at dksL_law_79 3 rfl rfl)
theorem dL_law_2095 : decode cL_law 2095 = .ok (.aload_n 0, 1) := dk_42 (dk_at dksL_law_79 4 rfl rfl)
theorem dL_law_2096 : decode cL_law 2096 = .ok (.iload 5, 2) := dk_21 5 (dk_at dksL_law_79 5 rfl rfl)
theorem dL_law_2098 : decode cL_law 2098 = .ok (.iconst 1, 1) := dk_4 (dk_at dksL_law_79 7 rfl rfl)
theorem dL_law_2099 : decode cL_law 2099 = .ok (.iadd, 1) := dk_96 (dk_at dksL_law_79 8 rfl rfl)
theorem dL_law_2100 : decode cL_law 2100 = .ok (.iaload, 1) := dk_46 (dk_at dksL_law_79 9 rfl rfl)
theorem dL_law_2101 : decode cL_law 2101 = .ok (.aload_n 3, 1) := dk_45 (dk_at dksL_law_79 10 rfl rfl)
theorem dL_law_2102 : decode cL_law 2102 = .ok (.invokestatic 298, 3) := dk_184 1 42 (dk_at dksL_law_79 11 rfl rfl)
theorem dL_law_2105 : decode cL_law 2105 = .ok (.istore 6, 2) := dk_54 6 (dk_at dksL_law_79 14 rfl rfl)
theorem dL_law_2107 : decode cL_law 2107 = .ok (.aload_n 2, 1) := dk_44 (dk_at dksL_law_79 16 rfl rfl)
theorem dL_law_2108 : decode cL_law 2108 = .ok (.aload_n 0, 1) := dk_42 (dk_at dksL_law_79 17 rfl rfl)
theorem dL_law_2109 : decode cL_law 2109 = .ok (.iload 5, 2) := dk_21 5 (dk_at dksL_law_79 18 rfl rfl)
theorem dL_law_2111 : decode cL_law 2111 = .ok (.iconst 1, 1) := dk_4 (dk_at dksL_law_79 20 rfl rfl)
theorem dL_law_2112 : decode cL_law 2112 = .ok (.iadd, 1) := dk_96 (dk_at dksL_law_79 21 rfl rfl)
theorem dL_law_2113 : decode cL_law 2113 = .ok (.iaload, 1) := dk_46 (dk_at dksL_law_79 22 rfl rfl)
theorem dL_law_2114 : decode cL_law 2114 = .ok (.invokevirtual 300, 3) := dk_182 1 44 (dk_at dksL_law_80 0 rfl rfl)
theorem dL_law_2117 : decode cL_law 2117 = .ok (.istore 7, 2) := dk_54 7 (dk_at dksL_law_80 3 rfl rfl)
theorem dL_law_2119 : decode cL_law 2119 = .ok (.aload_n 2, 1) := dk_44 (dk_at dksL_law_80 5 rfl rfl)
theorem dL_law_2120 : decode cL_law 2120 = .ok (.invokevirtual 191, 3) := dk_182 0 191 (dk_at dksL_law_80 6 rfl rfl)
theorem dL_law_2123 : decode cL_law 2123 = .ok (.iload 6, 2) := dk_21 6 (dk_at dksL_law_80 9 rfl rfl)
theorem dL_law_2125 : decode cL_law 2125 = .ok (.if_icmp .eq 5, 3) := dk_159 0 5 (dk_at dksL_law_80 11 rfl rfl)
theorem dL_law_2128 : decode cL_law 2128 = .ok (.iconst 0, 1) := dk_3 (dk_at dksL_law_80 14 rfl rfl)
theorem dL_law_2129 : decode cL_law 2129 = .ok (.ireturn, 1) := dk_172 (dk_at dksL_law_80 15 rfl rfl)
theorem dL_law_2130 : decode cL_law 2130 = .ok (.iload 6, 2) := dk_21 6 (dk_at dksL_law_80 16 rfl rfl)
theorem dL_law_2132 : decode cL_law 2132 = .ok (.ifCond .ne 15, 3) := dk_154 0 15 (dk_at dksL_law_80 18 rfl rfl)
theorem dL_law_2135 : decode cL_law 2135 = .ok (.aload_n 3, 1) := dk_45 (dk_at dksL_law_80 21 rfl rfl)
theorem dL_law_2136 : decode cL_law 2136 = .ok (.iconst 0, 1) := dk_3 (dk_at dksL_law_80 22 rfl rfl)
theorem dL_law_2137 : decode cL_law 2137 = .ok (.laload, 1) := dk_47 (dk_at dksL_law_80 23 rfl rfl)
theorem dL_law_2138 : decode cL_law 2138 = .ok (.iload 7, 2) := dk_21 7 (dk_at dksL_law_81 0 rfl rfl)
theorem dL_law_2140 : decode cL_law 2140 = .ok (.i2l, 1) := dk_133 (dk_at dksL_law_81 2 rfl rfl)
theorem dL_law_2141 : decode cL_law 2141 = .ok (.lcmp, 1) := dk_148 (dk_at dksL_law_81 3 rfl rfl)
theorem dL_law_2142 : decode cL_law 2142 = .ok (.ifCond .eq 5, 3) := dk_153 0 5 (dk_at dksL_law_81 4 rfl rfl)
theorem dL_law_2145 : decode cL_law 2145 = .ok (.iconst 0, 1) := dk_3 (dk_at dksL_law_81 7 rfl rfl)
theorem dL_law_2146 : decode cL_law 2146 = .ok (.ireturn, 1) := dk_172 (dk_at dksL_law_81 8 rfl rfl)
theorem dL_law_2147 : decode cL_law 2147 = .ok (.goto 1567, 3) := dk_167 6 31 (dk_at dksL_law_81 9 rfl rfl)
theorem dL_law_2150 : decode cL_law 2150 = .ok (.aload_n 1, 1) := dk_43 (dk_at dksL_law_81 12 rfl rfl)
theorem dL_law_2151 : decode cL_law 2151 = .ok (.aload_n 0, 1) := dk_42 (dk_at dksL_law_81 13 rfl rfl)
theorem dL_law_2152 : decode cL_law 2152 = .ok (.iload 5, 2) := dk_21 5 (dk_at dksL_law_81 14 rfl rfl)
theorem dL_law_2154 : decode cL_law 2154 = .ok (.iconst 1, 1) := dk_4 (dk_at dksL_law_81 16 rfl rfl)
theorem dL_law_2155 : decode cL_law 2155 = .ok (.iadd, 1) := dk_96 (dk_at dksL_law_81 17 rfl rfl)
theorem dL_law_2156 : decode cL_law 2156 = .ok (.iaload, 1) := dk_46 (dk_at dksL_law_81 18 rfl rfl)
theorem dL_law_2157 : decode cL_law 2157 = .ok (.aload_n 3, 1) := dk_45 (dk_at dksL_law_81 19 rfl rfl)
theorem dL_law_2158 : decode cL_law 2158 = .ok (.invokestatic 301, 3) := dk_184 1 45 (dk_at dksL_law_81 20 rfl rfl)
theorem dL_law_2161 : decode cL_law 2161 = .ok (.istore 6, 2) := dk_54 6 (dk_at dksL_law_82 0 rfl rfl)
theorem dL_law_2163 : decode cL_law 2163 = .ok (.aload_n 2, 1) := dk_44 (dk_at dksL_law_82 2 rfl rfl)
theorem dL_law_2164 : decode cL_law 2164 = .ok (.aload_n 0, 1) := dk_42 (dk_at dksL_law_82 3 rfl rfl)
theorem dL_law_2165 : decode cL_law 2165 = .ok (.iload 5, 2) := dk_21 5 (dk_at dksL_law_82 4 rfl rfl)
theorem dL_law_2167 : decode cL_law 2167 = .ok (.iconst 1, 1) := dk_4 (dk_at dksL_law_82 6 rfl rfl)
theorem dL_law_2168 : decode cL_law 2168 = .ok (.iadd, 1) := dk_96 (dk_at dksL_law_82 7 rfl rfl)
theorem dL_law_2169 : decode cL_law 2169 = .ok (.iaload, 1) := dk_46 (dk_at dksL_law_82 8 rfl rfl)
theorem dL_law_2170 : decode cL_law 2170 = .ok (.invokevirtual 303, 3) := dk_182 1 47 (dk_at dksL_law_82 9 rfl rfl)
theorem dL_law_2173 : decode cL_law 2173 = .ok (.istore 7, 2) := dk_54 7 (dk_at dksL_law_82 12 rfl rfl)
theorem dL_law_2175 : decode cL_law 2175 = .ok (.aload_n 2, 1) := dk_44 (dk_at dksL_law_82 14 rfl rfl)
theorem dL_law_2176 : decode cL_law 2176 = .ok (.invokevirtual 191, 3) := dk_182 0 191 (dk_at dksL_law_82 15 rfl rfl)
theorem dL_law_2179 : decode cL_law 2179 = .ok (.iload 6, 2) := dk_21 6 (dk_at dksL_law_82 18 rfl rfl)
theorem dL_law_2181 : decode cL_law 2181 = .ok (.if_icmp .eq 5, 3) := dk_159 0 5 (dk_at dksL_law_82 20 rfl rfl)
theorem dL_law_2184 : decode cL_law 2184 = .ok (.iconst 0, 1) := dk_3 (dk_at dksL_law_82 23 rfl rfl)
theorem dL_law_2185 : decode cL_law 2185 = .ok (.ireturn, 1) := dk_172 (dk_at dksL_law_83 0 rfl rfl)
theorem dL_law_2186 : decode cL_law 2186 = .ok (.iload 6, 2) := dk_21 6 (dk_at dksL_law_83 1 rfl rfl)
theorem dL_law_2188 : decode cL_law 2188 = .ok (.ifCond .ne 22, 3) := dk_154 0 22 (dk_at dksL_law_83 3 rfl rfl)
theorem dL_law_2191 : decode cL_law 2191 = .ok (.aload_n 3, 1) := dk_45 (dk_at dksL_law_83 6 rfl rfl)
theorem dL_law_2192 : decode cL_law 2192 = .ok (.iconst 0, 1) := dk_3 (dk_at dksL_law_83 7 rfl rfl)
theorem dL_law_2193 : decode cL_law 2193 = .ok (.laload, 1) := dk_47 (dk_at dksL_law_83 8 rfl rfl)
theorem dL_law_2194 : decode cL_law 2194 = .ok (.iload 7, 2) := dk_21 7 (dk_at dksL_law_83 9 rfl rfl)
theorem dL_law_2196 : decode cL_law 2196 = .ok (.ifCond .eq 7, 3) := dk_153 0 7 (dk_at dksL_law_83 11 rfl rfl)
theorem dL_law_2199 : decode cL_law 2199 = .ok (.lconst 1, 1) := dk_10 (dk_at dksL_law_83 14 rfl rfl)
theorem dL_law_2200 : decode cL_law 2200 = .ok (.goto 4, 3) := dk_167 0 4 (dk_at dksL_law_83 15 rfl rfl)
theorem dL_law_2203 : decode cL_law 2203 = .ok (.lconst 0, 1) := dk_9 (dk_at dksL_law_83 18 rfl rfl)
theorem dL_law_2204 : decode cL_law 2204 = .ok (.lcmp, 1) := dk_148 (dk_at dksL_law_83 19 rfl rfl)
theorem dL_law_2205 : decode cL_law 2205 = .ok (.ifCond .eq 5, 3) := dk_153 0 5 (dk_at dksL_law_83 20 rfl rfl)
theorem dL_law_2208 : decode cL_law 2208 = .ok (.iconst 0, 1) := dk_3 (dk_at dksL_law_83 23 rfl rfl)
theorem dL_law_2209 : decode cL_law 2209 = .ok (.ireturn, 1) := dk_172 (dk_at dksL_law_84 0 rfl rfl)
theorem dL_law_2210 : decode cL_law 2210 = .ok (.goto 1504, 3) := dk_167 5 224 (dk_at dksL_law_84 1 rfl rfl)
theorem dL_law_2213 : decode cL_law 2213 = .ok (.aload_n 1, 1) := dk_43 (dk_at dksL_law_84 4 rfl rfl)
theorem dL_law_2214 : decode cL_law 2214 = .ok (.aload_n 0, 1) := dk_42 (dk_at dksL_law_84 5 rfl rfl)
theorem dL_law_2215 : decode cL_law 2215 = .ok (.iload 5, 2) := dk_21 5 (dk_at dksL_law_84 6 rfl rfl)
theorem dL_law_2217 : decode cL_law 2217 = .ok (.iconst 1, 1) := dk_4 (dk_at dksL_law_84 8 rfl rfl)
theorem dL_law_2218 : decode cL_law 2218 = .ok (.iadd, 1) := dk_96 (dk_at dksL_law_84 9 rfl rfl)
theorem dL_law_2219 : decode cL_law 2219 = .ok (.iaload, 1) := dk_46 (dk_at dksL_law_84 10 rfl rfl)
theorem dL_law_2220 : decode cL_law 2220 = .ok (.aload_n 0, 1) := dk_42 (dk_at dksL_law_84 11 rfl rfl)
theorem dL_law_2221 : decode cL_law 2221 = .ok (.iload 5, 2) := dk_21 5 (dk_at dksL_law_84 12 rfl rfl)
theorem dL_law_2223 : decode cL_law 2223 = .ok (.iconst 2, 1) := dk_5 (dk_at dksL_law_84 14 rfl rfl)
theorem dL_law_2224 : decode cL_law 2224 = .ok (.iadd, 1) := dk_96 (dk_at dksL_law_84 15 rfl rfl)
theorem dL_law_2225 : decode cL_law 2225 = .ok (.iaload, 1) := dk_46 (dk_at dksL_law_84 16 rfl rfl)
theorem dL_law_2226 : decode cL_law 2226 = .ok (.aload_n 0, 1) := dk_42 (dk_at dksL_law_84 17 rfl rfl)
theorem dL_law_2227 : decode cL_law 2227 = .ok (.iload 5, 2) := dk_21 5 (dk_at dksL_law_84 18 rfl rfl)
theorem dL_law_2229 : decode cL_law 2229 = .ok (.iconst 3, 1) := dk_6 (dk_at dksL_law_84 20 rfl rfl)
theorem dL_law_2230 : decode cL_law 2230 = .ok (.iadd, 1) := dk_96 (dk_at dksL_law_84 21 rfl rfl)
theorem dL_law_2231 : decode cL_law 2231 = .ok (.iaload, 1) := dk_46 (dk_at dksL_law_84 22 rfl rfl)
theorem dL_law_2232 : decode cL_law 2232 = .ok (.aload_n 3, 1) := dk_45 (dk_at dksL_law_84 23 rfl rfl)
theorem dL_law_2233 : decode cL_law 2233 = .ok (.invokestatic 304, 3) := dk_184 1 48 (dk_at dksL_law_85 0 rfl rfl)
theorem dL_law_2236 : decode cL_law 2236 = .ok (.istore 6, 2) := dk_54 6 (dk_at dksL_law_85 3 rfl rfl)
theorem dL_law_2238 : decode cL_law 2238 = .ok (.aload_n 2, 1) := dk_44 (dk_at dksL_law_85 5 rfl rfl)
theorem dL_law_2239 : decode cL_law 2239 = .ok (.aload_n 0, 1) := dk_42 (dk_at dksL_law_85 6 rfl rfl)
theorem dL_law_2240 : decode cL_law 2240 = .ok (.iload 5, 2) := dk_21 5 (dk_at dksL_law_85 7 rfl rfl)
theorem dL_law_2242 : decode cL_law 2242 = .ok (.iconst 1, 1) := dk_4 (dk_at dksL_law_85 9 rfl rfl)
theorem dL_law_2243 : decode cL_law 2243 = .ok (.iadd, 1) := dk_96 (dk_at dksL_law_85 10 rfl rfl)
theorem dL_law_2244 : decode cL_law 2244 = .ok (.iaload, 1) := dk_46 (dk_at dksL_law_85 11 rfl rfl)
theorem dL_law_2245 : decode cL_law 2245 = .ok (.aload_n 0, 1) := dk_42 (dk_at dksL_law_85 12 rfl rfl)
theorem dL_law_2246 : decode cL_law 2246 = .ok (.iload 5, 2) := dk_21 5 (dk_at dksL_law_85 13 rfl rfl)
theorem dL_law_2248 : decode cL_law 2248 = .ok (.iconst 2, 1) := dk_5 (dk_at dksL_law_85 15 rfl rfl)
theorem dL_law_2249 : decode cL_law 2249 = .ok (.iadd, 1) := dk_96 (dk_at dksL_law_85 16 rfl rfl)
theorem dL_law_2250 : decode cL_law 2250 = .ok (.iaload, 1) := dk_46 (dk_at dksL_law_85 17 rfl rfl)
theorem dL_law_2251 : decode cL_law 2251 = .ok (.aload_n 0, 1) := dk_42 (dk_at dksL_law_85 18 rfl rfl)
theorem dL_law_2252 : decode cL_law 2252 = .ok (.iload 5, 2) := dk_21 5 (dk_at dksL_law_85 19 rfl rfl)
theorem dL_law_2254 : decode cL_law 2254 = .ok (.iconst 3, 1) := dk_6 (dk_at dksL_law_85 21 rfl rfl)
theorem dL_law_2255 : decode cL_law 2255 = .ok (.iadd, 1) := dk_96 (dk_at dksL_law_85 22 rfl rfl)
theorem dL_law_2256 : decode cL_law 2256 = .ok (.iaload, 1) := dk_46 (dk_at dksL_law_85 23 rfl rfl)
theorem dL_law_2257 : decode cL_law 2257 = .ok (.invokevirtual 307, 3) := dk_182 1 51 (dk_at dksL_law_86 0 rfl rfl)
theorem dL_law_2260 : decode cL_law 2260 = .ok (.istore 7, 2) := dk_54 7 (dk_at dksL_law_86 3 rfl rfl)
theorem dL_law_2262 : decode cL_law 2262 = .ok (.aload_n 2, 1) := dk_44 (dk_at dksL_law_86 5 rfl rfl)
theorem dL_law_2263 : decode cL_law 2263 = .ok (.invokevirtual 191, 3) := dk_182 0 191 (dk_at dksL_law_86 6 rfl rfl)
theorem dL_law_2266 : decode cL_law 2266 = .ok (.iload 6, 2) := dk_21 6 (dk_at dksL_law_86 9 rfl rfl)
theorem dL_law_2268 : decode cL_law 2268 = .ok (.if_icmp .eq 5, 3) := dk_159 0 5 (dk_at dksL_law_86 11 rfl rfl)
theorem dL_law_2271 : decode cL_law 2271 = .ok (.iconst 0, 1) := dk_3 (dk_at dksL_law_86 14 rfl rfl)
theorem dL_law_2272 : decode cL_law 2272 = .ok (.ireturn, 1) := dk_172 (dk_at dksL_law_86 15 rfl rfl)
theorem dL_law_2273 : decode cL_law 2273 = .ok (.iload 6, 2) := dk_21 6 (dk_at dksL_law_86 16 rfl rfl)
theorem dL_law_2275 : decode cL_law 2275 = .ok (.ifCond .ne 15, 3) := dk_154 0 15 (dk_at dksL_law_86 18 rfl rfl)
theorem dL_law_2278 : decode cL_law 2278 = .ok (.aload_n 3, 1) := dk_45 (dk_at dksL_law_86 21 rfl rfl)
theorem dL_law_2279 : decode cL_law 2279 = .ok (.iconst 0, 1) := dk_3 (dk_at dksL_law_86 22 rfl rfl)
theorem dL_law_2280 : decode cL_law 2280 = .ok (.laload, 1) := dk_47 (dk_at dksL_law_86 23 rfl rfl)
theorem dL_law_2281 : decode cL_law 2281 = .ok (.iload 7, 2) := dk_21 7 (dk_at dksL_law_87 0 rfl rfl)
theorem dL_law_2283 : decode cL_law 2283 = .ok (.i2l, 1) := dk_133 (dk_at dksL_law_87 2 rfl rfl)
theorem dL_law_2284 : decode cL_law 2284 = .ok (.lcmp, 1) := dk_148 (dk_at dksL_law_87 3 rfl rfl)
theorem dL_law_2285 : decode cL_law 2285 = .ok (.ifCond .eq 5, 3) := dk_153 0 5 (dk_at dksL_law_87 4 rfl rfl)
theorem dL_law_2288 : decode cL_law 2288 = .ok (.iconst 0, 1) := dk_3 (dk_at dksL_law_87 7 rfl rfl)
theorem dL_law_2289 : decode cL_law 2289 = .ok (.ireturn, 1) := dk_172 (dk_at dksL_law_87 8 rfl rfl)
theorem dL_law_2290 : decode cL_law 2290 = .ok (.goto 1424, 3) := dk_167 5 144 (dk_at dksL_law_87 9 rfl rfl)
theorem dL_law_2293 : decode cL_law 2293 = .ok (.aload_n 1, 1) := dk_43 (dk_at dksL_law_87 12 rfl rfl)
theorem dL_law_2294 : decode cL_law 2294 = .ok (.aload_n 0, 1) := dk_42 (dk_at dksL_law_87 13 rfl rfl)
theorem dL_law_2295 : decode cL_law 2295 = .ok (.iload 5, 2) := dk_21 5 (dk_at dksL_law_87 14 rfl rfl)
theorem dL_law_2297 : decode cL_law 2297 = .ok (.iconst 1, 1) := dk_4 (dk_at dksL_law_87 16 rfl rfl)
theorem dL_law_2298 : decode cL_law 2298 = .ok (.iadd, 1) := dk_96 (dk_at dksL_law_87 17 rfl rfl)
theorem dL_law_2299 : decode cL_law 2299 = .ok (.iaload, 1) := dk_46 (dk_at dksL_law_87 18 rfl rfl)
theorem dL_law_2300 : decode cL_law 2300 = .ok (.aload_n 0, 1) := dk_42 (dk_at dksL_law_87 19 rfl rfl)
theorem dL_law_2301 : decode cL_law 2301 = .ok (.iload 5, 2) := dk_21 5 (dk_at dksL_law_87 20 rfl rfl)
theorem dL_law_2303 : decode cL_law 2303 = .ok (.iconst 2, 1) := dk_5 (dk_at dksL_law_87 22 rfl rfl)
theorem dL_law_2304 : decode cL_law 2304 = .ok (.iadd, 1) := dk_96 (dk_at dksL_law_87 23 rfl rfl)
theorem dL_law_2305 : decode cL_law 2305 = .ok (.iaload, 1) := dk_46 (dk_at dksL_law_88 0 rfl rfl)
theorem dL_law_2306 : decode cL_law 2306 = .ok (.aload_n 0, 1) := dk_42 (dk_at dksL_law_88 1 rfl rfl)
theorem dL_law_2307 : decode cL_law 2307 = .ok (.iload 5, 2) := dk_21 5 (dk_at dksL_law_88 2 rfl rfl)
theorem dL_law_2309 : decode cL_law 2309 = .ok (.iconst 3, 1) := dk_6 (dk_at dksL_law_88 4 rfl rfl)
theorem dL_law_2310 : decode cL_law 2310 = .ok (.iadd, 1) := dk_96 (dk_at dksL_law_88 5 rfl rfl)
theorem dL_law_2311 : decode cL_law 2311 = .ok (.iaload, 1) := dk_46 (dk_at dksL_law_88 6 rfl rfl)
theorem dL_law_2312 : decode cL_law 2312 = .ok (.aload_n 3, 1) := dk_45 (dk_at dksL_law_88 7 rfl rfl)
theorem dL_law_2313 : decode cL_law 2313 = .ok (.invokestatic 308, 3) := dk_184 1 52 (dk_at dksL_law_88 8 rfl rfl)
theorem dL_law_2316 : decode cL_law 2316 = .ok (.istore 6, 2) := dk_54 6 (dk_at dksL_law_88 11 rfl rfl)
theorem dL_law_2318 : decode cL_law 2318 = .ok (.aload_n 2, 1) := dk_44 (dk_at dksL_law_88 13 rfl rfl)
theorem dL_law_2319 : decode cL_law 2319 = .ok (.aload_n 0, 1) := dk_42 (dk_at dksL_law_88 14 rfl rfl)
theorem dL_law_2320 : decode cL_law 2320 = .ok (.iload 5, 2) := dk_21 5 (dk_at dksL_law_88 15 rfl rfl)
theorem dL_law_2322 : decode cL_law 2322 = .ok (.iconst 1, 1) := dk_4 (dk_at dksL_law_88 17 rfl rfl)
theorem dL_law_2323 : decode cL_law 2323 = .ok (.iadd, 1) := dk_96 (dk_at dksL_law_88 18 rfl rfl)
theorem dL_law_2324 : decode cL_law 2324 = .ok (.iaload, 1) := dk_46 (dk_at dksL_law_88 19 rfl rfl)
theorem dL_law_2325 : decode cL_law 2325 = .ok (.aload_n 0, 1) := dk_42 (dk_at dksL_law_88 20 rfl rfl)
theorem dL_law_2326 : decode cL_law 2326 = .ok (.iload 5, 2) := dk_21 5 (dk_at dksL_law_88 21 rfl rfl)
theorem dL_law_2328 : decode cL_law 2328 = .ok (.iconst 2, 1) := dk_5 (dk_at dksL_law_88 23 rfl rfl)
theorem dL_law_2329 : decode cL_law 2329 = .ok (.iadd, 1) := dk_96 (dk_at dksL_law_89 0 rfl rfl)
theorem dL_law_2330 : decode cL_law 2330 = .ok (.iaload, 1) := dk_46 (dk_at dksL_law_89 1 rfl rfl)
theorem dL_law_2331 : decode cL_law 2331 = .ok (.aload_n 0, 1) := dk_42 (dk_at dksL_law_89 2 rfl rfl)
theorem dL_law_2332 : decode cL_law 2332 = .ok (.iload 5, 2) := dk_21 5 (dk_at dksL_law_89 3 rfl rfl)
theorem dL_law_2334 : decode cL_law 2334 = .ok (.iconst 3, 1) := dk_6 (dk_at dksL_law_89 5 rfl rfl)
theorem dL_law_2335 : decode cL_law 2335 = .ok (.iadd, 1) := dk_96 (dk_at dksL_law_89 6 rfl rfl)
theorem dL_law_2336 : decode cL_law 2336 = .ok (.iaload, 1) := dk_46 (dk_at dksL_law_89 7 rfl rfl)
theorem dL_law_2337 : decode cL_law 2337 = .ok (.invokevirtual 310, 3) := dk_182 1 54 (dk_at dksL_law_89 8 rfl rfl)
theorem dL_law_2340 : decode cL_law 2340 = .ok (.istore 7, 2) := dk_54 7 (dk_at dksL_law_89 11 rfl rfl)
theorem dL_law_2342 : decode cL_law 2342 = .ok (.aload_n 2, 1) := dk_44 (dk_at dksL_law_89 13 rfl rfl)
theorem dL_law_2343 : decode cL_law 2343 = .ok (.invokevirtual 191, 3) := dk_182 0 191 (dk_at dksL_law_89 14 rfl rfl)
theorem dL_law_2346 : decode cL_law 2346 = .ok (.iload 6, 2) := dk_21 6 (dk_at dksL_law_89 17 rfl rfl)
theorem dL_law_2348 : decode cL_law 2348 = .ok (.if_icmp .eq 5, 3) := dk_159 0 5 (dk_at dksL_law_89 19 rfl rfl)
theorem dL_law_2351 : decode cL_law 2351 = .ok (.iconst 0, 1) := dk_3 (dk_at dksL_law_89 22 rfl rfl)
theorem dL_law_2352 : decode cL_law 2352 = .ok (.ireturn, 1) := dk_172 (dk_at dksL_law_89 23 rfl rfl)
theorem dL_law_2353 : decode cL_law 2353 = .ok (.iload 6, 2) := dk_21 6 (dk_at dksL_law_90 0 rfl rfl)
theorem dL_law_2355 : decode cL_law 2355 = .ok (.ifCond .ne 15, 3) := dk_154 0 15 (dk_at dksL_law_90 2 rfl rfl)
theorem dL_law_2358 : decode cL_law 2358 = .ok (.aload_n 3, 1) := dk_45 (dk_at dksL_law_90 5 rfl rfl)
theorem dL_law_2359 : decode cL_law 2359 = .ok (.iconst 0, 1) := dk_3 (dk_at dksL_law_90 6 rfl rfl)
theorem dL_law_2360 : decode cL_law 2360 = .ok (.laload, 1) := dk_47 (dk_at dksL_law_90 7 rfl rfl)
theorem dL_law_2361 : decode cL_law 2361 = .ok (.iload 7, 2) := dk_21 7 (dk_at dksL_law_90 8 rfl rfl)
theorem dL_law_2363 : decode cL_law 2363 = .ok (.i2l, 1) := dk_133 (dk_at dksL_law_90 10 rfl rfl)
theorem dL_law_2364 : decode cL_law 2364 = .ok (.lcmp, 1) := dk_148 (dk_at dksL_law_90 11 rfl rfl)
theorem dL_law_2365 : decode cL_law 2365 = .ok (.ifCond .eq 5, 3) := dk_153 0 5 (dk_at dksL_law_90 12 rfl rfl)
theorem dL_law_2368 : decode cL_law 2368 = .ok (.iconst 0, 1) := dk_3 (dk_at dksL_law_90 15 rfl rfl)
theorem dL_law_2369 : decode cL_law 2369 = .ok (.ireturn, 1) := dk_172 (dk_at dksL_law_90 16 rfl rfl)
theorem dL_law_2370 : decode cL_law 2370 = .ok (.goto 1344, 3) := dk_167 5 64 (dk_at dksL_law_90 17 rfl rfl)
theorem dL_law_2373 : decode cL_law 2373 = .ok (.aload_n 1, 1) := dk_43 (dk_at dksL_law_90 20 rfl rfl)
theorem dL_law_2374 : decode cL_law 2374 = .ok (.aload_n 0, 1) := dk_42 (dk_at dksL_law_90 21 rfl rfl)
theorem dL_law_2375 : decode cL_law 2375 = .ok (.iload 5, 2) := dk_21 5 (dk_at dksL_law_90 22 rfl rfl)
theorem dL_law_2377 : decode cL_law 2377 = .ok (.iconst 1, 1) := dk_4 (dk_at dksL_law_91 0 rfl rfl)
theorem dL_law_2378 : decode cL_law 2378 = .ok (.iadd, 1) := dk_96 (dk_at dksL_law_91 1 rfl rfl)
theorem dL_law_2379 : decode cL_law 2379 = .ok (.iaload, 1) := dk_46 (dk_at dksL_law_91 2 rfl rfl)
theorem dL_law_2380 : decode cL_law 2380 = .ok (.aload_n 0, 1) := dk_42 (dk_at dksL_law_91 3 rfl rfl)
theorem dL_law_2381 : decode cL_law 2381 = .ok (.iload 5, 2) := dk_21 5 (dk_at dksL_law_91 4 rfl rfl)
theorem dL_law_2383 : decode cL_law 2383 = .ok (.iconst 2, 1) := dk_5 (dk_at dksL_law_91 6 rfl rfl)
theorem dL_law_2384 : decode cL_law 2384 = .ok (.iadd, 1) := dk_96 (dk_at dksL_law_91 7 rfl rfl)
theorem dL_law_2385 : decode cL_law 2385 = .ok (.iaload, 1) := dk_46 (dk_at dksL_law_91 8 rfl rfl)
theorem dL_law_2386 : decode cL_law 2386 = .ok (.aload_n 3, 1) := dk_45 (dk_at dksL_law_91 9 rfl rfl)
theorem dL_law_2387 : decode cL_law 2387 = .ok (.invokestatic 311, 3) := dk_184 1 55 (dk_at dksL_law_91 10 rfl rfl)
theorem dL_law_2390 : decode cL_law 2390 = .ok (.istore 6, 2) := dk_54 6 (dk_at dksL_law_91 13 rfl rfl)
theorem dL_law_2392 : decode cL_law 2392 = .ok (.aload_n 2, 1) := dk_44 (dk_at dksL_law_91 15 rfl rfl)
theorem dL_law_2393 : decode cL_law 2393 = .ok (.aload_n 0, 1) := dk_42 (dk_at dksL_law_91 16 rfl rfl)
theorem dL_law_2394 : decode cL_law 2394 = .ok (.iload 5, 2) := dk_21 5 (dk_at dksL_law_91 17 rfl rfl)
theorem dL_law_2396 : decode cL_law 2396 = .ok (.iconst 1, 1) := dk_4 (dk_at dksL_law_91 19 rfl rfl)
theorem dL_law_2397 : decode cL_law 2397 = .ok (.iadd, 1) := dk_96 (dk_at dksL_law_91 20 rfl rfl)
theorem dL_law_2398 : decode cL_law 2398 = .ok (.iaload, 1) := dk_46 (dk_at dksL_law_91 21 rfl rfl)
theorem dL_law_2399 : decode cL_law 2399 = .ok (.aload_n 0, 1) := dk_42 (dk_at dksL_law_91 22 rfl rfl)
theorem dL_law_2400 : decode cL_law 2400 = .ok (.iload 5, 2) := dk_21 5 (dk_at dksL_law_92 0 rfl rfl)
theorem dL_law_2402 : decode cL_law 2402 = .ok (.iconst 2, 1) := dk_5 (dk_at dksL_law_92 2 rfl rfl)
theorem dL_law_2403 : decode cL_law 2403 = .ok (.iadd, 1) := dk_96 (dk_at dksL_law_92 3 rfl rfl)
theorem dL_law_2404 : decode cL_law 2404 = .ok (.iaload, 1) := dk_46 (dk_at dksL_law_92 4 rfl rfl)
theorem dL_law_2405 : decode cL_law 2405 = .ok (.invokevirtual 313, 3) := dk_182 1 57 (dk_at dksL_law_92 5 rfl rfl)
theorem dL_law_2408 : decode cL_law 2408 = .ok (.lstore 7, 2) := dk_55 7 (dk_at dksL_law_92 8 rfl rfl)
theorem dL_law_2410 : decode cL_law 2410 = .ok (.aload_n 2, 1) := dk_44 (dk_at dksL_law_92 10 rfl rfl)
theorem dL_law_2411 : decode cL_law 2411 = .ok (.invokevirtual 191, 3) := dk_182 0 191 (dk_at dksL_law_92 11 rfl rfl)
theorem dL_law_2414 : decode cL_law 2414 = .ok (.iload 6, 2) := dk_21 6 (dk_at dksL_law_92 14 rfl rfl)
theorem dL_law_2416 : decode cL_law 2416 = .ok (.if_icmp .eq 5, 3) := dk_159 0 5 (dk_at dksL_law_92 16 rfl rfl)
theorem dL_law_2419 : decode cL_law 2419 = .ok (.iconst 0, 1) := dk_3 (dk_at dksL_law_92 19 rfl rfl)
theorem dL_law_2420 : decode cL_law 2420 = .ok (.ireturn, 1) := dk_172 (dk_at dksL_law_92 20 rfl rfl)
theorem dL_law_2421 : decode cL_law 2421 = .ok (.iload 6, 2) := dk_21 6 (dk_at dksL_law_92 21 rfl rfl)
theorem dL_law_2423 : decode cL_law 2423 = .ok (.ifCond .ne 14, 3) := dk_154 0 14 (dk_at dksL_law_93 0 rfl rfl)
theorem dL_law_2426 : decode cL_law 2426 = .ok (.aload_n 3, 1) := dk_45 (dk_at dksL_law_93 3 rfl rfl)
theorem dL_law_2427 : decode cL_law 2427 = .ok (.iconst 0, 1) := dk_3 (dk_at dksL_law_93 4 rfl rfl)
theorem dL_law_2428 : decode cL_law 2428 = .ok (.laload, 1) := dk_47 (dk_at dksL_law_93 5 rfl rfl)
theorem dL_law_2429 : decode cL_law 2429 = .ok (.lload 7, 2) := dk_22 7 (dk_at dksL_law_93 6 rfl rfl)
theorem dL_law_2431 : decode cL_law 2431 = .ok (.lcmp, 1) := dk_148 (dk_at dksL_law_93 8 rfl rfl)
theorem dL_law_2432 : decode cL_law 2432 = .ok (.ifCond .eq 5, 3) := dk_153 0 5 (dk_at dksL_law_93 9 rfl rfl)
theorem dL_law_2435 : decode cL_law 2435 = .ok (.iconst 0, 1) := dk_3 (dk_at dksL_law_93 12 rfl rfl)
theorem dL_law_2436 : decode cL_law 2436 = .ok (.ireturn, 1) := dk_172 (dk_at dksL_law_93 13 rfl rfl)
theorem dL_law_2437 : decode cL_law 2437 = .ok (.goto 1277, 3) := dk_167 4 253 (dk_at dksL_law_93 14 rfl rfl)
theorem dL_law_2440 : decode cL_law 2440 = .ok (.aload_n 1, 1) := dk_43 (dk_at dksL_law_93 17 rfl rfl)
theorem dL_law_2441 : decode cL_law 2441 = .ok (.aload_n 0, 1) := dk_42 (dk_at dksL_law_93 18 rfl rfl)
theorem dL_law_2442 : decode cL_law 2442 = .ok (.iload 5, 2) := dk_21 5 (dk_at dksL_law_93 19 rfl rfl)
theorem dL_law_2444 : decode cL_law 2444 = .ok (.iconst 1, 1) := dk_4 (dk_at dksL_law_93 21 rfl rfl)
theorem dL_law_2445 : decode cL_law 2445 = .ok (.iadd, 1) := dk_96 (dk_at dksL_law_93 22 rfl rfl)
theorem dL_law_2446 : decode cL_law 2446 = .ok (.iaload, 1) := dk_46 (dk_at dksL_law_93 23 rfl rfl)
theorem dL_law_2447 : decode cL_law 2447 = .ok (.aload_n 0, 1) := dk_42 (dk_at dksL_law_94 0 rfl rfl)
theorem dL_law_2448 : decode cL_law 2448 = .ok (.iload 5, 2) := dk_21 5 (dk_at dksL_law_94 1 rfl rfl)
theorem dL_law_2450 : decode cL_law 2450 = .ok (.iconst 2, 1) := dk_5 (dk_at dksL_law_94 3 rfl rfl)
theorem dL_law_2451 : decode cL_law 2451 = .ok (.iadd, 1) := dk_96 (dk_at dksL_law_94 4 rfl rfl)
theorem dL_law_2452 : decode cL_law 2452 = .ok (.iaload, 1) := dk_46 (dk_at dksL_law_94 5 rfl rfl)
theorem dL_law_2453 : decode cL_law 2453 = .ok (.aload_n 3, 1) := dk_45 (dk_at dksL_law_94 6 rfl rfl)
theorem dL_law_2454 : decode cL_law 2454 = .ok (.invokestatic 314, 3) := dk_184 1 58 (dk_at dksL_law_94 7 rfl rfl)
theorem dL_law_2457 : decode cL_law 2457 = .ok (.istore 6, 2) := dk_54 6 (dk_at dksL_law_94 10 rfl rfl)
theorem dL_law_2459 : decode cL_law 2459 = .ok (.aload_n 2, 1) := dk_44 (dk_at dksL_law_94 12 rfl rfl)
theorem dL_law_2460 : decode cL_law 2460 = .ok (.aload_n 0, 1) := dk_42 (dk_at dksL_law_94 13 rfl rfl)
theorem dL_law_2461 : decode cL_law 2461 = .ok (.iload 5, 2) := dk_21 5 (dk_at dksL_law_94 14 rfl rfl)
theorem dL_law_2463 : decode cL_law 2463 = .ok (.iconst 1, 1) := dk_4 (dk_at dksL_law_94 16 rfl rfl)
theorem dL_law_2464 : decode cL_law 2464 = .ok (.iadd, 1) := dk_96 (dk_at dksL_law_94 17 rfl rfl)
theorem dL_law_2465 : decode cL_law 2465 = .ok (.iaload, 1) := dk_46 (dk_at dksL_law_94 18 rfl rfl)
theorem dL_law_2466 : decode cL_law 2466 = .ok (.aload_n 0, 1) := dk_42 (dk_at dksL_law_94 19 rfl rfl)
theorem dL_law_2467 : decode cL_law 2467 = .ok (.iload 5, 2) := dk_21 5 (dk_at dksL_law_94 20 rfl rfl)
theorem dL_law_2469 : decode cL_law 2469 = .ok (.iconst 2, 1) := dk_5 (dk_at dksL_law_94 22 rfl rfl)
theorem dL_law_2470 : decode cL_law 2470 = .ok (.iadd, 1) := dk_96 (dk_at dksL_law_94 23 rfl rfl)
theorem dL_law_2471 : decode cL_law 2471 = .ok (.iaload, 1) := dk_46 (dk_at dksL_law_95 0 rfl rfl)
theorem dL_law_2472 : decode cL_law 2472 = .ok (.invokevirtual 316, 3) := dk_182 1 60 (dk_at dksL_law_95 1 rfl rfl)
theorem dL_law_2475 : decode cL_law 2475 = .ok (.lstore 7, 2) := dk_55 7 (dk_at dksL_law_95 4 rfl rfl)
theorem dL_law_2477 : decode cL_law 2477 = .ok (.aload_n 2, 1) := dk_44 (dk_at dksL_law_95 6 rfl rfl)
theorem dL_law_2478 : decode cL_law 2478 = .ok (.invokevirtual 191, 3) := dk_182 0 191 (dk_at dksL_law_95 7 rfl rfl)
theorem dL_law_2481 : decode cL_law 2481 = .ok (.iload 6, 2) := dk_21 6 (dk_at dksL_law_95 10 rfl rfl)
theorem dL_law_2483 : decode cL_law 2483 = .ok (.if_icmp .eq 5, 3) := dk_159 0 5 (dk_at dksL_law_95 12 rfl rfl)
theorem dL_law_2486 : decode cL_law 2486 = .ok (.iconst 0, 1) := dk_3 (dk_at dksL_law_95 15 rfl rfl)
theorem dL_law_2487 : decode cL_law 2487 = .ok (.ireturn, 1) := dk_172 (dk_at dksL_law_95 16 rfl rfl)
theorem dL_law_2488 : decode cL_law 2488 = .ok (.iload 6, 2) := dk_21 6 (dk_at dksL_law_95 17 rfl rfl)
theorem dL_law_2490 : decode cL_law 2490 = .ok (.ifCond .ne 14, 3) := dk_154 0 14 (dk_at dksL_law_95 19 rfl rfl)
theorem dL_law_2493 : decode cL_law 2493 = .ok (.aload_n 3, 1) := dk_45 (dk_at dksL_law_95 22 rfl rfl)
theorem dL_law_2494 : decode cL_law 2494 = .ok (.iconst 0, 1) := dk_3 (dk_at dksL_law_95 23 rfl rfl)
theorem dL_law_2495 : decode cL_law 2495 = .ok (.laload, 1) := dk_47 (dk_at dksL_law_96 0 rfl rfl)
theorem dL_law_2496 : decode cL_law 2496 = .ok (.lload 7, 2) := dk_22 7 (dk_at dksL_law_96 1 rfl rfl)
theorem dL_law_2498 : decode cL_law 2498 = .ok (.lcmp, 1) := dk_148 (dk_at dksL_law_96 3 rfl rfl)
theorem dL_law_2499 : decode cL_law 2499 = .ok (.ifCond .eq 5, 3) := dk_153 0 5 (dk_at dksL_law_96 4 rfl rfl)
theorem dL_law_2502 : decode cL_law 2502 = .ok (.iconst 0, 1) := dk_3 (dk_at dksL_law_96 7 rfl rfl)
theorem dL_law_2503 : decode cL_law 2503 = .ok (.ireturn, 1) := dk_172 (dk_at dksL_law_96 8 rfl rfl)
theorem dL_law_2504 : decode cL_law 2504 = .ok (.goto 1210, 3) := dk_167 4 186 (dk_at dksL_law_96 9 rfl rfl)
theorem dL_law_2507 : decode cL_law 2507 = .ok (.aload_n 1, 1) := dk_43 (dk_at dksL_law_96 12 rfl rfl)
theorem dL_law_2508 : decode cL_law 2508 = .ok (.aload_n 0, 1) := dk_42 (dk_at dksL_law_96 13 rfl rfl)
theorem dL_law_2509 : decode cL_law 2509 = .ok (.iload 5, 2) := dk_21 5 (dk_at dksL_law_96 14 rfl rfl)
theorem dL_law_2511 : decode cL_law 2511 = .ok (.iconst 1, 1) := dk_4 (dk_at dksL_law_96 16 rfl rfl)
theorem dL_law_2512 : decode cL_law 2512 = .ok (.iadd, 1) := dk_96 (dk_at dksL_law_96 17 rfl rfl)
theorem dL_law_2513 : decode cL_law 2513 = .ok (.iaload, 1) := dk_46 (dk_at dksL_law_96 18 rfl rfl)
theorem dL_law_2514 : decode cL_law 2514 = .ok (.aload_n 0, 1) := dk_42 (dk_at dksL_law_96 19 rfl rfl)
theorem dL_law_2515 : decode cL_law 2515 = .ok (.iload 5, 2) := dk_21 5 (dk_at dksL_law_96 20 rfl rfl)
theorem dL_law_2517 : decode cL_law 2517 = .ok (.iconst 2, 1) := dk_5 (dk_at dksL_law_96 22 rfl rfl)
theorem dL_law_2518 : decode cL_law 2518 = .ok (.iadd, 1) := dk_96 (dk_at dksL_law_96 23 rfl rfl)
theorem dL_law_2519 : decode cL_law 2519 = .ok (.iaload, 1) := dk_46 (dk_at dksL_law_97 0 rfl rfl)
theorem dL_law_2520 : decode cL_law 2520 = .ok (.aload_n 0, 1) := dk_42 (dk_at dksL_law_97 1 rfl rfl)
theorem dL_law_2521 : decode cL_law 2521 = .ok (.iload 5, 2) := dk_21 5 (dk_at dksL_law_97 2 rfl rfl)
theorem dL_law_2523 : decode cL_law 2523 = .ok (.iconst 3, 1) := dk_6 (dk_at dksL_law_97 4 rfl rfl)
theorem dL_law_2524 : decode cL_law 2524 = .ok (.iadd, 1) := dk_96 (dk_at dksL_law_97 5 rfl rfl)
theorem dL_law_2525 : decode cL_law 2525 = .ok (.iaload, 1) := dk_46 (dk_at dksL_law_97 6 rfl rfl)
theorem dL_law_2526 : decode cL_law 2526 = .ok (.aload_n 0, 1) := dk_42 (dk_at dksL_law_97 7 rfl rfl)
theorem dL_law_2527 : decode cL_law 2527 = .ok (.iload 5, 2) := dk_21 5 (dk_at dksL_law_97 8 rfl rfl)
theorem dL_law_2529 : decode cL_law 2529 = .ok (.iconst 4, 1) := dk_7 (dk_at dksL_law_97 10 rfl rfl)
theorem dL_law_2530 : decode cL_law 2530 = .ok (.iadd, 1) := dk_96 (dk_at dksL_law_97 11 rfl rfl)
theorem dL_law_2531 : decode cL_law 2531 = .ok (.iaload, 1) := dk_46 (dk_at dksL_law_97 12 rfl rfl)
theorem dL_law_2532 : decode cL_law 2532 = .ok (.aload_n 3, 1) := dk_45 (dk_at dksL_law_97 13 rfl rfl)
theorem dL_law_2533 : decode cL_law 2533 = .ok (.invokestatic 317, 3) := dk_184 1 61 (dk_at dksL_law_97 14 rfl rfl)
theorem dL_law_2536 : decode cL_law 2536 = .ok (.istore 6, 2) := dk_54 6 (dk_at dksL_law_97 17 rfl rfl)
theorem dL_law_2538 : decode cL_law 2538 = .ok (.aload_n 2, 1) := dk_44 (dk_at dksL_law_97 19 rfl rfl)
theorem dL_law_2539 : decode cL_law 2539 = .ok (.aload_n 0, 1) := dk_42 (dk_at dksL_law_97 20 rfl rfl)
theorem dL_law_2540 : decode cL_law 2540 = .ok (.iload 5, 2) := dk_21 5 (dk_at dksL_law_97 21 rfl rfl)
theorem dL_law_2542 : decode cL_law 2542 = .ok (.iconst 1, 1) := dk_4 (dk_at dksL_law_97 23 rfl rfl)
theorem dL_law_2543 : decode cL_law 2543 = .ok (.iadd, 1) := dk_96 (dk_at dksL_law_98 0 rfl rfl)
theorem dL_law_2544 : decode cL_law 2544 = .ok (.iaload, 1) := dk_46 (dk_at dksL_law_98 1 rfl rfl)
theorem dL_law_2545 : decode cL_law 2545 = .ok (.aload_n 0, 1) := dk_42 (dk_at dksL_law_98 2 rfl rfl)
theorem dL_law_2546 : decode cL_law 2546 = .ok (.iload 5, 2) := dk_21 5 (dk_at dksL_law_98 3 rfl rfl)
theorem dL_law_2548 : decode cL_law 2548 = .ok (.iconst 2, 1) := dk_5 (dk_at dksL_law_98 5 rfl rfl)
theorem dL_law_2549 : decode cL_law 2549 = .ok (.iadd, 1) := dk_96 (dk_at dksL_law_98 6 rfl rfl)
theorem dL_law_2550 : decode cL_law 2550 = .ok (.iaload, 1) := dk_46 (dk_at dksL_law_98 7 rfl rfl)
theorem dL_law_2551 : decode cL_law 2551 = .ok (.aload_n 0, 1) := dk_42 (dk_at dksL_law_98 8 rfl rfl)
theorem dL_law_2552 : decode cL_law 2552 = .ok (.iload 5, 2) := dk_21 5 (dk_at dksL_law_98 9 rfl rfl)
theorem dL_law_2554 : decode cL_law 2554 = .ok (.iconst 3, 1) := dk_6 (dk_at dksL_law_98 11 rfl rfl)
theorem dL_law_2555 : decode cL_law 2555 = .ok (.iadd, 1) := dk_96 (dk_at dksL_law_98 12 rfl rfl)
theorem dL_law_2556 : decode cL_law 2556 = .ok (.iaload, 1) := dk_46 (dk_at dksL_law_98 13 rfl rfl)
theorem dL_law_2557 : decode cL_law 2557 = .ok (.aload_n 0, 1) := dk_42 (dk_at dksL_law_98 14 rfl rfl)
theorem dL_law_2558 : decode cL_law 2558 = .ok (.iload 5, 2) := dk_21 5 (dk_at dksL_law_98 15 rfl rfl)
theorem dL_law_2560 : decode cL_law 2560 = .ok (.iconst 4, 1) := dk_7 (dk_at dksL_law_98 17 rfl rfl)
theorem dL_law_2561 : decode cL_law 2561 = .ok (.iadd, 1) := dk_96 (dk_at dksL_law_98 18 rfl rfl)
theorem dL_law_2562 : decode cL_law 2562 = .ok (.iaload, 1) := dk_46 (dk_at dksL_law_98 19 rfl rfl)
theorem dL_law_2563 : decode cL_law 2563 = .ok (.invokevirtual 320, 3) := dk_182 1 64 (dk_at dksL_law_98 20 rfl rfl)
theorem dL_law_2566 : decode cL_law 2566 = .ok (.istore 7, 2) := dk_54 7 (dk_at dksL_law_99 0 rfl rfl)
theorem dL_law_2568 : decode cL_law 2568 = .ok (.aload_n 2, 1) := dk_44 (dk_at dksL_law_99 2 rfl rfl)
theorem dL_law_2569 : decode cL_law 2569 = .ok (.invokevirtual 191, 3) := dk_182 0 191 (dk_at dksL_law_99 3 rfl rfl)
theorem dL_law_2572 : decode cL_law 2572 = .ok (.iload 6, 2) := dk_21 6 (dk_at dksL_law_99 6 rfl rfl)
theorem dL_law_2574 : decode cL_law 2574 = .ok (.if_icmp .eq 5, 3) := dk_159 0 5 (dk_at dksL_law_99 8 rfl rfl)
theorem dL_law_2577 : decode cL_law 2577 = .ok (.iconst 0, 1) := dk_3 (dk_at dksL_law_99 11 rfl rfl)
theorem dL_law_2578 : decode cL_law 2578 = .ok (.ireturn, 1) := dk_172 (dk_at dksL_law_99 12 rfl rfl)
theorem dL_law_2579 : decode cL_law 2579 = .ok (.iload 6, 2) := dk_21 6 (dk_at dksL_law_99 13 rfl rfl)
theorem dL_law_2581 : decode cL_law 2581 = .ok (.ifCond .ne 15, 3) := dk_154 0 15 (dk_at dksL_law_99 15 rfl rfl)
theorem dL_law_2584 : decode cL_law 2584 = .ok (.aload_n 3, 1) := dk_45 (dk_at dksL_law_99 18 rfl rfl)
theorem dL_law_2585 : decode cL_law 2585 = .ok (.iconst 0, 1) := dk_3 (dk_at dksL_law_99 19 rfl rfl)
theorem dL_law_2586 : decode cL_law 2586 = .ok (.laload, 1) := dk_47 (dk_at dksL_law_99 20 rfl rfl)
theorem dL_law_2587 : decode cL_law 2587 = .ok (.iload 7, 2) := dk_21 7 (dk_at dksL_law_99 21 rfl rfl)
theorem dL_law_2589 : decode cL_law 2589 = .ok (.i2l, 1) := dk_133 (dk_at dksL_law_99 23 rfl rfl)
theorem dL_law_2590 : decode cL_law 2590 = .ok (.lcmp, 1) := dk_148 (dk_at dksL_law_100 0 rfl rfl)
theorem dL_law_2591 : decode cL_law 2591 = .ok (.ifCond .eq 5, 3) := dk_153 0 5 (dk_at dksL_law_100 1 rfl rfl)
theorem dL_law_2594 : decode cL_law 2594 = .ok (.iconst 0, 1) := dk_3 (dk_at dksL_law_100 4 rfl rfl)
theorem dL_law_2595 : decode cL_law 2595 = .ok (.ireturn, 1) := dk_172 (dk_at dksL_law_100 5 rfl rfl)
theorem dL_law_2596 : decode cL_law 2596 = .ok (.goto 1118, 3) := dk_167 4 94 (dk_at dksL_law_100 6 rfl rfl)
theorem dL_law_2599 : decode cL_law 2599 = .ok (.aload_n 1, 1) := dk_43 (dk_at dksL_law_100 9 rfl rfl)
theorem dL_law_2600 : decode cL_law 2600 = .ok (.aload_n 0, 1) := dk_42 (dk_at dksL_law_100 10 rfl rfl)
theorem dL_law_2601 : decode cL_law 2601 = .ok (.iload 5, 2) := dk_21 5 (dk_at dksL_law_100 11 rfl rfl)
theorem dL_law_2603 : decode cL_law 2603 = .ok (.iconst 1, 1) := dk_4 (dk_at dksL_law_100 13 rfl rfl)
theorem dL_law_2604 : decode cL_law 2604 = .ok (.iadd, 1) := dk_96 (dk_at dksL_law_100 14 rfl rfl)
theorem dL_law_2605 : decode cL_law 2605 = .ok (.iaload, 1) := dk_46 (dk_at dksL_law_100 15 rfl rfl)
theorem dL_law_2606 : decode cL_law 2606 = .ok (.aload_n 0, 1) := dk_42 (dk_at dksL_law_100 16 rfl rfl)
theorem dL_law_2607 : decode cL_law 2607 = .ok (.iload 5, 2) := dk_21 5 (dk_at dksL_law_100 17 rfl rfl)
theorem dL_law_2609 : decode cL_law 2609 = .ok (.iconst 2, 1) := dk_5 (dk_at dksL_law_100 19 rfl rfl)
theorem dL_law_2610 : decode cL_law 2610 = .ok (.iadd, 1) := dk_96 (dk_at dksL_law_100 20 rfl rfl)
theorem dL_law_2611 : decode cL_law 2611 = .ok (.iaload, 1) := dk_46 (dk_at dksL_law_100 21 rfl rfl)
theorem dL_law_2612 : decode cL_law 2612 = .ok (.aload_n 3, 1) := dk_45 (dk_at dksL_law_100 22 rfl rfl)
theorem dL_law_2613 : decode cL_law 2613 = .ok (.invokestatic 321, 3) := dk_184 1 65 (dk_at dksL_law_101 0 rfl rfl)
theorem dL_law_2616 : decode cL_law 2616 = .ok (.istore 6, 2) := dk_54 6 (dk_at dksL_law_101 3 rfl rfl)
theorem dL_law_2618 : decode cL_law 2618 = .ok (.aload_n 2, 1) := dk_44 (dk_at dksL_law_101 5 rfl rfl)
theorem dL_law_2619 : decode cL_law 2619 = .ok (.aload_n 0, 1) := dk_42 (dk_at dksL_law_101 6 rfl rfl)
theorem dL_law_2620 : decode cL_law 2620 = .ok (.iload 5, 2) := dk_21 5 (dk_at dksL_law_101 7 rfl rfl)
theorem dL_law_2622 : decode cL_law 2622 = .ok (.iconst 1, 1) := dk_4 (dk_at dksL_law_101 9 rfl rfl)
theorem dL_law_2623 : decode cL_law 2623 = .ok (.iadd, 1) := dk_96 (dk_at dksL_law_101 10 rfl rfl)
theorem dL_law_2624 : decode cL_law 2624 = .ok (.iaload, 1) := dk_46 (dk_at dksL_law_101 11 rfl rfl)
theorem dL_law_2625 : decode cL_law 2625 = .ok (.aload_n 0, 1) := dk_42 (dk_at dksL_law_101 12 rfl rfl)
theorem dL_law_2626 : decode cL_law 2626 = .ok (.iload 5, 2) := dk_21 5 (dk_at dksL_law_101 13 rfl rfl)
theorem dL_law_2628 : decode cL_law 2628 = .ok (.iconst 2, 1) := dk_5 (dk_at dksL_law_101 15 rfl rfl)
theorem dL_law_2629 : decode cL_law 2629 = .ok (.iadd, 1) := dk_96 (dk_at dksL_law_101 16 rfl rfl)
theorem dL_law_2630 : decode cL_law 2630 = .ok (.iaload, 1) := dk_46 (dk_at dksL_law_101 17 rfl rfl)
theorem dL_law_2631 : decode cL_law 2631 = .ok (.invokevirtual 323, 3) := dk_182 1 67 (dk_at dksL_law_101 18 rfl rfl)
theorem dL_law_2634 : decode cL_law 2634 = .ok (.istore 7, 2) := dk_54 7 (dk_at dksL_law_101 21 rfl rfl)
theorem dL_law_2636 : decode cL_law 2636 = .ok (.aload_n 2, 1) := dk_44 (dk_at dksL_law_101 23 rfl rfl)
theorem dL_law_2637 : decode cL_law 2637 = .ok (.invokevirtual 191, 3) := dk_182 0 191 (dk_at dksL_law_102 0 rfl rfl)
theorem dL_law_2640 : decode cL_law 2640 = .ok (.iload 6, 2) := dk_21 6 (dk_at dksL_law_102 3 rfl rfl)
theorem dL_law_2642 : decode cL_law 2642 = .ok (.if_icmp .eq 5, 3) := dk_159 0 5 (dk_at dksL_law_102 5 rfl rfl)
theorem dL_law_2645 : decode cL_law 2645 = .ok (.iconst 0, 1) := dk_3 (dk_at dksL_law_102 8 rfl rfl)
theorem dL_law_2646 : decode cL_law 2646 = .ok (.ireturn, 1) := dk_172 (dk_at dksL_law_102 9 rfl rfl)
theorem dL_law_2647 : decode cL_law 2647 = .ok (.iload 6, 2) := dk_21 6 (dk_at dksL_law_102 10 rfl rfl)
theorem dL_law_2649 : decode cL_law 2649 = .ok (.ifCond .ne 15, 3) := dk_154 0 15 (dk_at dksL_law_102 12 rfl rfl)
theorem dL_law_2652 : decode cL_law 2652 = .ok (.aload_n 3, 1) := dk_45 (dk_at dksL_law_102 15 rfl rfl)
theorem dL_law_2653 : decode cL_law 2653 = .ok (.iconst 0, 1) := dk_3 (dk_at dksL_law_102 16 rfl rfl)
theorem dL_law_2654 : decode cL_law 2654 = .ok (.laload, 1) := dk_47 (dk_at dksL_law_102 17 rfl rfl)
theorem dL_law_2655 : decode cL_law 2655 = .ok (.iload 7, 2) := dk_21 7 (dk_at dksL_law_102 18 rfl rfl)
theorem dL_law_2657 : decode cL_law 2657 = .ok (.i2l, 1) := dk_133 (dk_at dksL_law_102 20 rfl rfl)
theorem dL_law_2658 : decode cL_law 2658 = .ok (.lcmp, 1) := dk_148 (dk_at dksL_law_102 21 rfl rfl)
theorem dL_law_2659 : decode cL_law 2659 = .ok (.ifCond .eq 5, 3) := dk_153 0 5 (dk_at dksL_law_103 0 rfl rfl)
theorem dL_law_2662 : decode cL_law 2662 = .ok (.iconst 0, 1) := dk_3 (dk_at dksL_law_103 3 rfl rfl)
theorem dL_law_2663 : decode cL_law 2663 = .ok (.ireturn, 1) := dk_172 (dk_at dksL_law_103 4 rfl rfl)
theorem dL_law_2664 : decode cL_law 2664 = .ok (.goto 1050, 3) := dk_167 4 26 (dk_at dksL_law_103 5 rfl rfl)
theorem dL_law_2667 : decode cL_law 2667 = .ok (.aload_n 1, 1) := dk_43 (dk_at dksL_law_103 8 rfl rfl)
theorem dL_law_2668 : decode cL_law 2668 = .ok (.aload_n 0, 1) := dk_42 (dk_at dksL_law_103 9 rfl rfl)
theorem dL_law_2669 : decode cL_law 2669 = .ok (.iload 5, 2) := dk_21 5 (dk_at dksL_law_103 10 rfl rfl)
theorem dL_law_2671 : decode cL_law 2671 = .ok (.iconst 1, 1) := dk_4 (dk_at dksL_law_103 12 rfl rfl)
theorem dL_law_2672 : decode cL_law 2672 = .ok (.iadd, 1) := dk_96 (dk_at dksL_law_103 13 rfl rfl)
theorem dL_law_2673 : decode cL_law 2673 = .ok (.iaload, 1) := dk_46 (dk_at dksL_law_103 14 rfl rfl)
theorem dL_law_2674 : decode cL_law 2674 = .ok (.aload_n 0, 1) := dk_42 (dk_at dksL_law_103 15 rfl rfl)
theorem dL_law_2675 : decode cL_law 2675 = .ok (.iload 5, 2) := dk_21 5 (dk_at dksL_law_103 16 rfl rfl)
theorem dL_law_2677 : decode cL_law 2677 = .ok (.iconst 2, 1) := dk_5 (dk_at dksL_law_103 18 rfl rfl)
theorem dL_law_2678 : decode cL_law 2678 = .ok (.iadd, 1) := dk_96 (dk_at dksL_law_103 19 rfl rfl)
theorem dL_law_2679 : decode cL_law 2679 = .ok (.iaload, 1) := dk_46 (dk_at dksL_law_103 20 rfl rfl)
theorem dL_law_2680 : decode cL_law 2680 = .ok (.aload_n 3, 1) := dk_45 (dk_at dksL_law_103 21 rfl rfl)
theorem dL_law_2681 : decode cL_law 2681 = .ok (.invokestatic 324, 3) := dk_184 1 68 (dk_at dksL_law_104 0 rfl rfl)
theorem dL_law_2684 : decode cL_law 2684 = .ok (.istore 6, 2) := dk_54 6 (dk_at dksL_law_104 3 rfl rfl)
theorem dL_law_2686 : decode cL_law 2686 = .ok (.aload_n 2, 1) := dk_44 (dk_at dksL_law_104 5 rfl rfl)
theorem dL_law_2687 : decode cL_law 2687 = .ok (.aload_n 0, 1) := dk_42 (dk_at dksL_law_104 6 rfl rfl)
theorem dL_law_2688 : decode cL_law 2688 = .ok (.iload 5, 2) := dk_21 5 (dk_at dksL_law_104 7 rfl rfl)
theorem dL_law_2690 : decode cL_law 2690 = .ok (.iconst 1, 1) := dk_4 (dk_at dksL_law_104 9 rfl rfl)
theorem dL_law_2691 : decode cL_law 2691 = .ok (.iadd, 1) := dk_96 (dk_at dksL_law_104 10 rfl rfl)
theorem dL_law_2692 : decode cL_law 2692 = .ok (.iaload, 1) := dk_46 (dk_at dksL_law_104 11 rfl rfl)
theorem dL_law_2693 : decode cL_law 2693 = .ok (.aload_n 0, 1) := dk_42 (dk_at dksL_law_104 12 rfl rfl)
theorem dL_law_2694 : decode cL_law 2694 = .ok (.iload 5, 2) := dk_21 5 (dk_at dksL_law_104 13 rfl rfl)
theorem dL_law_2696 : decode cL_law 2696 = .ok (.iconst 2, 1) := dk_5 (dk_at dksL_law_104 15 rfl rfl)
theorem dL_law_2697 : decode cL_law 2697 = .ok (.iadd, 1) := dk_96 (dk_at dksL_law_104 16 rfl rfl)
theorem dL_law_2698 : decode cL_law 2698 = .ok (.iaload, 1) := dk_46 (dk_at dksL_law_104 17 rfl rfl)
theorem dL_law_2699 : decode cL_law 2699 = .ok (.invokevirtual 326, 3) := dk_182 1 70 (dk_at dksL_law_104 18 rfl rfl)
theorem dL_law_2702 : decode cL_law 2702 = .ok (.istore 7, 2) := dk_54 7 (dk_at dksL_law_104 21 rfl rfl)
theorem dL_law_2704 : decode cL_law 2704 = .ok (.aload_n 2, 1) := dk_44 (dk_at dksL_law_104 23 rfl rfl)
theorem dL_law_2705 : decode cL_law 2705 = .ok (.invokevirtual 191, 3) := dk_182 0 191 (dk_at dksL_law_105 0 rfl rfl)
theorem dL_law_2708 : decode cL_law 2708 = .ok (.iload 6, 2) := dk_21 6 (dk_at dksL_law_105 3 rfl rfl)
theorem dL_law_2710 : decode cL_law 2710 = .ok (.if_icmp .eq 5, 3) := dk_159 0 5 (dk_at dksL_law_105 5 rfl rfl)
theorem dL_law_2713 : decode cL_law 2713 = .ok (.iconst 0, 1) := dk_3 (dk_at dksL_law_105 8 rfl rfl)
theorem dL_law_2714 : decode cL_law 2714 = .ok (.ireturn, 1) := dk_172 (dk_at dksL_law_105 9 rfl rfl)
theorem dL_law_2715 : decode cL_law 2715 = .ok (.iload 6, 2) := dk_21 6 (dk_at dksL_law_105 10 rfl rfl)
theorem dL_law_2717 : decode cL_law 2717 = .ok (.ifCond .ne 15, 3) := dk_154 0 15 (dk_at dksL_law_105 12 rfl rfl)
theorem dL_law_2720 : decode cL_law 2720 = .ok (.aload_n 3, 1) := dk_45 (dk_at dksL_law_105 15 rfl rfl)
theorem dL_law_2721 : decode cL_law 2721 = .ok (.iconst 0, 1) := dk_3 (dk_at dksL_law_105 16 rfl rfl)
theorem dL_law_2722 : decode cL_law 2722 = .ok (.laload, 1) := dk_47 (dk_at dksL_law_105 17 rfl rfl)
theorem dL_law_2723 : decode cL_law 2723 = .ok (.iload 7, 2) := dk_21 7 (dk_at dksL_law_105 18 rfl rfl)
theorem dL_law_2725 : decode cL_law 2725 = .ok (.i2l, 1) := dk_133 (dk_at dksL_law_105 20 rfl rfl)
theorem dL_law_2726 : decode cL_law 2726 = .ok (.lcmp, 1) := dk_148 (dk_at dksL_law_105 21 rfl rfl)
theorem dL_law_2727 : decode cL_law 2727 = .ok (.ifCond .eq 5, 3) := dk_153 0 5 (dk_at dksL_law_106 0 rfl rfl)
theorem dL_law_2730 : decode cL_law 2730 = .ok (.iconst 0, 1) := dk_3 (dk_at dksL_law_106 3 rfl rfl)
theorem dL_law_2731 : decode cL_law 2731 = .ok (.ireturn, 1) := dk_172 (dk_at dksL_law_106 4 rfl rfl)
theorem dL_law_2732 : decode cL_law 2732 = .ok (.goto 982, 3) := dk_167 3 214 (dk_at dksL_law_106 5 rfl rfl)
theorem dL_law_2735 : decode cL_law 2735 = .ok (.aload_n 1, 1) := dk_43 (dk_at dksL_law_106 8 rfl rfl)
theorem dL_law_2736 : decode cL_law 2736 = .ok (.invokevirtual 327, 3) := dk_182 1 71 (dk_at dksL_law_106 9 rfl rfl)
theorem dL_law_2739 : decode cL_law 2739 = .ok (.aload_n 2, 1) := dk_44 (dk_at dksL_law_106 12 rfl rfl)
theorem dL_law_2740 : decode cL_law 2740 = .ok (.invokevirtual 330, 3) := dk_182 1 74 (dk_at dksL_law_106 13 rfl rfl)
theorem dL_law_2743 : decode cL_law 2743 = .ok (.if_icmp .eq 971, 3) := dk_159 3 203 (dk_at dksL_law_106 16 rfl rfl)
theorem dL_law_2746 : decode cL_law 2746 = .ok (.iconst 0, 1) := dk_3 (dk_at dksL_law_106 19 rfl rfl)
theorem dL_law_2747 : decode cL_law 2747 = .ok (.ireturn, 1) := dk_172 (dk_at dksL_law_106 20 rfl rfl)
theorem dL_law_2748 : decode cL_law 2748 = .ok (.aload_n 1, 1) := dk_43 (dk_at dksL_law_106 21 rfl rfl)
theorem dL_law_2749 : decode cL_law 2749 = .ok (.invokevirtual 331, 3) := dk_182 1 75 (dk_at dksL_law_107 0 rfl rfl)
theorem dL_law_2752 : decode cL_law 2752 = .ok (.aload_n 2, 1) := dk_44 (dk_at dksL_law_107 3 rfl rfl)
theorem dL_law_2753 : decode cL_law 2753 = .ok (.invokevirtual 334, 3) := dk_182 1 78 (dk_at dksL_law_107 4 rfl rfl)
theorem dL_law_2756 : decode cL_law 2756 = .ok (.if_icmp .eq 958, 3) := dk_159 3 190 (dk_at dksL_law_107 7 rfl rfl)
theorem dL_law_2759 : decode cL_law 2759 = .ok (.iconst 0, 1) := dk_3 (dk_at dksL_law_107 10 rfl rfl)
theorem dL_law_2760 : decode cL_law 2760 = .ok (.ireturn, 1) := dk_172 (dk_at dksL_law_107 11 rfl rfl)
theorem dL_law_2761 : decode cL_law 2761 = .ok (.aload_n 1, 1) := dk_43 (dk_at dksL_law_107 12 rfl rfl)
theorem dL_law_2762 : decode cL_law 2762 = .ok (.invokevirtual 335, 3) := dk_182 1 79 (dk_at dksL_law_107 13 rfl rfl)
theorem dL_law_2765 : decode cL_law 2765 = .ok (.aload_n 2, 1) := dk_44 (dk_at dksL_law_107 16 rfl rfl)
theorem dL_law_2766 : decode cL_law 2766 = .ok (.invokevirtual 338, 3) := dk_182 1 82 (dk_at dksL_law_107 17 rfl rfl)
theorem dL_law_2769 : decode cL_law 2769 = .ok (.if_icmp .eq 945, 3) := dk_159 3 177 (dk_at dksL_law_107 20 rfl rfl)
theorem dL_law_2772 : decode cL_law 2772 = .ok (.iconst 0, 1) := dk_3 (dk_at dksL_law_107 23 rfl rfl)
theorem dL_law_2773 : decode cL_law 2773 = .ok (.ireturn, 1) := dk_172 (dk_at dksL_law_108 0 rfl rfl)
theorem dL_law_2774 : decode cL_law 2774 = .ok (.aload_n 1, 1) := dk_43 (dk_at dksL_law_108 1 rfl rfl)
theorem dL_law_2775 : decode cL_law 2775 = .ok (.aload_n 0, 1) := dk_42 (dk_at dksL_law_108 2 rfl rfl)
theorem dL_law_2776 : decode cL_law 2776 = .ok (.iload 5, 2) := dk_21 5 (dk_at dksL_law_108 3 rfl rfl)
theorem dL_law_2778 : decode cL_law 2778 = .ok (.iconst 1, 1) := dk_4 (dk_at dksL_law_108 5 rfl rfl)
theorem dL_law_2779 : decode cL_law 2779 = .ok (.iadd, 1) := dk_96 (dk_at dksL_law_108 6 rfl rfl)
theorem dL_law_2780 : decode cL_law 2780 = .ok (.iaload, 1) := dk_46 (dk_at dksL_law_108 7 rfl rfl)
theorem dL_law_2781 : decode cL_law 2781 = .ok (.aload_n 0, 1) := dk_42 (dk_at dksL_law_108 8 rfl rfl)
theorem dL_law_2782 : decode cL_law 2782 = .ok (.iload 5, 2) := dk_21 5 (dk_at dksL_law_108 9 rfl rfl)
theorem dL_law_2784 : decode cL_law 2784 = .ok (.iconst 2, 1) := dk_5 (dk_at dksL_law_108 11 rfl rfl)
theorem dL_law_2785 : decode cL_law 2785 = .ok (.iadd, 1) := dk_96 (dk_at dksL_law_108 12 rfl rfl)
theorem dL_law_2786 : decode cL_law 2786 = .ok (.iaload, 1) := dk_46 (dk_at dksL_law_108 13 rfl rfl)
theorem dL_law_2787 : decode cL_law 2787 = .ok (.aload_n 0, 1) := dk_42 (dk_at dksL_law_108 14 rfl rfl)
theorem dL_law_2788 : decode cL_law 2788 = .ok (.iload 5, 2) := dk_21 5 (dk_at dksL_law_108 15 rfl rfl)
theorem dL_law_2790 : decode cL_law 2790 = .ok (.iconst 3, 1) := dk_6 (dk_at dksL_law_108 17 rfl rfl)
theorem dL_law_2791 : decode cL_law 2791 = .ok (.iadd, 1) := dk_96 (dk_at dksL_law_108 18 rfl rfl)
theorem dL_law_2792 : decode cL_law 2792 = .ok (.iaload, 1) := dk_46 (dk_at dksL_law_108 19 rfl rfl)
theorem dL_law_2793 : decode cL_law 2793 = .ok (.aload_n 3, 1) := dk_45 (dk_at dksL_law_108 20 rfl rfl)
theorem dL_law_2794 : decode cL_law 2794 = .ok (.invokestatic 339, 3) := dk_184 1 83 (dk_at dksL_law_108 21 rfl rfl)
theorem dL_law_2797 : decode cL_law 2797 = .ok (.istore 6, 2) := dk_54 6 (dk_at dksL_law_109 0 rfl rfl)
theorem dL_law_2799 : decode cL_law 2799 = .ok (.aload_n 2, 1) := dk_44 (dk_at dksL_law_109 2 rfl rfl)
theorem dL_law_2800 : decode cL_law 2800 = .ok (.aload_n 0, 1) := dk_42 (dk_at dksL_law_109 3 rfl rfl)
theorem dL_law_2801 : decode cL_law 2801 = .ok (.iload 5, 2) := dk_21 5 (dk_at dksL_law_109 4 rfl rfl)
theorem dL_law_2803 : decode cL_law 2803 = .ok (.iconst 1, 1) := dk_4 (dk_at dksL_law_109 6 rfl rfl)
theorem dL_law_2804 : decode cL_law 2804 = .ok (.iadd, 1) := dk_96 (dk_at dksL_law_109 7 rfl rfl)
theorem dL_law_2805 : decode cL_law 2805 = .ok (.iaload, 1) := dk_46 (dk_at dksL_law_109 8 rfl rfl)
theorem dL_law_2806 : decode cL_law 2806 = .ok (.aload_n 0, 1) := dk_42 (dk_at dksL_law_109 9 rfl rfl)
theorem dL_law_2807 : decode cL_law 2807 = .ok (.iload 5, 2) := dk_21 5 (dk_at dksL_law_109 10 rfl rfl)
theorem dL_law_2809 : decode cL_law 2809 = .ok (.iconst 2, 1) := dk_5 (dk_at dksL_law_109 12 rfl rfl)
theorem dL_law_2810 : decode cL_law 2810 = .ok (.iadd, 1) := dk_96 (dk_at dksL_law_109 13 rfl rfl)
theorem dL_law_2811 : decode cL_law 2811 = .ok (.iaload, 1) := dk_46 (dk_at dksL_law_109 14 rfl rfl)
theorem dL_law_2812 : decode cL_law 2812 = .ok (.aload_n 0, 1) := dk_42 (dk_at dksL_law_109 15 rfl rfl)
theorem dL_law_2813 : decode cL_law 2813 = .ok (.iload 5, 2) := dk_21 5 (dk_at dksL_law_109 16 rfl rfl)
theorem dL_law_2815 : decode cL_law 2815 = .ok (.iconst 3, 1) := dk_6 (dk_at dksL_law_109 18 rfl rfl)
theorem dL_law_2816 : decode cL_law 2816 = .ok (.iadd, 1) := dk_96 (dk_at dksL_law_109 19 rfl rfl)
theorem dL_law_2817 : decode cL_law 2817 = .ok (.iaload, 1) := dk_46 (dk_at dksL_law_109 20 rfl rfl)
theorem dL_law_2818 : decode cL_law 2818 = .ok (.invokevirtual 341, 3) := dk_182 1 85 (dk_at dksL_law_109 21 rfl rfl)
theorem dL_law_2821 : decode cL_law 2821 = .ok (.istore 7, 2) := dk_54 7 (dk_at dksL_law_110 0 rfl rfl)
theorem dL_law_2823 : decode cL_law 2823 = .ok (.aload_n 2, 1) := dk_44 (dk_at dksL_law_110 2 rfl rfl)
theorem dL_law_2824 : decode cL_law 2824 = .ok (.invokevirtual 191, 3) := dk_182 0 191 (dk_at dksL_law_110 3 rfl rfl)
theorem dL_law_2827 : decode cL_law 2827 = .ok (.iload 6, 2) := dk_21 6 (dk_at dksL_law_110 6 rfl rfl)
theorem dL_law_2829 : decode cL_law 2829 = .ok (.if_icmp .eq 5, 3) := dk_159 0 5 (dk_at dksL_law_110 8 rfl rfl)
theorem dL_law_2832 : decode cL_law 2832 = .ok (.iconst 0, 1) := dk_3 (dk_at dksL_law_110 11 rfl rfl)
theorem dL_law_2833 : decode cL_law 2833 = .ok (.ireturn, 1) := dk_172 (dk_at dksL_law_110 12 rfl rfl)
theorem dL_law_2834 : decode cL_law 2834 = .ok (.iload 6, 2) := dk_21 6 (dk_at dksL_law_110 13 rfl rfl)
theorem dL_law_2836 : decode cL_law 2836 = .ok (.ifCond .ne 15, 3) := dk_154 0 15 (dk_at dksL_law_110 15 rfl rfl)
theorem dL_law_2839 : decode cL_law 2839 = .ok (.aload_n 3, 1) := dk_45 (dk_at dksL_law_110 18 rfl rfl)
theorem dL_law_2840 : decode cL_law 2840 = .ok (.iconst 0, 1) := dk_3 (dk_at dksL_law_110 19 rfl rfl)
theorem dL_law_2841 : decode cL_law 2841 = .ok (.laload, 1) := dk_47 (dk_at dksL_law_110 20 rfl rfl)
theorem dL_law_2842 : decode cL_law 2842 = .ok (.iload 7, 2) := dk_21 7 (dk_at dksL_law_110 21 rfl rfl)
theorem dL_law_2844 : decode cL_law 2844 = .ok (.i2l, 1) := dk_133 (dk_at dksL_law_110 23 rfl rfl)
theorem dL_law_2845 : decode cL_law 2845 = .ok (.lcmp, 1) := dk_148 (dk_at dksL_law_111 0 rfl rfl)
theorem dL_law_2846 : decode cL_law 2846 = .ok (.ifCond .eq 5, 3) := dk_153 0 5 (dk_at dksL_law_111 1 rfl rfl)
theorem dL_law_2849 : decode cL_law 2849 = .ok (.iconst 0, 1) := dk_3 (dk_at dksL_law_111 4 rfl rfl)
theorem dL_law_2850 : decode cL_law 2850 = .ok (.ireturn, 1) := dk_172 (dk_at dksL_law_111 5 rfl rfl)
theorem dL_law_2851 : decode cL_law 2851 = .ok (.goto 863, 3) := dk_167 3 95 (dk_at dksL_law_111 6 rfl rfl)
theorem dL_law_2854 : decode cL_law 2854 = .ok (.aload_n 1, 1) := dk_43 (dk_at dksL_law_111 9 rfl rfl)
theorem dL_law_2855 : decode cL_law 2855 = .ok (.invokevirtual 342, 3) := dk_182 1 86 (dk_at dksL_law_111 10 rfl rfl)
theorem dL_law_2858 : decode cL_law 2858 = .ok (.aload_n 2, 1) := dk_44 (dk_at dksL_law_111 13 rfl rfl)
theorem dL_law_2859 : decode cL_law 2859 = .ok (.invokevirtual 345, 3) := dk_182 1 89 (dk_at dksL_law_111 14 rfl rfl)
theorem dL_law_2862 : decode cL_law 2862 = .ok (.if_icmp .eq 852, 3) := dk_159 3 84 (dk_at dksL_law_111 17 rfl rfl)
theorem dL_law_2865 : decode cL_law 2865 = .ok (.iconst 0, 1) := dk_3 (dk_at dksL_law_111 20 rfl rfl)
theorem dL_law_2866 : decode cL_law 2866 = .ok (.ireturn, 1) := dk_172 (dk_at dksL_law_111 21 rfl rfl)
theorem dL_law_2867 : decode cL_law 2867 = .ok (.aload_n 1, 1) := dk_43 (dk_at dksL_law_111 22 rfl rfl)
theorem dL_law_2868 : decode cL_law 2868 = .ok (.aload_n 0, 1) := dk_42 (dk_at dksL_law_111 23 rfl rfl)
theorem dL_law_2869 : decode cL_law 2869 = .ok (.iload 5, 2) := dk_21 5 (dk_at dksL_law_112 0 rfl rfl)
theorem dL_law_2871 : decode cL_law 2871 = .ok (.iconst 1, 1) := dk_4 (dk_at dksL_law_112 2 rfl rfl)
theorem dL_law_2872 : decode cL_law 2872 = .ok (.iadd, 1) := dk_96 (dk_at dksL_law_112 3 rfl rfl)
theorem dL_law_2873 : decode cL_law 2873 = .ok (.iaload, 1) := dk_46 (dk_at dksL_law_112 4 rfl rfl)
theorem dL_law_2874 : decode cL_law 2874 = .ok (.aload_n 0, 1) := dk_42 (dk_at dksL_law_112 5 rfl rfl)
theorem dL_law_2875 : decode cL_law 2875 = .ok (.iload 5, 2) := dk_21 5 (dk_at dksL_law_112 6 rfl rfl)
theorem dL_law_2877 : decode cL_law 2877 = .ok (.iconst 2, 1) := dk_5 (dk_at dksL_law_112 8 rfl rfl)
theorem dL_law_2878 : decode cL_law 2878 = .ok (.iadd, 1) := dk_96 (dk_at dksL_law_112 9 rfl rfl)
theorem dL_law_2879 : decode cL_law 2879 = .ok (.iaload, 1) := dk_46 (dk_at dksL_law_112 10 rfl rfl)
theorem dL_law_2880 : decode cL_law 2880 = .ok (.aload_n 3, 1) := dk_45 (dk_at dksL_law_112 11 rfl rfl)
theorem dL_law_2881 : decode cL_law 2881 = .ok (.invokestatic 346, 3) := dk_184 1 90 (dk_at dksL_law_112 12 rfl rfl)
theorem dL_law_2884 : decode cL_law 2884 = .ok (.istore 6, 2) := dk_54 6 (dk_at dksL_law_112 15 rfl rfl)
theorem dL_law_2886 : decode cL_law 2886 = .ok (.aload_n 2, 1) := dk_44 (dk_at dksL_law_112 17 rfl rfl)
theorem dL_law_2887 : decode cL_law 2887 = .ok (.aload_n 0, 1) := dk_42 (dk_at dksL_law_112 18 rfl rfl)
theorem dL_law_2888 : decode cL_law 2888 = .ok (.iload 5, 2) := dk_21 5 (dk_at dksL_law_112 19 rfl rfl)
theorem dL_law_2890 : decode cL_law 2890 = .ok (.iconst 1, 1) := dk_4 (dk_at dksL_law_112 21 rfl rfl)
theorem dL_law_2891 : decode cL_law 2891 = .ok (.iadd, 1) := dk_96 (dk_at dksL_law_112 22 rfl rfl)
theorem dL_law_2892 : decode cL_law 2892 = .ok (.iaload, 1) := dk_46 (dk_at dksL_law_112 23 rfl rfl)
theorem dL_law_2893 : decode cL_law 2893 = .ok (.aload_n 0, 1) := dk_42 (dk_at dksL_law_113 0 rfl rfl)
theorem dL_law_2894 : decode cL_law 2894 = .ok (.iload 5, 2) := dk_21 5 (dk_at dksL_law_113 1 rfl rfl)
theorem dL_law_2896 : decode cL_law 2896 = .ok (.iconst 2, 1) := dk_5 (dk_at dksL_law_113 3 rfl rfl)
theorem dL_law_2897 : decode cL_law 2897 = .ok (.iadd, 1) := dk_96 (dk_at dksL_law_113 4 rfl rfl)
theorem dL_law_2898 : decode cL_law 2898 = .ok (.iaload, 1) := dk_46 (dk_at dksL_law_113 5 rfl rfl)
theorem dL_law_2899 : decode cL_law 2899 = .ok (.invokevirtual 348, 3) := dk_182 1 92 (dk_at dksL_law_113 6 rfl rfl)
theorem dL_law_2902 : decode cL_law 2902 = .ok (.istore 7, 2) := dk_54 7 (dk_at dksL_law_113 9 rfl rfl)
theorem dL_law_2904 : decode cL_law 2904 = .ok (.aload_n 2, 1) := dk_44 (dk_at dksL_law_113 11 rfl rfl)
theorem dL_law_2905 : decode cL_law 2905 = .ok (.invokevirtual 191, 3) := dk_182 0 191 (dk_at dksL_law_113 12 rfl rfl)
theorem dL_law_2908 : decode cL_law 2908 = .ok (.iload 6, 2) := dk_21 6 (dk_at dksL_law_113 15 rfl rfl)
theorem dL_law_2910 : decode cL_law 2910 = .ok (.if_icmp .eq 5, 3) := dk_159 0 5 (dk_at dksL_law_113 17 rfl rfl)
theorem dL_law_2913 : decode cL_law 2913 = .ok (.iconst 0, 1) := dk_3 (dk_at dksL_law_113 20 rfl rfl)
theorem dL_law_2914 : decode cL_law 2914 = .ok (.ireturn, 1) := dk_172 (dk_at dksL_law_113 21 rfl rfl)
theorem dL_law_2915 : decode cL_law 2915 = .ok (.iload 6, 2) := dk_21 6 (dk_at dksL_law_113 22 rfl rfl)
theorem dL_law_2917 : decode cL_law 2917 = .ok (.ifCond .ne 15, 3) := dk_154 0 15 (dk_at dksL_law_114 0 rfl rfl)
theorem dL_law_2920 : decode cL_law 2920 = .ok (.aload_n 3, 1) := dk_45 (dk_at dksL_law_114 3 rfl rfl)
theorem dL_law_2921 : decode cL_law 2921 = .ok (.iconst 0, 1) := dk_3 (dk_at dksL_law_114 4 rfl rfl)
theorem dL_law_2922 : decode cL_law 2922 = .ok (.laload, 1) := dk_47 (dk_at dksL_law_114 5 rfl rfl)
theorem dL_law_2923 : decode cL_law 2923 = .ok (.iload 7, 2) := dk_21 7 (dk_at dksL_law_114 6 rfl rfl)
theorem dL_law_2925 : decode cL_law 2925 = .ok (.i2l, 1) := dk_133 (dk_at dksL_law_114 8 rfl rfl)
theorem dL_law_2926 : decode cL_law 2926 = .ok (.lcmp, 1) := dk_148 (dk_at dksL_law_114 9 rfl rfl)
theorem dL_law_2927 : decode cL_law 2927 = .ok (.ifCond .eq 5, 3) := dk_153 0 5 (dk_at dksL_law_114 10 rfl rfl)
theorem dL_law_2930 : decode cL_law 2930 = .ok (.iconst 0, 1) := dk_3 (dk_at dksL_law_114 13 rfl rfl)
theorem dL_law_2931 : decode cL_law 2931 = .ok (.ireturn, 1) := dk_172 (dk_at dksL_law_114 14 rfl rfl)
theorem dL_law_2932 : decode cL_law 2932 = .ok (.goto 782, 3) := dk_167 3 14 (dk_at dksL_law_114 15 rfl rfl)
theorem dL_law_2935 : decode cL_law 2935 = .ok (.aload_n 1, 1) := dk_43 (dk_at dksL_law_114 18 rfl rfl)
theorem dL_law_2936 : decode cL_law 2936 = .ok (.invokevirtual 349, 3) := dk_182 1 93 (dk_at dksL_law_114 19 rfl rfl)
theorem dL_law_2939 : decode cL_law 2939 = .ok (.aload_n 2, 1) := dk_44 (dk_at dksL_law_114 22 rfl rfl)
theorem dL_law_2940 : decode cL_law 2940 = .ok (.invokevirtual 352, 3) := dk_182 1 96 (dk_at dksL_law_115 0 rfl rfl)
theorem dL_law_2943 : decode cL_law 2943 = .ok (.if_icmp .eq 771, 3) := dk_159 3 3 (dk_at dksL_law_115 3 rfl rfl)
theorem dL_law_2946 : decode cL_law 2946 = .ok (.iconst 0, 1) := dk_3 (dk_at dksL_law_115 6 rfl rfl)
theorem dL_law_2947 : decode cL_law 2947 = .ok (.ireturn, 1) := dk_172 (dk_at dksL_law_115 7 rfl rfl)
theorem dL_law_2948 : decode cL_law 2948 = .ok (.aload_n 1, 1) := dk_43 (dk_at dksL_law_115 8 rfl rfl)
theorem dL_law_2949 : decode cL_law 2949 = .ok (.aload_n 0, 1) := dk_42 (dk_at dksL_law_115 9 rfl rfl)
theorem dL_law_2950 : decode cL_law 2950 = .ok (.iload 5, 2) := dk_21 5 (dk_at dksL_law_115 10 rfl rfl)
theorem dL_law_2952 : decode cL_law 2952 = .ok (.iconst 1, 1) := dk_4 (dk_at dksL_law_115 12 rfl rfl)
theorem dL_law_2953 : decode cL_law 2953 = .ok (.iadd, 1) := dk_96 (dk_at dksL_law_115 13 rfl rfl)
theorem dL_law_2954 : decode cL_law 2954 = .ok (.iaload, 1) := dk_46 (dk_at dksL_law_115 14 rfl rfl)
theorem dL_law_2955 : decode cL_law 2955 = .ok (.aload_n 3, 1) := dk_45 (dk_at dksL_law_115 15 rfl rfl)
theorem dL_law_2956 : decode cL_law 2956 = .ok (.invokestatic 353, 3) := dk_184 1 97 (dk_at dksL_law_115 16 rfl rfl)
theorem dL_law_2959 : decode cL_law 2959 = .ok (.istore 6, 2) := dk_54 6 (dk_at dksL_law_115 19 rfl rfl)
theorem dL_law_2961 : decode cL_law 2961 = .ok (.aload_n 2, 1) := dk_44 (dk_at dksL_law_115 21 rfl rfl)
theorem dL_law_2962 : decode cL_law 2962 = .ok (.aload_n 0, 1) := dk_42 (dk_at dksL_law_115 22 rfl rfl)
theorem dL_law_2963 : decode cL_law 2963 = .ok (.iload 5, 2) := dk_21 5 (dk_at dksL_law_116 0 rfl rfl)
theorem dL_law_2965 : decode cL_law 2965 = .ok (.iconst 1, 1) := dk_4 (dk_at dksL_law_116 2 rfl rfl)
theorem dL_law_2966 : decode cL_law 2966 = .ok (.iadd, 1) := dk_96 (dk_at dksL_law_116 3 rfl rfl)
theorem dL_law_2967 : decode cL_law 2967 = .ok (.iaload, 1) := dk_46 (dk_at dksL_law_116 4 rfl rfl)
theorem dL_law_2968 : decode cL_law 2968 = .ok (.invokevirtual 355, 3) := dk_182 1 99 (dk_at dksL_law_116 5 rfl rfl)
theorem dL_law_2971 : decode cL_law 2971 = .ok (.istore 7, 2) := dk_54 7 (dk_at dksL_law_116 8 rfl rfl)
theorem dL_law_2973 : decode cL_law 2973 = .ok (.aload_n 2, 1) := dk_44 (dk_at dksL_law_116 10 rfl rfl)
theorem dL_law_2974 : decode cL_law 2974 = .ok (.invokevirtual 191, 3) := dk_182 0 191 (dk_at dksL_law_116 11 rfl rfl)
theorem dL_law_2977 : decode cL_law 2977 = .ok (.iload 6, 2) := dk_21 6 (dk_at dksL_law_116 14 rfl rfl)
theorem dL_law_2979 : decode cL_law 2979 = .ok (.if_icmp .eq 5, 3) := dk_159 0 5 (dk_at dksL_law_116 16 rfl rfl)
theorem dL_law_2982 : decode cL_law 2982 = .ok (.iconst 0, 1) := dk_3 (dk_at dksL_law_116 19 rfl rfl)
theorem dL_law_2983 : decode cL_law 2983 = .ok (.ireturn, 1) := dk_172 (dk_at dksL_law_116 20 rfl rfl)
theorem dL_law_2984 : decode cL_law 2984 = .ok (.iload 6, 2) := dk_21 6 (dk_at dksL_law_116 21 rfl rfl)
theorem dL_law_2986 : decode cL_law 2986 = .ok (.ifCond .ne 15, 3) := dk_154 0 15 (dk_at dksL_law_117 0 rfl rfl)
theorem dL_law_2989 : decode cL_law 2989 = .ok (.aload_n 3, 1) := dk_45 (dk_at dksL_law_117 3 rfl rfl)
theorem dL_law_2990 : decode cL_law 2990 = .ok (.iconst 0, 1) := dk_3 (dk_at dksL_law_117 4 rfl rfl)
theorem dL_law_2991 : decode cL_law 2991 = .ok (.laload, 1) := dk_47 (dk_at dksL_law_117 5 rfl rfl)
theorem dL_law_2992 : decode cL_law 2992 = .ok (.iload 7, 2) := dk_21 7 (dk_at dksL_law_117 6 rfl rfl)
theorem dL_law_2994 : decode cL_law 2994 = .ok (.i2l, 1) := dk_133 (dk_at dksL_law_117 8 rfl rfl)
theorem dL_law_2995 : decode cL_law 2995 = .ok (.lcmp, 1) := dk_148 (dk_at dksL_law_117 9 rfl rfl)
theorem dL_law_2996 : decode cL_law 2996 = .ok (.ifCond .eq 5, 3) := dk_153 0 5 (dk_at dksL_law_117 10 rfl rfl)
theorem dL_law_2999 : decode cL_law 2999 = .ok (.iconst 0, 1) := dk_3 (dk_at dksL_law_117 13 rfl rfl)
theorem dL_law_3000 : decode cL_law 3000 = .ok (.ireturn, 1) := dk_172 (dk_at dksL_law_117 14 rfl rfl)
theorem dL_law_3001 : decode cL_law 3001 = .ok (.goto 713, 3) := dk_167 2 201 (dk_at dksL_law_117 15 rfl rfl)
theorem dL_law_3004 : decode cL_law 3004 = .ok (.aload_n 1, 1) := dk_43 (dk_at dksL_law_117 18 rfl rfl)
theorem dL_law_3005 : decode cL_law 3005 = .ok (.aload_n 0, 1) := dk_42 (dk_at dksL_law_117 19 rfl rfl)
theorem dL_law_3006 : decode cL_law 3006 = .ok (.iload 5, 2) := dk_21 5 (dk_at dksL_law_117 20 rfl rfl)
theorem dL_law_3008 : decode cL_law 3008 = .ok (.iconst 1, 1) := dk_4 (dk_at dksL_law_117 22 rfl rfl)
theorem dL_law_3009 : decode cL_law 3009 = .ok (.iadd, 1) := dk_96 (dk_at dksL_law_117 23 rfl rfl)
theorem dL_law_3010 : decode cL_law 3010 = .ok (.iaload, 1) := dk_46 (dk_at dksL_law_118 0 rfl rfl)
theorem dL_law_3011 : decode cL_law 3011 = .ok (.aload_n 3, 1) := dk_45 (dk_at dksL_law_118 1 rfl rfl)
theorem dL_law_3012 : decode cL_law 3012 = .ok (.invokestatic 356, 3) := dk_184 1 100 (dk_at dksL_law_118 2 rfl rfl)
theorem dL_law_3015 : decode cL_law 3015 = .ok (.istore 6, 2) := dk_54 6 (dk_at dksL_law_118 5 rfl rfl)
theorem dL_law_3017 : decode cL_law 3017 = .ok (.aload_n 2, 1) := dk_44 (dk_at dksL_law_118 7 rfl rfl)
theorem dL_law_3018 : decode cL_law 3018 = .ok (.aload_n 0, 1) := dk_42 (dk_at dksL_law_118 8 rfl rfl)
theorem dL_law_3019 : decode cL_law 3019 = .ok (.iload 5, 2) := dk_21 5 (dk_at dksL_law_118 9 rfl rfl)
theorem dL_law_3021 : decode cL_law 3021 = .ok (.iconst 1, 1) := dk_4 (dk_at dksL_law_118 11 rfl rfl)
theorem dL_law_3022 : decode cL_law 3022 = .ok (.iadd, 1) := dk_96 (dk_at dksL_law_118 12 rfl rfl)
theorem dL_law_3023 : decode cL_law 3023 = .ok (.iaload, 1) := dk_46 (dk_at dksL_law_118 13 rfl rfl)
theorem dL_law_3024 : decode cL_law 3024 = .ok (.invokevirtual 358, 3) := dk_182 1 102 (dk_at dksL_law_118 14 rfl rfl)
theorem dL_law_3027 : decode cL_law 3027 = .ok (.lstore 7, 2) := dk_55 7 (dk_at dksL_law_118 17 rfl rfl)
theorem dL_law_3029 : decode cL_law 3029 = .ok (.aload_n 2, 1) := dk_44 (dk_at dksL_law_118 19 rfl rfl)
theorem dL_law_3030 : decode cL_law 3030 = .ok (.invokevirtual 191, 3) := dk_182 0 191 (dk_at dksL_law_118 20 rfl rfl)
theorem dL_law_3033 : decode cL_law 3033 = .ok (.iload 6, 2) := dk_21 6 (dk_at dksL_law_119 0 rfl rfl)
theorem dL_law_3035 : decode cL_law 3035 = .ok (.if_icmp .eq 5, 3) := dk_159 0 5 (dk_at dksL_law_119 2 rfl rfl)
theorem dL_law_3038 : decode cL_law 3038 = .ok (.iconst 0, 1) := dk_3 (dk_at dksL_law_119 5 rfl rfl)
theorem dL_law_3039 : decode cL_law 3039 = .ok (.ireturn, 1) := dk_172 (dk_at dksL_law_119 6 rfl rfl)
theorem dL_law_3040 : decode cL_law 3040 = .ok (.iload 6, 2) := dk_21 6 (dk_at dksL_law_119 7 rfl rfl)
theorem dL_law_3042 : decode cL_law 3042 = .ok (.ifCond .ne 14, 3) := dk_154 0 14 (dk_at dksL_law_119 9 rfl rfl)
theorem dL_law_3045 : decode cL_law 3045 = .ok (.aload_n 3, 1) := dk_45 (dk_at dksL_law_119 12 rfl rfl)
theorem dL_law_3046 : decode cL_law 3046 = .ok (.iconst 0, 1) := dk_3 (dk_at dksL_law_119 13 rfl rfl)
theorem dL_law_3047 : decode cL_law 3047 = .ok (.laload, 1) := dk_47 (dk_at dksL_law_119 14 rfl rfl)
theorem dL_law_3048 : decode cL_law 3048 = .ok (.lload 7, 2) := dk_22 7 (dk_at dksL_law_119 15 rfl rfl)
theorem dL_law_3050 : decode cL_law 3050 = .ok (.lcmp, 1) := dk_148 (dk_at dksL_law_119 17 rfl rfl)
theorem dL_law_3051 : decode cL_law 3051 = .ok (.ifCond .eq 5, 3) := dk_153 0 5 (dk_at dksL_law_119 18 rfl rfl)
theorem dL_law_3054 : decode cL_law 3054 = .ok (.iconst 0, 1) := dk_3 (dk_at dksL_law_119 21 rfl rfl)
theorem dL_law_3055 : decode cL_law 3055 = .ok (.ireturn, 1) := dk_172 (dk_at dksL_law_119 22 rfl rfl)
theorem dL_law_3056 : decode cL_law 3056 = .ok (.goto 658, 3) := dk_167 2 146 (dk_at dksL_law_120 0 rfl rfl)
theorem dL_law_3059 : decode cL_law 3059 = .ok (.aload_n 1, 1) := dk_43 (dk_at dksL_law_120 3 rfl rfl)
theorem dL_law_3060 : decode cL_law 3060 = .ok (.aload_n 0, 1) := dk_42 (dk_at dksL_law_120 4 rfl rfl)
theorem dL_law_3061 : decode cL_law 3061 = .ok (.iload 5, 2) := dk_21 5 (dk_at dksL_law_120 5 rfl rfl)
theorem dL_law_3063 : decode cL_law 3063 = .ok (.iconst 1, 1) := dk_4 (dk_at dksL_law_120 7 rfl rfl)
theorem dL_law_3064 : decode cL_law 3064 = .ok (.iadd, 1) := dk_96 (dk_at dksL_law_120 8 rfl rfl)
theorem dL_law_3065 : decode cL_law 3065 = .ok (.iaload, 1) := dk_46 (dk_at dksL_law_120 9 rfl rfl)
theorem dL_law_3066 : decode cL_law 3066 = .ok (.aload_n 0, 1) := dk_42 (dk_at dksL_law_120 10 rfl rfl)
theorem dL_law_3067 : decode cL_law 3067 = .ok (.iload 5, 2) := dk_21 5 (dk_at dksL_law_120 11 rfl rfl)
theorem dL_law_3069 : decode cL_law 3069 = .ok (.iconst 2, 1) := dk_5 (dk_at dksL_law_120 13 rfl rfl)
theorem dL_law_3070 : decode cL_law 3070 = .ok (.iadd, 1) := dk_96 (dk_at dksL_law_120 14 rfl rfl)
theorem dL_law_3071 : decode cL_law 3071 = .ok (.iaload, 1) := dk_46 (dk_at dksL_law_120 15 rfl rfl)
theorem dL_law_3072 : decode cL_law 3072 = .ok (.aload_n 3, 1) := dk_45 (dk_at dksL_law_120 16 rfl rfl)
theorem dL_law_3073 : decode cL_law 3073 = .ok (.invokestatic 359, 3) := dk_184 1 103 (dk_at dksL_law_120 17 rfl rfl)
theorem dL_law_3076 : decode cL_law 3076 = .ok (.istore 6, 2) := dk_54 6 (dk_at dksL_law_120 20 rfl rfl)
theorem dL_law_3078 : decode cL_law 3078 = .ok (.aload_n 2, 1) := dk_44 (dk_at dksL_law_120 22 rfl rfl)
theorem dL_law_3079 : decode cL_law 3079 = .ok (.aload_n 0, 1) := dk_42 (dk_at dksL_law_120 23 rfl rfl)
theorem dL_law_3080 : decode cL_law 3080 = .ok (.iload 5, 2) := dk_21 5 (dk_at dksL_law_121 0 rfl rfl)
theorem dL_law_3082 : decode cL_law 3082 = .ok (.iconst 1, 1) := dk_4 (dk_at dksL_law_121 2 rfl rfl)
theorem dL_law_3083 : decode cL_law 3083 = .ok (.iadd, 1) := dk_96 (dk_at dksL_law_121 3 rfl rfl)
theorem dL_law_3084 : decode cL_law 3084 = .ok (.iaload, 1) := dk_46 (dk_at dksL_law_121 4 rfl rfl)
theorem dL_law_3085 : decode cL_law 3085 = .ok (.aload_n 0, 1) := dk_42 (dk_at dksL_law_121 5 rfl rfl)
theorem dL_law_3086 : decode cL_law 3086 = .ok (.iload 5, 2) := dk_21 5 (dk_at dksL_law_121 6 rfl rfl)
theorem dL_law_3088 : decode cL_law 3088 = .ok (.iconst 2, 1) := dk_5 (dk_at dksL_law_121 8 rfl rfl)
theorem dL_law_3089 : decode cL_law 3089 = .ok (.iadd, 1) := dk_96 (dk_at dksL_law_121 9 rfl rfl)
theorem dL_law_3090 : decode cL_law 3090 = .ok (.iaload, 1) := dk_46 (dk_at dksL_law_121 10 rfl rfl)
theorem dL_law_3091 : decode cL_law 3091 = .ok (.invokevirtual 361, 3) := dk_182 1 105 (dk_at dksL_law_121 11 rfl rfl)
theorem dL_law_3094 : decode cL_law 3094 = .ok (.istore 7, 2) := dk_54 7 (dk_at dksL_law_121 14 rfl rfl)
theorem dL_law_3096 : decode cL_law 3096 = .ok (.aload_n 2, 1) := dk_44 (dk_at dksL_law_121 16 rfl rfl)
theorem dL_law_3097 : decode cL_law 3097 = .ok (.invokevirtual 191, 3) := dk_182 0 191 (dk_at dksL_law_121 17 rfl rfl)
theorem dL_law_3100 : decode cL_law 3100 = .ok (.iload 6, 2) := dk_21 6 (dk_at dksL_law_121 20 rfl rfl)
theorem dL_law_3102 : decode cL_law 3102 = .ok (.if_icmp .eq 5, 3) := dk_159 0 5 (dk_at dksL_law_122 0 rfl rfl)
theorem dL_law_3105 : decode cL_law 3105 = .ok (.iconst 0, 1) := dk_3 (dk_at dksL_law_122 3 rfl rfl)
theorem dL_law_3106 : decode cL_law 3106 = .ok (.ireturn, 1) := dk_172 (dk_at dksL_law_122 4 rfl rfl)
theorem dL_law_3107 : decode cL_law 3107 = .ok (.iload 6, 2) := dk_21 6 (dk_at dksL_law_122 5 rfl rfl)
theorem dL_law_3109 : decode cL_law 3109 = .ok (.ifCond .ne 15, 3) := dk_154 0 15 (dk_at dksL_law_122 7 rfl rfl)
theorem dL_law_3112 : decode cL_law 3112 = .ok (.aload_n 3, 1) := dk_45 (dk_at dksL_law_122 10 rfl rfl)
theorem dL_law_3113 : decode cL_law 3113 = .ok (.iconst 0, 1) := dk_3 (dk_at dksL_law_122 11 rfl rfl)
theorem dL_law_3114 : decode cL_law 3114 = .ok (.laload, 1) := dk_47 (dk_at dksL_law_122 12 rfl rfl)
theorem dL_law_3115 : decode cL_law 3115 = .ok (.iload 7, 2) := dk_21 7 (dk_at dksL_law_122 13 rfl rfl)
theorem dL_law_3117 : decode cL_law 3117 = .ok (.i2l, 1) := dk_133 (dk_at dksL_law_122 15 rfl rfl)
theorem dL_law_3118 : decode cL_law 3118 = .ok (.lcmp, 1) := dk_148 (dk_at dksL_law_122 16 rfl rfl)
theorem dL_law_3119 : decode cL_law 3119 = .ok (.ifCond .eq 5, 3) := dk_153 0 5 (dk_at dksL_law_122 17 rfl rfl)
theorem dL_law_3122 : decode cL_law 3122 = .ok (.iconst 0, 1) := dk_3 (dk_at dksL_law_122 20 rfl rfl)
theorem dL_law_3123 : decode cL_law 3123 = .ok (.ireturn, 1) := dk_172 (dk_at dksL_law_122 21 rfl rfl)
theorem dL_law_3124 : decode cL_law 3124 = .ok (.goto 590, 3) := dk_167 2 78 (dk_at dksL_law_123 0 rfl rfl)
theorem dL_law_3127 : decode cL_law 3127 = .ok (.aload_n 1, 1) := dk_43 (dk_at dksL_law_123 3 rfl rfl)
theorem dL_law_3128 : decode cL_law 3128 = .ok (.aload_n 0, 1) := dk_42 (dk_at dksL_law_123 4 rfl rfl)
theorem dL_law_3129 : decode cL_law 3129 = .ok (.iload 5, 2) := dk_21 5 (dk_at dksL_law_123 5 rfl rfl)
theorem dL_law_3131 : decode cL_law 3131 = .ok (.iconst 1, 1) := dk_4 (dk_at dksL_law_123 7 rfl rfl)
theorem dL_law_3132 : decode cL_law 3132 = .ok (.iadd, 1) := dk_96 (dk_at dksL_law_123 8 rfl rfl)
theorem dL_law_3133 : decode cL_law 3133 = .ok (.iaload, 1) := dk_46 (dk_at dksL_law_123 9 rfl rfl)
theorem dL_law_3134 : decode cL_law 3134 = .ok (.aload 4, 2) := dk_25 4 (dk_at dksL_law_123 10 rfl rfl)
theorem dL_law_3136 : decode cL_law 3136 = .ok (.invokestatic 362, 3) := dk_184 1 106 (dk_at dksL_law_123 12 rfl rfl)
theorem dL_law_3139 : decode cL_law 3139 = .ok (.istore 6, 2) := dk_54 6 (dk_at dksL_law_123 15 rfl rfl)
theorem dL_law_3141 : decode cL_law 3141 = .ok (.aload_n 2, 1) := dk_44 (dk_at dksL_law_123 17 rfl rfl)
theorem dL_law_3142 : decode cL_law 3142 = .ok (.aload_n 0, 1) := dk_42 (dk_at dksL_law_123 18 rfl rfl)
theorem dL_law_3143 : decode cL_law 3143 = .ok (.iload 5, 2) := dk_21 5 (dk_at dksL_law_123 19 rfl rfl)
theorem dL_law_3145 : decode cL_law 3145 = .ok (.iconst 1, 1) := dk_4 (dk_at dksL_law_123 21 rfl rfl)
theorem dL_law_3146 : decode cL_law 3146 = .ok (.iadd, 1) := dk_96 (dk_at dksL_law_123 22 rfl rfl)
theorem dL_law_3147 : decode cL_law 3147 = .ok (.iaload, 1) := dk_46 (dk_at dksL_law_123 23 rfl rfl)
theorem dL_law_3148 : decode cL_law 3148 = .ok (.invokevirtual 365, 3) := dk_182 1 109 (dk_at dksL_law_124 0 rfl rfl)
theorem dL_law_3151 : decode cL_law 3151 = .ok (.fstore 7, 2) := dk_56 7 (dk_at dksL_law_124 3 rfl rfl)
theorem dL_law_3153 : decode cL_law 3153 = .ok (.aload_n 2, 1) := dk_44 (dk_at dksL_law_124 5 rfl rfl)
theorem dL_law_3154 : decode cL_law 3154 = .ok (.invokevirtual 191, 3) := dk_182 0 191 (dk_at dksL_law_124 6 rfl rfl)
theorem dL_law_3157 : decode cL_law 3157 = .ok (.iload 6, 2) := dk_21 6 (dk_at dksL_law_124 9 rfl rfl)
theorem dL_law_3159 : decode cL_law 3159 = .ok (.if_icmp .eq 5, 3) := dk_159 0 5 (dk_at dksL_law_124 11 rfl rfl)
theorem dL_law_3162 : decode cL_law 3162 = .ok (.iconst 0, 1) := dk_3 (dk_at dksL_law_124 14 rfl rfl)
theorem dL_law_3163 : decode cL_law 3163 = .ok (.ireturn, 1) := dk_172 (dk_at dksL_law_124 15 rfl rfl)
theorem dL_law_3164 : decode cL_law 3164 = .ok (.iload 6, 2) := dk_21 6 (dk_at dksL_law_124 16 rfl rfl)
theorem dL_law_3166 : decode cL_law 3166 = .ok (.ifCond .ne 35, 3) := dk_154 0 35 (dk_at dksL_law_124 18 rfl rfl)
theorem dL_law_3169 : decode cL_law 3169 = .ok (.aload 4, 2) := dk_25 4 (dk_at dksL_law_124 21 rfl rfl)
theorem dL_law_3171 : decode cL_law 3171 = .ok (.iconst 0, 1) := dk_3 (dk_at dksL_law_124 23 rfl rfl)
theorem dL_law_3172 : decode cL_law 3172 = .ok (.faload, 1) := dk_48 (dk_at dksL_law_125 0 rfl rfl)
theorem dL_law_3173 : decode cL_law 3173 = .ok (.fload 7, 2) := dk_23 7 (dk_at dksL_law_125 1 rfl rfl)
theorem dL_law_3175 : decode cL_law 3175 = .ok (.fcmp .l, 1) := dk_149 (dk_at dksL_law_125 3 rfl rfl)
theorem dL_law_3176 : decode cL_law 3176 = .ok (.ifCond .eq 25, 3) := dk_153 0 25 (dk_at dksL_law_125 4 rfl rfl)
theorem dL_law_3179 : decode cL_law 3179 = .ok (.aload 4, 2) := dk_25 4 (dk_at dksL_law_125 7 rfl rfl)
theorem dL_law_3181 : decode cL_law 3181 = .ok (.iconst 0, 1) := dk_3 (dk_at dksL_law_125 9 rfl rfl)
theorem dL_law_3182 : decode cL_law 3182 = .ok (.faload, 1) := dk_48 (dk_at dksL_law_125 10 rfl rfl)
theorem dL_law_3183 : decode cL_law 3183 = .ok (.aload 4, 2) := dk_25 4 (dk_at dksL_law_125 11 rfl rfl)
theorem dL_law_3185 : decode cL_law 3185 = .ok (.iconst 0, 1) := dk_3 (dk_at dksL_law_125 13 rfl rfl)
theorem dL_law_3186 : decode cL_law 3186 = .ok (.faload, 1) := dk_48 (dk_at dksL_law_125 14 rfl rfl)
theorem dL_law_3187 : decode cL_law 3187 = .ok (.fcmp .l, 1) := dk_149 (dk_at dksL_law_125 15 rfl rfl)
theorem dL_law_3188 : decode cL_law 3188 = .ok (.ifCond .eq 11, 3) := dk_153 0 11 (dk_at dksL_law_125 16 rfl rfl)
theorem dL_law_3191 : decode cL_law 3191 = .ok (.fload 7, 2) := dk_23 7 (dk_at dksL_law_125 19 rfl rfl)
theorem dL_law_3193 : decode cL_law 3193 = .ok (.fload 7, 2) := dk_23 7 (dk_at dksL_law_125 21 rfl rfl)
theorem dL_law_3195 : decode cL_law 3195 = .ok (.fcmp .l, 1) := dk_149 (dk_at dksL_law_125 23 rfl rfl)
theorem dL_law_3196 : decode cL_law 3196 = .ok (.ifCond .ne 5, 3) := dk_154 0 5 (dk_at dksL_law_126 0 rfl rfl)
theorem dL_law_3199 : decode cL_law 3199 = .ok (.iconst 0, 1) := dk_3 (dk_at dksL_law_126 3 rfl rfl)
theorem dL_law_3200 : decode cL_law 3200 = .ok (.ireturn, 1) := dk_172 (dk_at dksL_law_126 4 rfl rfl)
theorem dL_law_3201 : decode cL_law 3201 = .ok (.goto 513, 3) := dk_167 2 1 (dk_at dksL_law_126 5 rfl rfl)
theorem dL_law_3204 : decode cL_law 3204 = .ok (.aload_n 1, 1) := dk_43 (dk_at dksL_law_126 8 rfl rfl)
theorem dL_law_3205 : decode cL_law 3205 = .ok (.aload_n 0, 1) := dk_42 (dk_at dksL_law_126 9 rfl rfl)
theorem dL_law_3206 : decode cL_law 3206 = .ok (.iload 5, 2) := dk_21 5 (dk_at dksL_law_126 10 rfl rfl)
theorem dL_law_3208 : decode cL_law 3208 = .ok (.iconst 1, 1) := dk_4 (dk_at dksL_law_126 12 rfl rfl)
theorem dL_law_3209 : decode cL_law 3209 = .ok (.iadd, 1) := dk_96 (dk_at dksL_law_126 13 rfl rfl)
theorem dL_law_3210 : decode cL_law 3210 = .ok (.iaload, 1) := dk_46 (dk_at dksL_law_126 14 rfl rfl)
theorem dL_law_3211 : decode cL_law 3211 = .ok (.aload_n 3, 1) := dk_45 (dk_at dksL_law_126 15 rfl rfl)
theorem dL_law_3212 : decode cL_law 3212 = .ok (.invokestatic 366, 3) := dk_184 1 110 (dk_at dksL_law_126 16 rfl rfl)
theorem dL_law_3215 : decode cL_law 3215 = .ok (.istore 6, 2) := dk_54 6 (dk_at dksL_law_126 19 rfl rfl)
theorem dL_law_3217 : decode cL_law 3217 = .ok (.aload_n 2, 1) := dk_44 (dk_at dksL_law_126 21 rfl rfl)
theorem dL_law_3218 : decode cL_law 3218 = .ok (.aload_n 0, 1) := dk_42 (dk_at dksL_law_126 22 rfl rfl)
theorem dL_law_3219 : decode cL_law 3219 = .ok (.iload 5, 2) := dk_21 5 (dk_at dksL_law_127 0 rfl rfl)
theorem dL_law_3221 : decode cL_law 3221 = .ok (.iconst 1, 1) := dk_4 (dk_at dksL_law_127 2 rfl rfl)
theorem dL_law_3222 : decode cL_law 3222 = .ok (.iadd, 1) := dk_96 (dk_at dksL_law_127 3 rfl rfl)
theorem dL_law_3223 : decode cL_law 3223 = .ok (.iaload, 1) := dk_46 (dk_at dksL_law_127 4 rfl rfl)
theorem dL_law_3224 : decode cL_law 3224 = .ok (.invokevirtual 368, 3) := dk_182 1 112 (dk_at dksL_law_127 5 rfl rfl)
theorem dL_law_3227 : decode cL_law 3227 = .ok (.istore 7, 2) := dk_54 7 (dk_at dksL_law_127 8 rfl rfl)
theorem dL_law_3229 : decode cL_law 3229 = .ok (.aload_n 2, 1) := dk_44 (dk_at dksL_law_127 10 rfl rfl)
theorem dL_law_3230 : decode cL_law 3230 = .ok (.invokevirtual 191, 3) := dk_182 0 191 (dk_at dksL_law_127 11 rfl rfl)
theorem dL_law_3233 : decode cL_law 3233 = .ok (.iload 6, 2) := dk_21 6 (dk_at dksL_law_127 14 rfl rfl)
theorem dL_law_3235 : decode cL_law 3235 = .ok (.if_icmp .eq 5, 3) := dk_159 0 5 (dk_at dksL_law_127 16 rfl rfl)
theorem dL_law_3238 : decode cL_law 3238 = .ok (.iconst 0, 1) := dk_3 (dk_at dksL_law_127 19 rfl rfl)
theorem dL_law_3239 : decode cL_law 3239 = .ok (.ireturn, 1) := dk_172 (dk_at dksL_law_127 20 rfl rfl)
theorem dL_law_3240 : decode cL_law 3240 = .ok (.iload 6, 2) := dk_21 6 (dk_at dksL_law_127 21 rfl rfl)
theorem dL_law_3242 : decode cL_law 3242 = .ok (.ifCond .ne 15, 3) := dk_154 0 15 (dk_at dksL_law_128 0 rfl rfl)
theorem dL_law_3245 : decode cL_law 3245 = .ok (.aload_n 3, 1) := dk_45 (dk_at dksL_law_128 3 rfl rfl)
theorem dL_law_3246 : decode cL_law 3246 = .ok (.iconst 0, 1) := dk_3 (dk_at dksL_law_128 4 rfl rfl)
theorem dL_law_3247 : decode cL_law 3247 = .ok (.laload, 1) := dk_47 (dk_at dksL_law_128 5 rfl rfl)
theorem dL_law_3248 : decode cL_law 3248 = .ok (.iload 7, 2) := dk_21 7 (dk_at dksL_law_128 6 rfl rfl)
theorem dL_law_3250 : decode cL_law 3250 = .ok (.i2l, 1) := dk_133 (dk_at dksL_law_128 8 rfl rfl)
theorem dL_law_3251 : decode cL_law 3251 = .ok (.lcmp, 1) := dk_148 (dk_at dksL_law_128 9 rfl rfl)
theorem dL_law_3252 : decode cL_law 3252 = .ok (.ifCond .eq 5, 3) := dk_153 0 5 (dk_at dksL_law_128 10 rfl rfl)
theorem dL_law_3255 : decode cL_law 3255 = .ok (.iconst 0, 1) := dk_3 (dk_at dksL_law_128 13 rfl rfl)
theorem dL_law_3256 : decode cL_law 3256 = .ok (.ireturn, 1) := dk_172 (dk_at dksL_law_128 14 rfl rfl)
theorem dL_law_3257 : decode cL_law 3257 = .ok (.goto 457, 3) := dk_167 1 201 (dk_at dksL_law_128 15 rfl rfl)
theorem dL_law_3260 : decode cL_law 3260 = .ok (.aload_n 1, 1) := dk_43 (dk_at dksL_law_128 18 rfl rfl)
theorem dL_law_3261 : decode cL_law 3261 = .ok (.aload_n 0, 1) := dk_42 (dk_at dksL_law_128 19 rfl rfl)
theorem dL_law_3262 : decode cL_law 3262 = .ok (.iload 5, 2) := dk_21 5 (dk_at dksL_law_128 20 rfl rfl)
theorem dL_law_3264 : decode cL_law 3264 = .ok (.iconst 1, 1) := dk_4 (dk_at dksL_law_128 22 rfl rfl)
theorem dL_law_3265 : decode cL_law 3265 = .ok (.iadd, 1) := dk_96 (dk_at dksL_law_128 23 rfl rfl)
theorem dL_law_3266 : decode cL_law 3266 = .ok (.iaload, 1) := dk_46 (dk_at dksL_law_129 0 rfl rfl)
theorem dL_law_3267 : decode cL_law 3267 = .ok (.aload_n 3, 1) := dk_45 (dk_at dksL_law_129 1 rfl rfl)
theorem dL_law_3268 : decode cL_law 3268 = .ok (.invokestatic 369, 3) := dk_184 1 113 (dk_at dksL_law_129 2 rfl rfl)
theorem dL_law_3271 : decode cL_law 3271 = .ok (.istore 6, 2) := dk_54 6 (dk_at dksL_law_129 5 rfl rfl)
theorem dL_law_3273 : decode cL_law 3273 = .ok (.aload_n 2, 1) := dk_44 (dk_at dksL_law_129 7 rfl rfl)
theorem dL_law_3274 : decode cL_law 3274 = .ok (.aload_n 0, 1) := dk_42 (dk_at dksL_law_129 8 rfl rfl)
theorem dL_law_3275 : decode cL_law 3275 = .ok (.iload 5, 2) := dk_21 5 (dk_at dksL_law_129 9 rfl rfl)
theorem dL_law_3277 : decode cL_law 3277 = .ok (.iconst 1, 1) := dk_4 (dk_at dksL_law_129 11 rfl rfl)
theorem dL_law_3278 : decode cL_law 3278 = .ok (.iadd, 1) := dk_96 (dk_at dksL_law_129 12 rfl rfl)
theorem dL_law_3279 : decode cL_law 3279 = .ok (.iaload, 1) := dk_46 (dk_at dksL_law_129 13 rfl rfl)
theorem dL_law_3280 : decode cL_law 3280 = .ok (.invokevirtual 371, 3) := dk_182 1 115 (dk_at dksL_law_129 14 rfl rfl)
theorem dL_law_3283 : decode cL_law 3283 = .ok (.istore 7, 2) := dk_54 7 (dk_at dksL_law_129 17 rfl rfl)
theorem dL_law_3285 : decode cL_law 3285 = .ok (.aload_n 2, 1) := dk_44 (dk_at dksL_law_129 19 rfl rfl)
theorem dL_law_3286 : decode cL_law 3286 = .ok (.invokevirtual 191, 3) := dk_182 0 191 (dk_at dksL_law_129 20 rfl rfl)
theorem dL_law_3289 : decode cL_law 3289 = .ok (.iload 6, 2) := dk_21 6 (dk_at dksL_law_130 0 rfl rfl)
theorem dL_law_3291 : decode cL_law 3291 = .ok (.if_icmp .eq 5, 3) := dk_159 0 5 (dk_at dksL_law_130 2 rfl rfl)
theorem dL_law_3294 : decode cL_law 3294 = .ok (.iconst 0, 1) := dk_3 (dk_at dksL_law_130 5 rfl rfl)
theorem dL_law_3295 : decode cL_law 3295 = .ok (.ireturn, 1) := dk_172 (dk_at dksL_law_130 6 rfl rfl)
theorem dL_law_3296 : decode cL_law 3296 = .ok (.iload 6, 2) := dk_21 6 (dk_at dksL_law_130 7 rfl rfl)
theorem dL_law_3298 : decode cL_law 3298 = .ok (.ifCond .ne 15, 3) := dk_154 0 15 (dk_at dksL_law_130 9 rfl rfl)
theorem dL_law_3301 : decode cL_law 3301 = .ok (.aload_n 3, 1) := dk_45 (dk_at dksL_law_130 12 rfl rfl)
theorem dL_law_3302 : decode cL_law 3302 = .ok (.iconst 0, 1) := dk_3 (dk_at dksL_law_130 13 rfl rfl)
theorem dL_law_3303 : decode cL_law 3303 = .ok (.laload, 1) := dk_47 (dk_at dksL_law_130 14 rfl rfl)
theorem dL_law_3304 : decode cL_law 3304 = .ok (.iload 7, 2) := dk_21 7 (dk_at dksL_law_130 15 rfl rfl)
theorem dL_law_3306 : decode cL_law 3306 = .ok (.i2l, 1) := dk_133 (dk_at dksL_law_130 17 rfl rfl)
theorem dL_law_3307 : decode cL_law 3307 = .ok (.lcmp, 1) := dk_148 (dk_at dksL_law_130 18 rfl rfl)
theorem dL_law_3308 : decode cL_law 3308 = .ok (.ifCond .eq 5, 3) := dk_153 0 5 (dk_at dksL_law_130 19 rfl rfl)
theorem dL_law_3311 : decode cL_law 3311 = .ok (.iconst 0, 1) := dk_3 (dk_at dksL_law_130 22 rfl rfl)
theorem dL_law_3312 : decode cL_law 3312 = .ok (.ireturn, 1) := dk_172 (dk_at dksL_law_130 23 rfl rfl)
theorem dL_law_3313 : decode cL_law 3313 = .ok (.goto 401, 3) := dk_167 1 145 (dk_at dksL_law_131 0 rfl rfl)
theorem dL_law_3316 : decode cL_law 3316 = .ok (.aload_n 1, 1) := dk_43 (dk_at dksL_law_131 3 rfl rfl)
theorem dL_law_3317 : decode cL_law 3317 = .ok (.invokevirtual 372, 3) := dk_182 1 116 (dk_at dksL_law_131 4 rfl rfl)
theorem dL_law_3320 : decode cL_law 3320 = .ok (.aload_n 2, 1) := dk_44 (dk_at dksL_law_131 7 rfl rfl)
theorem dL_law_3321 : decode cL_law 3321 = .ok (.invokevirtual 375, 3) := dk_182 1 119 (dk_at dksL_law_131 8 rfl rfl)
theorem dL_law_3324 : decode cL_law 3324 = .ok (.if_icmp .eq 390, 3) := dk_159 1 134 (dk_at dksL_law_131 11 rfl rfl)
theorem dL_law_3327 : decode cL_law 3327 = .ok (.iconst 0, 1) := dk_3 (dk_at dksL_law_131 14 rfl rfl)
theorem dL_law_3328 : decode cL_law 3328 = .ok (.ireturn, 1) := dk_172 (dk_at dksL_law_131 15 rfl rfl)
theorem dL_law_3329 : decode cL_law 3329 = .ok (.aload_n 1, 1) := dk_43 (dk_at dksL_law_131 16 rfl rfl)
theorem dL_law_3330 : decode cL_law 3330 = .ok (.invokevirtual 376, 3) := dk_182 1 120 (dk_at dksL_law_131 17 rfl rfl)
theorem dL_law_3333 : decode cL_law 3333 = .ok (.aload_n 2, 1) := dk_44 (dk_at dksL_law_131 20 rfl rfl)
theorem dL_law_3334 : decode cL_law 3334 = .ok (.invokevirtual 379, 3) := dk_182 1 123 (dk_at dksL_law_131 21 rfl rfl)
theorem dL_law_3337 : decode cL_law 3337 = .ok (.if_icmp .eq 377, 3) := dk_159 1 121 (dk_at dksL_law_132 0 rfl rfl)
theorem dL_law_3340 : decode cL_law 3340 = .ok (.iconst 0, 1) := dk_3 (dk_at dksL_law_132 3 rfl rfl)
theorem dL_law_3341 : decode cL_law 3341 = .ok (.ireturn, 1) := dk_172 (dk_at dksL_law_132 4 rfl rfl)
theorem dL_law_3342 : decode cL_law 3342 = .ok (.aload_n 1, 1) := dk_43 (dk_at dksL_law_132 5 rfl rfl)
theorem dL_law_3343 : decode cL_law 3343 = .ok (.invokevirtual 380, 3) := dk_182 1 124 (dk_at dksL_law_132 6 rfl rfl)
theorem dL_law_3346 : decode cL_law 3346 = .ok (.aload_n 2, 1) := dk_44 (dk_at dksL_law_132 9 rfl rfl)
theorem dL_law_3347 : decode cL_law 3347 = .ok (.invokevirtual 383, 3) := dk_182 1 127 (dk_at dksL_law_132 10 rfl rfl)
theorem dL_law_3350 : decode cL_law 3350 = .ok (.if_icmp .eq 364, 3) := dk_159 1 108 (dk_at dksL_law_132 13 rfl rfl)
theorem dL_law_3353 : decode cL_law 3353 = .ok (.iconst 0, 1) := dk_3 (dk_at dksL_law_132 16 rfl rfl)
theorem dL_law_3354 : decode cL_law 3354 = .ok (.ireturn, 1) := dk_172 (dk_at dksL_law_132 17 rfl rfl)
theorem dL_law_3355 : decode cL_law 3355 = .ok (.aload_n 1, 1) := dk_43 (dk_at dksL_law_132 18 rfl rfl)
theorem dL_law_3356 : decode cL_law 3356 = .ok (.invokevirtual 384, 3) := dk_182 1 128 (dk_at dksL_law_132 19 rfl rfl)
theorem dL_law_3359 : decode cL_law 3359 = .ok (.aload_n 2, 1) := dk_44 (dk_at dksL_law_132 22 rfl rfl)
theorem dL_law_3360 : decode cL_law 3360 = .ok (.invokevirtual 387, 3) := dk_182 1 131 (dk_at dksL_law_133 0 rfl rfl)
theorem dL_law_3363 : decode cL_law 3363 = .ok (.if_icmp .eq 351, 3) := dk_159 1 95 (dk_at dksL_law_133 3 rfl rfl)
theorem dL_law_3366 : decode cL_law 3366 = .ok (.iconst 0, 1) := dk_3 (dk_at dksL_law_133 6 rfl rfl)
theorem dL_law_3367 : decode cL_law 3367 = .ok (.ireturn, 1) := dk_172 (dk_at dksL_law_133 7 rfl rfl)
theorem dL_law_3368 : decode cL_law 3368 = .ok (.aload_n 1, 1) := dk_43 (dk_at dksL_law_133 8 rfl rfl)
theorem dL_law_3369 : decode cL_law 3369 = .ok (.aload_n 3, 1) := dk_45 (dk_at dksL_law_133 9 rfl rfl)
theorem dL_law_3370 : decode cL_law 3370 = .ok (.invokestatic 388, 3) := dk_184 1 132 (dk_at dksL_law_133 10 rfl rfl)
theorem dL_law_3373 : decode cL_law 3373 = .ok (.istore 6, 2) := dk_54 6 (dk_at dksL_law_133 13 rfl rfl)
theorem dL_law_3375 : decode cL_law 3375 = .ok (.aload_n 2, 1) := dk_44 (dk_at dksL_law_133 15 rfl rfl)
theorem dL_law_3376 : decode cL_law 3376 = .ok (.invokevirtual 390, 3) := dk_182 1 134 (dk_at dksL_law_133 16 rfl rfl)
theorem dL_law_3379 : decode cL_law 3379 = .ok (.istore 7, 2) := dk_54 7 (dk_at dksL_law_133 19 rfl rfl)
theorem dL_law_3381 : decode cL_law 3381 = .ok (.aload_n 2, 1) := dk_44 (dk_at dksL_law_133 21 rfl rfl)
theorem dL_law_3382 : decode cL_law 3382 = .ok (.invokevirtual 191, 3) := dk_182 0 191 (dk_at dksL_law_134 0 rfl rfl)
theorem dL_law_3385 : decode cL_law 3385 = .ok (.iload 6, 2) := dk_21 6 (dk_at dksL_law_134 3 rfl rfl)
theorem dL_law_3387 : decode cL_law 3387 = .ok (.if_icmp .eq 5, 3) := dk_159 0 5 (dk_at dksL_law_134 5 rfl rfl)
theorem dL_law_3390 : decode cL_law 3390 = .ok (.iconst 0, 1) := dk_3 (dk_at dksL_law_134 8 rfl rfl)
theorem dL_law_3391 : decode cL_law 3391 = .ok (.ireturn, 1) := dk_172 (dk_at dksL_law_134 9 rfl rfl)
theorem dL_law_3392 : decode cL_law 3392 = .ok (.iload 6, 2) := dk_21 6 (dk_at dksL_law_134 10 rfl rfl)
theorem dL_law_3394 : decode cL_law 3394 = .ok (.ifCond .ne 15, 3) := dk_154 0 15 (dk_at dksL_law_134 12 rfl rfl)
theorem dL_law_3397 : decode cL_law 3397 = .ok (.aload_n 3, 1) := dk_45 (dk_at dksL_law_134 15 rfl rfl)
theorem dL_law_3398 : decode cL_law 3398 = .ok (.iconst 0, 1) := dk_3 (dk_at dksL_law_134 16 rfl rfl)
theorem dL_law_3399 : decode cL_law 3399 = .ok (.laload, 1) := dk_47 (dk_at dksL_law_134 17 rfl rfl)
theorem dL_law_3400 : decode cL_law 3400 = .ok (.iload 7, 2) := dk_21 7 (dk_at dksL_law_134 18 rfl rfl)
theorem dL_law_3402 : decode cL_law 3402 = .ok (.i2l, 1) := dk_133 (dk_at dksL_law_134 20 rfl rfl)
theorem dL_law_3403 : decode cL_law 3403 = .ok (.lcmp, 1) := dk_148 (dk_at dksL_law_134 21 rfl rfl)
theorem dL_law_3404 : decode cL_law 3404 = .ok (.ifCond .eq 5, 3) := dk_153 0 5 (dk_at dksL_law_135 0 rfl rfl)
theorem dL_law_3407 : decode cL_law 3407 = .ok (.iconst 0, 1) := dk_3 (dk_at dksL_law_135 3 rfl rfl)
theorem dL_law_3408 : decode cL_law 3408 = .ok (.ireturn, 1) := dk_172 (dk_at dksL_law_135 4 rfl rfl)
theorem dL_law_3409 : decode cL_law 3409 = .ok (.goto 305, 3) := dk_167 1 49 (dk_at dksL_law_135 5 rfl rfl)
theorem dL_law_3412 : decode cL_law 3412 = .ok (.aload_n 1, 1) := dk_43 (dk_at dksL_law_135 8 rfl rfl)
theorem dL_law_3413 : decode cL_law 3413 = .ok (.invokevirtual 391, 3) := dk_182 1 135 (dk_at dksL_law_135 9 rfl rfl)
theorem dL_law_3416 : decode cL_law 3416 = .ok (.aload_n 2, 1) := dk_44 (dk_at dksL_law_135 12 rfl rfl)
theorem dL_law_3417 : decode cL_law 3417 = .ok (.invokevirtual 394, 3) := dk_182 1 138 (dk_at dksL_law_135 13 rfl rfl)
theorem dL_law_3420 : decode cL_law 3420 = .ok (.if_icmp .eq 294, 3) := dk_159 1 38 (dk_at dksL_law_135 16 rfl rfl)
theorem dL_law_3423 : decode cL_law 3423 = .ok (.iconst 0, 1) := dk_3 (dk_at dksL_law_135 19 rfl rfl)
theorem dL_law_3424 : decode cL_law 3424 = .ok (.ireturn, 1) := dk_172 (dk_at dksL_law_135 20 rfl rfl)
theorem dL_law_3425 : decode cL_law 3425 = .ok (.aload_n 1, 1) := dk_43 (dk_at dksL_law_135 21 rfl rfl)
theorem dL_law_3426 : decode cL_law 3426 = .ok (.aload_n 3, 1) := dk_45 (dk_at dksL_law_135 22 rfl rfl)
theorem dL_law_3427 : decode cL_law 3427 = .ok (.invokestatic 395, 3) := dk_184 1 139 (dk_at dksL_law_136 0 rfl rfl)
theorem dL_law_3430 : decode cL_law 3430 = .ok (.istore 6, 2) := dk_54 6 (dk_at dksL_law_136 3 rfl rfl)
theorem dL_law_3432 : decode cL_law 3432 = .ok (.aload_n 2, 1) := dk_44 (dk_at dksL_law_136 5 rfl rfl)
theorem dL_law_3433 : decode cL_law 3433 = .ok (.invokevirtual 397, 3) := dk_182 1 141 (dk_at dksL_law_136 6 rfl rfl)
theorem dL_law_3436 : decode cL_law 3436 = .ok (.istore 7, 2) := dk_54 7 (dk_at dksL_law_136 9 rfl rfl)
theorem dL_law_3438 : decode cL_law 3438 = .ok (.aload_n 2, 1) := dk_44 (dk_at dksL_law_136 11 rfl rfl)
theorem dL_law_3439 : decode cL_law 3439 = .ok (.invokevirtual 191, 3) := dk_182 0 191 (dk_at dksL_law_136 12 rfl rfl)
theorem dL_law_3442 : decode cL_law 3442 = .ok (.iload 6, 2) := dk_21 6 (dk_at dksL_law_136 15 rfl rfl)
theorem dL_law_3444 : decode cL_law 3444 = .ok (.if_icmp .eq 5, 3) := dk_159 0 5 (dk_at dksL_law_136 17 rfl rfl)
theorem dL_law_3447 : decode cL_law 3447 = .ok (.iconst 0, 1) := dk_3 (dk_at dksL_law_136 20 rfl rfl)
theorem dL_law_3448 : decode cL_law 3448 = .ok (.ireturn, 1) := dk_172 (dk_at dksL_law_136 21 rfl rfl)
theorem dL_law_3449 : decode cL_law 3449 = .ok (.iload 6, 2) := dk_21 6 (dk_at dksL_law_136 22 rfl rfl)
theorem dL_law_3451 : decode cL_law 3451 = .ok (.ifCond .ne 15, 3) := dk_154 0 15 (dk_at dksL_law_137 0 rfl rfl)
theorem dL_law_3454 : decode cL_law 3454 = .ok (.aload_n 3, 1) := dk_45 (dk_at dksL_law_137 3 rfl rfl)
theorem dL_law_3455 : decode cL_law 3455 = .ok (.iconst 0, 1) := dk_3 (dk_at dksL_law_137 4 rfl rfl)
theorem dL_law_3456 : decode cL_law 3456 = .ok (.laload, 1) := dk_47 (dk_at dksL_law_137 5 rfl rfl)
theorem dL_law_3457 : decode cL_law 3457 = .ok (.iload 7, 2) := dk_21 7 (dk_at dksL_law_137 6 rfl rfl)
theorem dL_law_3459 : decode cL_law 3459 = .ok (.i2l, 1) := dk_133 (dk_at dksL_law_137 8 rfl rfl)
theorem dL_law_3460 : decode cL_law 3460 = .ok (.lcmp, 1) := dk_148 (dk_at dksL_law_137 9 rfl rfl)
theorem dL_law_3461 : decode cL_law 3461 = .ok (.ifCond .eq 5, 3) := dk_153 0 5 (dk_at dksL_law_137 10 rfl rfl)
theorem dL_law_3464 : decode cL_law 3464 = .ok (.iconst 0, 1) := dk_3 (dk_at dksL_law_137 13 rfl rfl)
theorem dL_law_3465 : decode cL_law 3465 = .ok (.ireturn, 1) := dk_172 (dk_at dksL_law_137 14 rfl rfl)
theorem dL_law_3466 : decode cL_law 3466 = .ok (.goto 248, 3) := dk_167 0 248 (dk_at dksL_law_137 15 rfl rfl)
theorem dL_law_3469 : decode cL_law 3469 = .ok (.aload_n 1, 1) := dk_43 (dk_at dksL_law_137 18 rfl rfl)
theorem dL_law_3470 : decode cL_law 3470 = .ok (.aload_n 0, 1) := dk_42 (dk_at dksL_law_137 19 rfl rfl)
theorem dL_law_3471 : decode cL_law 3471 = .ok (.iload 5, 2) := dk_21 5 (dk_at dksL_law_137 20 rfl rfl)
theorem dL_law_3473 : decode cL_law 3473 = .ok (.iconst 1, 1) := dk_4 (dk_at dksL_law_137 22 rfl rfl)
theorem dL_law_3474 : decode cL_law 3474 = .ok (.iadd, 1) := dk_96 (dk_at dksL_law_137 23 rfl rfl)
theorem dL_law_3475 : decode cL_law 3475 = .ok (.iaload, 1) := dk_46 (dk_at dksL_law_138 0 rfl rfl)
theorem dL_law_3476 : decode cL_law 3476 = .ok (.aload_n 3, 1) := dk_45 (dk_at dksL_law_138 1 rfl rfl)
theorem dL_law_3477 : decode cL_law 3477 = .ok (.invokestatic 398, 3) := dk_184 1 142 (dk_at dksL_law_138 2 rfl rfl)
theorem dL_law_3480 : decode cL_law 3480 = .ok (.istore 6, 2) := dk_54 6 (dk_at dksL_law_138 5 rfl rfl)
theorem dL_law_3482 : decode cL_law 3482 = .ok (.aload_n 2, 1) := dk_44 (dk_at dksL_law_138 7 rfl rfl)
theorem dL_law_3483 : decode cL_law 3483 = .ok (.aload_n 0, 1) := dk_42 (dk_at dksL_law_138 8 rfl rfl)
theorem dL_law_3484 : decode cL_law 3484 = .ok (.iload 5, 2) := dk_21 5 (dk_at dksL_law_138 9 rfl rfl)
theorem dL_law_3486 : decode cL_law 3486 = .ok (.iconst 1, 1) := dk_4 (dk_at dksL_law_138 11 rfl rfl)
theorem dL_law_3487 : decode cL_law 3487 = .ok (.iadd, 1) := dk_96 (dk_at dksL_law_138 12 rfl rfl)
theorem dL_law_3488 : decode cL_law 3488 = .ok (.iaload, 1) := dk_46 (dk_at dksL_law_138 13 rfl rfl)
theorem dL_law_3489 : decode cL_law 3489 = .ok (.invokevirtual 400, 3) := dk_182 1 144 (dk_at dksL_law_138 14 rfl rfl)
theorem dL_law_3492 : decode cL_law 3492 = .ok (.istore 7, 2) := dk_54 7 (dk_at dksL_law_138 17 rfl rfl)
theorem dL_law_3494 : decode cL_law 3494 = .ok (.aload_n 2, 1) := dk_44 (dk_at dksL_law_138 19 rfl rfl)
theorem dL_law_3495 : decode cL_law 3495 = .ok (.invokevirtual 191, 3) := dk_182 0 191 (dk_at dksL_law_138 20 rfl rfl)
theorem dL_law_3498 : decode cL_law 3498 = .ok (.iload 6, 2) := dk_21 6 (dk_at dksL_law_139 0 rfl rfl)
theorem dL_law_3500 : decode cL_law 3500 = .ok (.if_icmp .eq 5, 3) := dk_159 0 5 (dk_at dksL_law_139 2 rfl rfl)
theorem dL_law_3503 : decode cL_law 3503 = .ok (.iconst 0, 1) := dk_3 (dk_at dksL_law_139 5 rfl rfl)
theorem dL_law_3504 : decode cL_law 3504 = .ok (.ireturn, 1) := dk_172 (dk_at dksL_law_139 6 rfl rfl)
theorem dL_law_3505 : decode cL_law 3505 = .ok (.iload 6, 2) := dk_21 6 (dk_at dksL_law_139 7 rfl rfl)
theorem dL_law_3507 : decode cL_law 3507 = .ok (.ifCond .ne 15, 3) := dk_154 0 15 (dk_at dksL_law_139 9 rfl rfl)
theorem dL_law_3510 : decode cL_law 3510 = .ok (.aload_n 3, 1) := dk_45 (dk_at dksL_law_139 12 rfl rfl)
theorem dL_law_3511 : decode cL_law 3511 = .ok (.iconst 0, 1) := dk_3 (dk_at dksL_law_139 13 rfl rfl)
theorem dL_law_3512 : decode cL_law 3512 = .ok (.laload, 1) := dk_47 (dk_at dksL_law_139 14 rfl rfl)
theorem dL_law_3513 : decode cL_law 3513 = .ok (.iload 7, 2) := dk_21 7 (dk_at dksL_law_139 15 rfl rfl)
theorem dL_law_3515 : decode cL_law 3515 = .ok (.i2l, 1) := dk_133 (dk_at dksL_law_139 17 rfl rfl)
theorem dL_law_3516 : decode cL_law 3516 = .ok (.lcmp, 1) := dk_148 (dk_at dksL_law_139 18 rfl rfl)
theorem dL_law_3517 : decode cL_law 3517 = .ok (.ifCond .eq 5, 3) := dk_153 0 5 (dk_at dksL_law_139 19 rfl rfl)
theorem dL_law_3520 : decode cL_law 3520 = .ok (.iconst 0, 1) := dk_3 (dk_at dksL_law_139 22 rfl rfl)
theorem dL_law_3521 : decode cL_law 3521 = .ok (.ireturn, 1) := dk_172 (dk_at dksL_law_139 23 rfl rfl)
theorem dL_law_3522 : decode cL_law 3522 = .ok (.goto 192, 3) := dk_167 0 192 (dk_at dksL_law_140 0 rfl rfl)
theorem dL_law_3525 : decode cL_law 3525 = .ok (.aload_n 1, 1) := dk_43 (dk_at dksL_law_140 3 rfl rfl)
theorem dL_law_3526 : decode cL_law 3526 = .ok (.invokevirtual 401, 3) := dk_182 1 145 (dk_at dksL_law_140 4 rfl rfl)
theorem dL_law_3529 : decode cL_law 3529 = .ok (.aload_n 2, 1) := dk_44 (dk_at dksL_law_140 7 rfl rfl)
theorem dL_law_3530 : decode cL_law 3530 = .ok (.invokevirtual 404, 3) := dk_182 1 148 (dk_at dksL_law_140 8 rfl rfl)
theorem dL_law_3533 : decode cL_law 3533 = .ok (.if_icmp .eq 181, 3) := dk_159 0 181 (dk_at dksL_law_140 11 rfl rfl)
theorem dL_law_3536 : decode cL_law 3536 = .ok (.iconst 0, 1) := dk_3 (dk_at dksL_law_140 14 rfl rfl)
theorem dL_law_3537 : decode cL_law 3537 = .ok (.ireturn, 1) := dk_172 (dk_at dksL_law_140 15 rfl rfl)
theorem dL_law_3538 : decode cL_law 3538 = .ok (.aload_n 1, 1) := dk_43 (dk_at dksL_law_140 16 rfl rfl)
theorem dL_law_3539 : decode cL_law 3539 = .ok (.aload_n 3, 1) := dk_45 (dk_at dksL_law_140 17 rfl rfl)
theorem dL_law_3540 : decode cL_law 3540 = .ok (.invokestatic 405, 3) := dk_184 1 149 (dk_at dksL_law_140 18 rfl rfl)
theorem dL_law_3543 : decode cL_law 3543 = .ok (.istore 6, 2) := dk_54 6 (dk_at dksL_law_140 21 rfl rfl)
theorem dL_law_3545 : decode cL_law 3545 = .ok (.aload_n 2, 1) := dk_44 (dk_at dksL_law_140 23 rfl rfl)
theorem dL_law_3546 : decode cL_law 3546 = .ok (.invokevirtual 407, 3) := dk_182 1 151 (dk_at dksL_law_141 0 rfl rfl)
theorem dL_law_3549 : decode cL_law 3549 = .ok (.istore 7, 2) := dk_54 7 (dk_at dksL_law_141 3 rfl rfl)
theorem dL_law_3551 : decode cL_law 3551 = .ok (.aload_n 2, 1) := dk_44 (dk_at dksL_law_141 5 rfl rfl)
theorem dL_law_3552 : decode cL_law 3552 = .ok (.invokevirtual 191, 3) := dk_182 0 191 (dk_at dksL_law_141 6 rfl rfl)
theorem dL_law_3555 : decode cL_law 3555 = .ok (.iload 6, 2) := dk_21 6 (dk_at dksL_law_141 9 rfl rfl)
theorem dL_law_3557 : decode cL_law 3557 = .ok (.if_icmp .eq 5, 3) := dk_159 0 5 (dk_at dksL_law_141 11 rfl rfl)
theorem dL_law_3560 : decode cL_law 3560 = .ok (.iconst 0, 1) := dk_3 (dk_at dksL_law_141 14 rfl rfl)
theorem dL_law_3561 : decode cL_law 3561 = .ok (.ireturn, 1) := dk_172 (dk_at dksL_law_141 15 rfl rfl)
theorem dL_law_3562 : decode cL_law 3562 = .ok (.iload 6, 2) := dk_21 6 (dk_at dksL_law_141 16 rfl rfl)
theorem dL_law_3564 : decode cL_law 3564 = .ok (.ifCond .ne 15, 3) := dk_154 0 15 (dk_at dksL_law_141 18 rfl rfl)
theorem dL_law_3567 : decode cL_law 3567 = .ok (.aload_n 3, 1) := dk_45 (dk_at dksL_law_141 21 rfl rfl)
theorem dL_law_3568 : decode cL_law 3568 = .ok (.iconst 0, 1) := dk_3 (dk_at dksL_law_141 22 rfl rfl)
theorem dL_law_3569 : decode cL_law 3569 = .ok (.laload, 1) := dk_47 (dk_at dksL_law_141 23 rfl rfl)
theorem dL_law_3570 : decode cL_law 3570 = .ok (.iload 7, 2) := dk_21 7 (dk_at dksL_law_142 0 rfl rfl)
theorem dL_law_3572 : decode cL_law 3572 = .ok (.i2l, 1) := dk_133 (dk_at dksL_law_142 2 rfl rfl)
theorem dL_law_3573 : decode cL_law 3573 = .ok (.lcmp, 1) := dk_148 (dk_at dksL_law_142 3 rfl rfl)
theorem dL_law_3574 : decode cL_law 3574 = .ok (.ifCond .eq 5, 3) := dk_153 0 5 (dk_at dksL_law_142 4 rfl rfl)
theorem dL_law_3577 : decode cL_law 3577 = .ok (.iconst 0, 1) := dk_3 (dk_at dksL_law_142 7 rfl rfl)
theorem dL_law_3578 : decode cL_law 3578 = .ok (.ireturn, 1) := dk_172 (dk_at dksL_law_142 8 rfl rfl)
theorem dL_law_3579 : decode cL_law 3579 = .ok (.goto 135, 3) := dk_167 0 135 (dk_at dksL_law_142 9 rfl rfl)
theorem dL_law_3582 : decode cL_law 3582 = .ok (.aload_n 1, 1) := dk_43 (dk_at dksL_law_142 12 rfl rfl)
theorem dL_law_3583 : decode cL_law 3583 = .ok (.aload_n 3, 1) := dk_45 (dk_at dksL_law_142 13 rfl rfl)
theorem dL_law_3584 : decode cL_law 3584 = .ok (.invokestatic 408, 3) := dk_184 1 152 (dk_at dksL_law_142 14 rfl rfl)
theorem dL_law_3587 : decode cL_law 3587 = .ok (.istore 6, 2) := dk_54 6 (dk_at dksL_law_142 17 rfl rfl)
theorem dL_law_3589 : decode cL_law 3589 = .ok (.aload_n 2, 1) := dk_44 (dk_at dksL_law_142 19 rfl rfl)
theorem dL_law_3590 : decode cL_law 3590 = .ok (.invokevirtual 410, 3) := dk_182 1 154 (dk_at dksL_law_142 20 rfl rfl)
theorem dL_law_3593 : decode cL_law 3593 = .ok (.istore 7, 2) := dk_54 7 (dk_at dksL_law_143 0 rfl rfl)
theorem dL_law_3595 : decode cL_law 3595 = .ok (.aload_n 2, 1) := dk_44 (dk_at dksL_law_143 2 rfl rfl)
theorem dL_law_3596 : decode cL_law 3596 = .ok (.invokevirtual 191, 3) := dk_182 0 191 (dk_at dksL_law_143 3 rfl rfl)
theorem dL_law_3599 : decode cL_law 3599 = .ok (.iload 6, 2) := dk_21 6 (dk_at dksL_law_143 6 rfl rfl)
theorem dL_law_3601 : decode cL_law 3601 = .ok (.if_icmp .eq 5, 3) := dk_159 0 5 (dk_at dksL_law_143 8 rfl rfl)
theorem dL_law_3604 : decode cL_law 3604 = .ok (.iconst 0, 1) := dk_3 (dk_at dksL_law_143 11 rfl rfl)
theorem dL_law_3605 : decode cL_law 3605 = .ok (.ireturn, 1) := dk_172 (dk_at dksL_law_143 12 rfl rfl)
theorem dL_law_3606 : decode cL_law 3606 = .ok (.iload 6, 2) := dk_21 6 (dk_at dksL_law_143 13 rfl rfl)
theorem dL_law_3608 : decode cL_law 3608 = .ok (.ifCond .ne 15, 3) := dk_154 0 15 (dk_at dksL_law_143 15 rfl rfl)
theorem dL_law_3611 : decode cL_law 3611 = .ok (.aload_n 3, 1) := dk_45 (dk_at dksL_law_143 18 rfl rfl)
theorem dL_law_3612 : decode cL_law 3612 = .ok (.iconst 0, 1) := dk_3 (dk_at dksL_law_143 19 rfl rfl)
theorem dL_law_3613 : decode cL_law 3613 = .ok (.laload, 1) := dk_47 (dk_at dksL_law_143 20 rfl rfl)
theorem dL_law_3614 : decode cL_law 3614 = .ok (.iload 7, 2) := dk_21 7 (dk_at dksL_law_143 21 rfl rfl)
theorem dL_law_3616 : decode cL_law 3616 = .ok (.i2l, 1) := dk_133 (dk_at dksL_law_143 23 rfl rfl)
theorem dL_law_3617 : decode cL_law 3617 = .ok (.lcmp, 1) := dk_148 (dk_at dksL_law_144 0 rfl rfl)
theorem dL_law_3618 : decode cL_law 3618 = .ok (.ifCond .eq 5, 3) := dk_153 0 5 (dk_at dksL_law_144 1 rfl rfl)
theorem dL_law_3621 : decode cL_law 3621 = .ok (.iconst 0, 1) := dk_3 (dk_at dksL_law_144 4 rfl rfl)
theorem dL_law_3622 : decode cL_law 3622 = .ok (.ireturn, 1) := dk_172 (dk_at dksL_law_144 5 rfl rfl)
theorem dL_law_3623 : decode cL_law 3623 = .ok (.goto 91, 3) := dk_167 0 91 (dk_at dksL_law_144 6 rfl rfl)
theorem dL_law_3626 : decode cL_law 3626 = .ok (.aload_n 1, 1) := dk_43 (dk_at dksL_law_144 9 rfl rfl)
theorem dL_law_3627 : decode cL_law 3627 = .ok (.aload_n 3, 1) := dk_45 (dk_at dksL_law_144 10 rfl rfl)
theorem dL_law_3628 : decode cL_law 3628 = .ok (.invokestatic 411, 3) := dk_184 1 155 (dk_at dksL_law_144 11 rfl rfl)
theorem dL_law_3631 : decode cL_law 3631 = .ok (.istore 6, 2) := dk_54 6 (dk_at dksL_law_144 14 rfl rfl)
theorem dL_law_3633 : decode cL_law 3633 = .ok (.aload_n 2, 1) := dk_44 (dk_at dksL_law_144 16 rfl rfl)
theorem dL_law_3634 : decode cL_law 3634 = .ok (.invokevirtual 413, 3) := dk_182 1 157 (dk_at dksL_law_144 17 rfl rfl)
theorem dL_law_3637 : decode cL_law 3637 = .ok (.istore 7, 2) := dk_54 7 (dk_at dksL_law_144 20 rfl rfl)
theorem dL_law_3639 : decode cL_law 3639 = .ok (.aload_n 2, 1) := dk_44 (dk_at dksL_law_144 22 rfl rfl)
theorem dL_law_3640 : decode cL_law 3640 = .ok (.invokevirtual 191, 3) := dk_182 0 191 (dk_at dksL_law_145 0 rfl rfl)
theorem dL_law_3643 : decode cL_law 3643 = .ok (.iload 6, 2) := dk_21 6 (dk_at dksL_law_145 3 rfl rfl)
theorem dL_law_3645 : decode cL_law 3645 = .ok (.if_icmp .eq 5, 3) := dk_159 0 5 (dk_at dksL_law_145 5 rfl rfl)
theorem dL_law_3648 : decode cL_law 3648 = .ok (.iconst 0, 1) := dk_3 (dk_at dksL_law_145 8 rfl rfl)
theorem dL_law_3649 : decode cL_law 3649 = .ok (.ireturn, 1) := dk_172 (dk_at dksL_law_145 9 rfl rfl)
theorem dL_law_3650 : decode cL_law 3650 = .ok (.iload 6, 2) := dk_21 6 (dk_at dksL_law_145 10 rfl rfl)
theorem dL_law_3652 : decode cL_law 3652 = .ok (.ifCond .ne 15, 3) := dk_154 0 15 (dk_at dksL_law_145 12 rfl rfl)
theorem dL_law_3655 : decode cL_law 3655 = .ok (.aload_n 3, 1) := dk_45 (dk_at dksL_law_145 15 rfl rfl)
theorem dL_law_3656 : decode cL_law 3656 = .ok (.iconst 0, 1) := dk_3 (dk_at dksL_law_145 16 rfl rfl)
theorem dL_law_3657 : decode cL_law 3657 = .ok (.laload, 1) := dk_47 (dk_at dksL_law_145 17 rfl rfl)
theorem dL_law_3658 : decode cL_law 3658 = .ok (.iload 7, 2) := dk_21 7 (dk_at dksL_law_145 18 rfl rfl)
theorem dL_law_3660 : decode cL_law 3660 = .ok (.i2l, 1) := dk_133 (dk_at dksL_law_145 20 rfl rfl)
theorem dL_law_3661 : decode cL_law 3661 = .ok (.lcmp, 1) := dk_148 (dk_at dksL_law_145 21 rfl rfl)
theorem dL_law_3662 : decode cL_law 3662 = .ok (.ifCond .eq 5, 3) := dk_153 0 5 (dk_at dksL_law_146 0 rfl rfl)
theorem dL_law_3665 : decode cL_law 3665 = .ok (.iconst 0, 1) := dk_3 (dk_at dksL_law_146 3 rfl rfl)
theorem dL_law_3666 : decode cL_law 3666 = .ok (.ireturn, 1) := dk_172 (dk_at dksL_law_146 4 rfl rfl)
theorem dL_law_3667 : decode cL_law 3667 = .ok (.goto 47, 3) := dk_167 0 47 (dk_at dksL_law_146 5 rfl rfl)
theorem dL_law_3670 : decode cL_law 3670 = .ok (.aload_n 1, 1) := dk_43 (dk_at dksL_law_146 8 rfl rfl)
theorem dL_law_3671 : decode cL_law 3671 = .ok (.aload_n 3, 1) := dk_45 (dk_at dksL_law_146 9 rfl rfl)
theorem dL_law_3672 : decode cL_law 3672 = .ok (.invokestatic 414, 3) := dk_184 1 158 (dk_at dksL_law_146 10 rfl rfl)
theorem dL_law_3675 : decode cL_law 3675 = .ok (.istore 6, 2) := dk_54 6 (dk_at dksL_law_146 13 rfl rfl)
theorem dL_law_3677 : decode cL_law 3677 = .ok (.aload_n 2, 1) := dk_44 (dk_at dksL_law_146 15 rfl rfl)
theorem dL_law_3678 : decode cL_law 3678 = .ok (.invokevirtual 416, 3) := dk_182 1 160 (dk_at dksL_law_146 16 rfl rfl)
theorem dL_law_3681 : decode cL_law 3681 = .ok (.istore 7, 2) := dk_54 7 (dk_at dksL_law_146 19 rfl rfl)
theorem dL_law_3683 : decode cL_law 3683 = .ok (.aload_n 2, 1) := dk_44 (dk_at dksL_law_146 21 rfl rfl)
theorem dL_law_3684 : decode cL_law 3684 = .ok (.invokevirtual 191, 3) := dk_182 0 191 (dk_at dksL_law_147 0 rfl rfl)
theorem dL_law_3687 : decode cL_law 3687 = .ok (.iload 6, 2) := dk_21 6 (dk_at dksL_law_147 3 rfl rfl)
theorem dL_law_3689 : decode cL_law 3689 = .ok (.if_icmp .eq 5, 3) := dk_159 0 5 (dk_at dksL_law_147 5 rfl rfl)
theorem dL_law_3692 : decode cL_law 3692 = .ok (.iconst 0, 1) := dk_3 (dk_at dksL_law_147 8 rfl rfl)
theorem dL_law_3693 : decode cL_law 3693 = .ok (.ireturn, 1) := dk_172 (dk_at dksL_law_147 9 rfl rfl)
theorem dL_law_3694 : decode cL_law 3694 = .ok (.iload 6, 2) := dk_21 6 (dk_at dksL_law_147 10 rfl rfl)
theorem dL_law_3696 : decode cL_law 3696 = .ok (.ifCond .ne 15, 3) := dk_154 0 15 (dk_at dksL_law_147 12 rfl rfl)
theorem dL_law_3699 : decode cL_law 3699 = .ok (.aload_n 3, 1) := dk_45 (dk_at dksL_law_147 15 rfl rfl)
theorem dL_law_3700 : decode cL_law 3700 = .ok (.iconst 0, 1) := dk_3 (dk_at dksL_law_147 16 rfl rfl)
theorem dL_law_3701 : decode cL_law 3701 = .ok (.laload, 1) := dk_47 (dk_at dksL_law_147 17 rfl rfl)
theorem dL_law_3702 : decode cL_law 3702 = .ok (.iload 7, 2) := dk_21 7 (dk_at dksL_law_147 18 rfl rfl)
theorem dL_law_3704 : decode cL_law 3704 = .ok (.i2l, 1) := dk_133 (dk_at dksL_law_147 20 rfl rfl)
theorem dL_law_3705 : decode cL_law 3705 = .ok (.lcmp, 1) := dk_148 (dk_at dksL_law_147 21 rfl rfl)
theorem dL_law_3706 : decode cL_law 3706 = .ok (.ifCond .eq 5, 3) := dk_153 0 5 (dk_at dksL_law_148 0 rfl rfl)
theorem dL_law_3709 : decode cL_law 3709 = .ok (.iconst 0, 1) := dk_3 (dk_at dksL_law_148 3 rfl rfl)
theorem dL_law_3710 : decode cL_law 3710 = .ok (.ireturn, 1) := dk_172 (dk_at dksL_law_148 4 rfl rfl)
theorem dL_law_3711 : decode cL_law 3711 = .ok (.goto 3, 3) := dk_167 0 3 (dk_at dksL_law_148 5 rfl rfl)
theorem dL_law_3714 : decode cL_law 3714 = .ok (.iinc 5 5, 3) := dk_132 5 5 (dk_at dksL_law_148 8 rfl rfl)
theorem dL_law_3717 : decode cL_law 3717 = .ok (.goto (-3689), 3) := dk_167 241 151 (dk_at dksL_law_148 11 rfl rfl)
theorem dL_law_3720 : decode cL_law 3720 = .ok (.iconst 1, 1) := dk_4 (dk_at dksL_law_148 14 rfl rfl)
theorem dL_law_3721 : decode cL_law 3721 = .ok (.ireturn, 1) := dk_172 (dk_at dksL_law_148 15 rfl rfl)

/-! ClockworkOrreries$Works -/
set_option maxRecDepth 100000
def RX2 : String := "ClockworkOrreries$Works"
def TX2 : u_T := fun k => match k with
  | 0 => ("ClockworkOrreries$Works", "wheels", "Ljava/util/ArrayList;", true)
  | 1 => ("ClockworkOrreries$Works", "arms", "Ljava/util/ArrayList;", true)
  | 2 => ("ClockworkOrreries$Works", "moons", "Ljava/util/ArrayList;", true)
  | 3 => ("ClockworkOrreries$Works", "first", "[I", true)
  | 4 => ("ClockworkOrreries$Works", "second", "[I", true)
  | 5 => ("ClockworkOrreries$Works", "axles", "I", false)
  | 6 => ("ClockworkOrreries$Works", "meshes", "I", false)
  | 7 => ("ClockworkOrreries$Works", "now", "I", false)
  | _ => ("ClockworkOrreries$Works", "gone", "I", false)
def tyX2 : Nat → FieldType := fun k => match k with
  | 0 => .object "java/util/ArrayList"
  | 1 => .object "java/util/ArrayList"
  | 2 => .object "java/util/ArrayList"
  | 3 => .array .int
  | 4 => .array .int
  | 5 => .int
  | 6 => .int
  | 7 => .int
  | _ => .int
abbrev wsX20 : List Cond := u_ws RX2 TX2 9
theorem nmX2 : ∀ a, a < 9 → ∀ b, b < 9 → a ≠ b → (TX2 a).2.1 ≠ (TX2 b).2.1 := by decide +kernel
theorem tyX2_ok : ∀ k, k < 9 → parseFieldDescriptor (TX2 k).2.2.1 = some (tyX2 k) := by decide +kernel
abbrev cX2_init : ByteArray := prog_8_method_1_code
def yX2_init : MethodName := ⟨RX2, "<init>", "()V"⟩
def dkwX2_init_2 : List UInt8 := [181, 0, 28, 42, 16, 16, 188, 10, 181, 0, 32, 177]
abbrev dktX2_init_2 : List UInt8 := dkwX2_init_2 ++ []
def dkwX2_init_1 : List UInt8 := [181, 0, 18, 42, 187, 0, 9, 89, 183, 0, 11, 181, 0, 21, 42, 4, 181, 0, 24, 42, 16, 16, 188, 10]
abbrev dktX2_init_1 : List UInt8 := dkwX2_init_1 ++ dktX2_init_2
def dkwX2_init_0 : List UInt8 := [42, 183, 0, 3, 42, 187, 0, 9, 89, 183, 0, 11, 181, 0, 12, 42, 187, 0, 9, 89, 183, 0, 11]
abbrev dktX2_init_0 : List UInt8 := dkwX2_init_0 ++ dktX2_init_1
theorem dksX2_init_0 : cX2_init.data.toList.drop 0 = dktX2_init_0 := by decide +kernel
theorem dksX2_init_1 : cX2_init.data.toList.drop 23 = dktX2_init_1 := dk_seg dksX2_init_0 23 rfl rfl
theorem dksX2_init_2 : cX2_init.data.toList.drop 47 = dktX2_init_2 := dk_seg dksX2_init_1 24 rfl rfl
theorem dX2_init_0 : decode cX2_init 0 = .ok (.aload_n 0, 1) := dk_42 (dk_at dksX2_init_0 0 rfl rfl)
theorem dX2_init_1 : decode cX2_init 1 = .ok (.invokespecial 3, 3) := dk_183 0 3 (dk_at dksX2_init_0 1 rfl rfl)
theorem dX2_init_4 : decode cX2_init 4 = .ok (.aload_n 0, 1) := dk_42 (dk_at dksX2_init_0 4 rfl rfl)
theorem dX2_init_5 : decode cX2_init 5 = .ok (.new 9, 3) := dk_187 0 9 (dk_at dksX2_init_0 5 rfl rfl)
theorem dX2_init_8 : decode cX2_init 8 = .ok (.dup, 1) := dk_89 (dk_at dksX2_init_0 8 rfl rfl)
theorem dX2_init_9 : decode cX2_init 9 = .ok (.invokespecial 11, 3) := dk_183 0 11 (dk_at dksX2_init_0 9 rfl rfl)
theorem dX2_init_12 : decode cX2_init 12 = .ok (.putfield 12, 3) := dk_181 0 12 (dk_at dksX2_init_0 12 rfl rfl)
theorem dX2_init_15 : decode cX2_init 15 = .ok (.aload_n 0, 1) := dk_42 (dk_at dksX2_init_0 15 rfl rfl)
theorem dX2_init_16 : decode cX2_init 16 = .ok (.new 9, 3) := dk_187 0 9 (dk_at dksX2_init_0 16 rfl rfl)
theorem dX2_init_19 : decode cX2_init 19 = .ok (.dup, 1) := dk_89 (dk_at dksX2_init_0 19 rfl rfl)
theorem dX2_init_20 : decode cX2_init 20 = .ok (.invokespecial 11, 3) := dk_183 0 11 (dk_at dksX2_init_0 20 rfl rfl)
theorem dX2_init_23 : decode cX2_init 23 = .ok (.putfield 18, 3) := dk_181 0 18 (dk_at dksX2_init_1 0 rfl rfl)
theorem dX2_init_26 : decode cX2_init 26 = .ok (.aload_n 0, 1) := dk_42 (dk_at dksX2_init_1 3 rfl rfl)
theorem dX2_init_27 : decode cX2_init 27 = .ok (.new 9, 3) := dk_187 0 9 (dk_at dksX2_init_1 4 rfl rfl)
theorem dX2_init_30 : decode cX2_init 30 = .ok (.dup, 1) := dk_89 (dk_at dksX2_init_1 7 rfl rfl)
theorem dX2_init_31 : decode cX2_init 31 = .ok (.invokespecial 11, 3) := dk_183 0 11 (dk_at dksX2_init_1 8 rfl rfl)
theorem dX2_init_34 : decode cX2_init 34 = .ok (.putfield 21, 3) := dk_181 0 21 (dk_at dksX2_init_1 11 rfl rfl)
theorem dX2_init_37 : decode cX2_init 37 = .ok (.aload_n 0, 1) := dk_42 (dk_at dksX2_init_1 14 rfl rfl)
theorem dX2_init_38 : decode cX2_init 38 = .ok (.iconst 1, 1) := dk_4 (dk_at dksX2_init_1 15 rfl rfl)
theorem dX2_init_39 : decode cX2_init 39 = .ok (.putfield 24, 3) := dk_181 0 24 (dk_at dksX2_init_1 16 rfl rfl)
theorem dX2_init_42 : decode cX2_init 42 = .ok (.aload_n 0, 1) := dk_42 (dk_at dksX2_init_1 19 rfl rfl)
theorem dX2_init_43 : decode cX2_init 43 = .ok (.bipush 16, 2) := dk_16 16 (dk_at dksX2_init_1 20 rfl rfl)
theorem dX2_init_45 : decode cX2_init 45 = .ok (.newarray .int, 2) := dk_188_10 (dk_at dksX2_init_1 22 rfl rfl)
theorem dX2_init_47 : decode cX2_init 47 = .ok (.putfield 28, 3) := dk_181 0 28 (dk_at dksX2_init_2 0 rfl rfl)
theorem dX2_init_50 : decode cX2_init 50 = .ok (.aload_n 0, 1) := dk_42 (dk_at dksX2_init_2 3 rfl rfl)
theorem dX2_init_51 : decode cX2_init 51 = .ok (.bipush 16, 2) := dk_16 16 (dk_at dksX2_init_2 4 rfl rfl)
theorem dX2_init_53 : decode cX2_init 53 = .ok (.newarray .int, 2) := dk_188_10 (dk_at dksX2_init_2 6 rfl rfl)
theorem dX2_init_55 : decode cX2_init 55 = .ok (.putfield 32, 3) := dk_181 0 32 (dk_at dksX2_init_2 8 rfl rfl)
theorem dX2_init_58 : decode cX2_init 58 = .ok (.return_, 1) := dk_177 (dk_at dksX2_init_2 11 rfl rfl)
abbrev cX2_drive : ByteArray := prog_8_method_7_code
def yX2_drive : MethodName := ⟨RX2, "drive", "()LClockworkOrreries$Drive;"⟩
def dkwX2_drive_0 : List UInt8 := [187, 0, 75, 89, 42, 183, 0, 77, 176]
abbrev dktX2_drive_0 : List UInt8 := dkwX2_drive_0 ++ []
theorem dksX2_drive_0 : cX2_drive.data.toList.drop 0 = dktX2_drive_0 := by decide +kernel
theorem dX2_drive_0 : decode cX2_drive 0 = .ok (.new 75, 3) := dk_187 0 75 (dk_at dksX2_drive_0 0 rfl rfl)
theorem dX2_drive_3 : decode cX2_drive 3 = .ok (.dup, 1) := dk_89 (dk_at dksX2_drive_0 3 rfl rfl)
theorem dX2_drive_4 : decode cX2_drive 4 = .ok (.aload_n 0, 1) := dk_42 (dk_at dksX2_drive_0 4 rfl rfl)
theorem dX2_drive_5 : decode cX2_drive 5 = .ok (.invokespecial 77, 3) := dk_183 0 77 (dk_at dksX2_drive_0 5 rfl rfl)
theorem dX2_drive_8 : decode cX2_drive 8 = .ok (.areturn, 1) := dk_176 (dk_at dksX2_drive_0 8 rfl rfl)
abbrev cX2_init_2 : ByteArray := prog_8_method_2_code
def yX2_init_2 : MethodName := ⟨RX2, "<init>", "(LClockworkOrreries$Works;)V"⟩
def dkwX2_init_2_9 : List UInt8 := [180, 0, 64, 181, 0, 64, 177]
abbrev dktX2_init_2_9 : List UInt8 := dkwX2_init_2_9 ++ []
def dkwX2_init_2_8 : List UInt8 := [180, 0, 24, 181, 0, 24, 42, 43, 180, 0, 58, 181, 0, 58, 42, 43, 180, 0, 61, 181, 0, 61, 42, 43]
abbrev dktX2_init_2_8 : List UInt8 := dkwX2_init_2_8 ++ dktX2_init_2_9
def dkwX2_init_2_7 : List UInt8 := [180, 0, 21, 28, 182, 0, 44, 192, 0, 56, 182, 0, 50, 87, 132, 2, 1, 167, 255, 223, 42, 43]
abbrev dktX2_init_2_7 : List UInt8 := dkwX2_init_2_7 ++ dktX2_init_2_8
def dkwX2_init_2_6 : List UInt8 := [132, 2, 1, 167, 255, 223, 3, 61, 28, 43, 180, 0, 21, 182, 0, 40, 162, 0, 28, 42, 180, 0, 21, 43]
abbrev dktX2_init_2_6 : List UInt8 := dkwX2_init_2_6 ++ dktX2_init_2_7
def dkwX2_init_2_5 : List UInt8 := [162, 0, 28, 42, 180, 0, 18, 43, 180, 0, 18, 28, 182, 0, 44, 192, 0, 54, 182, 0, 50, 87]
abbrev dktX2_init_2_5 : List UInt8 := dkwX2_init_2_5 ++ dktX2_init_2_6
def dkwX2_init_2_4 : List UInt8 := [192, 0, 48, 182, 0, 50, 87, 132, 2, 1, 167, 255, 223, 3, 61, 28, 43, 180, 0, 18, 182, 0, 40]
abbrev dktX2_init_2_4 : List UInt8 := dkwX2_init_2_4 ++ dktX2_init_2_5
def dkwX2_init_2_3 : List UInt8 := [61, 28, 43, 180, 0, 12, 182, 0, 40, 162, 0, 28, 42, 180, 0, 12, 43, 180, 0, 12, 28, 182, 0, 44]
abbrev dktX2_init_2_3 : List UInt8 := dkwX2_init_2_3 ++ dktX2_init_2_4
def dkwX2_init_2_2 : List UInt8 := [182, 0, 35, 192, 0, 36, 181, 0, 28, 42, 43, 180, 0, 32, 182, 0, 35, 192, 0, 36, 181, 0, 32, 3]
abbrev dktX2_init_2_2 : List UInt8 := dkwX2_init_2_2 ++ dktX2_init_2_3
def dkwX2_init_2_1 : List UInt8 := [181, 0, 18, 42, 187, 0, 9, 89, 183, 0, 11, 181, 0, 21, 42, 4, 181, 0, 24, 42, 43, 180, 0, 28]
abbrev dktX2_init_2_1 : List UInt8 := dkwX2_init_2_1 ++ dktX2_init_2_2
def dkwX2_init_2_0 : List UInt8 := [42, 183, 0, 3, 42, 187, 0, 9, 89, 183, 0, 11, 181, 0, 12, 42, 187, 0, 9, 89, 183, 0, 11]
abbrev dktX2_init_2_0 : List UInt8 := dkwX2_init_2_0 ++ dktX2_init_2_1
theorem dksX2_init_2_0 : cX2_init_2.data.toList.drop 0 = dktX2_init_2_0 := by decide +kernel
theorem dksX2_init_2_1 : cX2_init_2.data.toList.drop 23 = dktX2_init_2_1 := dk_seg dksX2_init_2_0 23 rfl rfl
theorem dksX2_init_2_2 : cX2_init_2.data.toList.drop 47 = dktX2_init_2_2 := dk_seg dksX2_init_2_1 24 rfl rfl
theorem dksX2_init_2_3 : cX2_init_2.data.toList.drop 71 = dktX2_init_2_3 := dk_seg dksX2_init_2_2 24 rfl rfl
theorem dksX2_init_2_4 : cX2_init_2.data.toList.drop 95 = dktX2_init_2_4 := dk_seg dksX2_init_2_3 24 rfl rfl
theorem dksX2_init_2_5 : cX2_init_2.data.toList.drop 118 = dktX2_init_2_5 := dk_seg dksX2_init_2_4 23 rfl rfl
theorem dksX2_init_2_6 : cX2_init_2.data.toList.drop 140 = dktX2_init_2_6 := dk_seg dksX2_init_2_5 22 rfl rfl
theorem dksX2_init_2_7 : cX2_init_2.data.toList.drop 164 = dktX2_init_2_7 := dk_seg dksX2_init_2_6 24 rfl rfl
theorem dksX2_init_2_8 : cX2_init_2.data.toList.drop 186 = dktX2_init_2_8 := dk_seg dksX2_init_2_7 22 rfl rfl
theorem dksX2_init_2_9 : cX2_init_2.data.toList.drop 210 = dktX2_init_2_9 := dk_seg dksX2_init_2_8 24 rfl rfl
theorem dX2_init_2_0 : decode cX2_init_2 0 = .ok (.aload_n 0, 1) := dk_42 (dk_at dksX2_init_2_0 0 rfl rfl)
theorem dX2_init_2_1 : decode cX2_init_2 1 = .ok (.invokespecial 3, 3) := dk_183 0 3 (dk_at dksX2_init_2_0 1 rfl rfl)
theorem dX2_init_2_4 : decode cX2_init_2 4 = .ok (.aload_n 0, 1) := dk_42 (dk_at dksX2_init_2_0 4 rfl rfl)
theorem dX2_init_2_5 : decode cX2_init_2 5 = .ok (.new 9, 3) := dk_187 0 9 (dk_at dksX2_init_2_0 5 rfl rfl)
theorem dX2_init_2_8 : decode cX2_init_2 8 = .ok (.dup, 1) := dk_89 (dk_at dksX2_init_2_0 8 rfl rfl)
theorem dX2_init_2_9 : decode cX2_init_2 9 = .ok (.invokespecial 11, 3) := dk_183 0 11 (dk_at dksX2_init_2_0 9 rfl rfl)
theorem dX2_init_2_12 : decode cX2_init_2 12 = .ok (.putfield 12, 3) := dk_181 0 12 (dk_at dksX2_init_2_0 12 rfl rfl)
theorem dX2_init_2_15 : decode cX2_init_2 15 = .ok (.aload_n 0, 1) := dk_42 (dk_at dksX2_init_2_0 15 rfl rfl)
theorem dX2_init_2_16 : decode cX2_init_2 16 = .ok (.new 9, 3) := dk_187 0 9 (dk_at dksX2_init_2_0 16 rfl rfl)
theorem dX2_init_2_19 : decode cX2_init_2 19 = .ok (.dup, 1) := dk_89 (dk_at dksX2_init_2_0 19 rfl rfl)
theorem dX2_init_2_20 : decode cX2_init_2 20 = .ok (.invokespecial 11, 3) := dk_183 0 11 (dk_at dksX2_init_2_0 20 rfl rfl)
theorem dX2_init_2_23 : decode cX2_init_2 23 = .ok (.putfield 18, 3) := dk_181 0 18 (dk_at dksX2_init_2_1 0 rfl rfl)
theorem dX2_init_2_26 : decode cX2_init_2 26 = .ok (.aload_n 0, 1) := dk_42 (dk_at dksX2_init_2_1 3 rfl rfl)
theorem dX2_init_2_27 : decode cX2_init_2 27 = .ok (.new 9, 3) := dk_187 0 9 (dk_at dksX2_init_2_1 4 rfl rfl)
theorem dX2_init_2_30 : decode cX2_init_2 30 = .ok (.dup, 1) := dk_89 (dk_at dksX2_init_2_1 7 rfl rfl)
theorem dX2_init_2_31 : decode cX2_init_2 31 = .ok (.invokespecial 11, 3) := dk_183 0 11 (dk_at dksX2_init_2_1 8 rfl rfl)
theorem dX2_init_2_34 : decode cX2_init_2 34 = .ok (.putfield 21, 3) := dk_181 0 21 (dk_at dksX2_init_2_1 11 rfl rfl)
theorem dX2_init_2_37 : decode cX2_init_2 37 = .ok (.aload_n 0, 1) := dk_42 (dk_at dksX2_init_2_1 14 rfl rfl)
theorem dX2_init_2_38 : decode cX2_init_2 38 = .ok (.iconst 1, 1) := dk_4 (dk_at dksX2_init_2_1 15 rfl rfl)
theorem dX2_init_2_39 : decode cX2_init_2 39 = .ok (.putfield 24, 3) := dk_181 0 24 (dk_at dksX2_init_2_1 16 rfl rfl)
theorem dX2_init_2_42 : decode cX2_init_2 42 = .ok (.aload_n 0, 1) := dk_42 (dk_at dksX2_init_2_1 19 rfl rfl)
theorem dX2_init_2_43 : decode cX2_init_2 43 = .ok (.aload_n 1, 1) := dk_43 (dk_at dksX2_init_2_1 20 rfl rfl)
theorem dX2_init_2_44 : decode cX2_init_2 44 = .ok (.getfield 28, 3) := dk_180 0 28 (dk_at dksX2_init_2_1 21 rfl rfl)
theorem dX2_init_2_47 : decode cX2_init_2 47 = .ok (.invokevirtual 35, 3) := dk_182 0 35 (dk_at dksX2_init_2_2 0 rfl rfl)
theorem dX2_init_2_50 : decode cX2_init_2 50 = .ok (.checkcast 36, 3) := dk_192 0 36 (dk_at dksX2_init_2_2 3 rfl rfl)
theorem dX2_init_2_53 : decode cX2_init_2 53 = .ok (.putfield 28, 3) := dk_181 0 28 (dk_at dksX2_init_2_2 6 rfl rfl)
theorem dX2_init_2_56 : decode cX2_init_2 56 = .ok (.aload_n 0, 1) := dk_42 (dk_at dksX2_init_2_2 9 rfl rfl)
theorem dX2_init_2_57 : decode cX2_init_2 57 = .ok (.aload_n 1, 1) := dk_43 (dk_at dksX2_init_2_2 10 rfl rfl)
theorem dX2_init_2_58 : decode cX2_init_2 58 = .ok (.getfield 32, 3) := dk_180 0 32 (dk_at dksX2_init_2_2 11 rfl rfl)
theorem dX2_init_2_61 : decode cX2_init_2 61 = .ok (.invokevirtual 35, 3) := dk_182 0 35 (dk_at dksX2_init_2_2 14 rfl rfl)
theorem dX2_init_2_64 : decode cX2_init_2 64 = .ok (.checkcast 36, 3) := dk_192 0 36 (dk_at dksX2_init_2_2 17 rfl rfl)
theorem dX2_init_2_67 : decode cX2_init_2 67 = .ok (.putfield 32, 3) := dk_181 0 32 (dk_at dksX2_init_2_2 20 rfl rfl)
theorem dX2_init_2_70 : decode cX2_init_2 70 = .ok (.iconst 0, 1) := dk_3 (dk_at dksX2_init_2_2 23 rfl rfl)
theorem dX2_init_2_71 : decode cX2_init_2 71 = .ok (.istore_n 2, 1) := dk_61 (dk_at dksX2_init_2_3 0 rfl rfl)
theorem dX2_init_2_72 : decode cX2_init_2 72 = .ok (.iload_n 2, 1) := dk_28 (dk_at dksX2_init_2_3 1 rfl rfl)
theorem dX2_init_2_73 : decode cX2_init_2 73 = .ok (.aload_n 1, 1) := dk_43 (dk_at dksX2_init_2_3 2 rfl rfl)
theorem dX2_init_2_74 : decode cX2_init_2 74 = .ok (.getfield 12, 3) := dk_180 0 12 (dk_at dksX2_init_2_3 3 rfl rfl)
theorem dX2_init_2_77 : decode cX2_init_2 77 = .ok (.invokevirtual 40, 3) := dk_182 0 40 (dk_at dksX2_init_2_3 6 rfl rfl)
theorem dX2_init_2_80 : decode cX2_init_2 80 = .ok (.if_icmp .ge 28, 3) := dk_162 0 28 (dk_at dksX2_init_2_3 9 rfl rfl)
theorem dX2_init_2_83 : decode cX2_init_2 83 = .ok (.aload_n 0, 1) := dk_42 (dk_at dksX2_init_2_3 12 rfl rfl)
theorem dX2_init_2_84 : decode cX2_init_2 84 = .ok (.getfield 12, 3) := dk_180 0 12 (dk_at dksX2_init_2_3 13 rfl rfl)
theorem dX2_init_2_87 : decode cX2_init_2 87 = .ok (.aload_n 1, 1) := dk_43 (dk_at dksX2_init_2_3 16 rfl rfl)
theorem dX2_init_2_88 : decode cX2_init_2 88 = .ok (.getfield 12, 3) := dk_180 0 12 (dk_at dksX2_init_2_3 17 rfl rfl)
theorem dX2_init_2_91 : decode cX2_init_2 91 = .ok (.iload_n 2, 1) := dk_28 (dk_at dksX2_init_2_3 20 rfl rfl)
theorem dX2_init_2_92 : decode cX2_init_2 92 = .ok (.invokevirtual 44, 3) := dk_182 0 44 (dk_at dksX2_init_2_3 21 rfl rfl)
theorem dX2_init_2_95 : decode cX2_init_2 95 = .ok (.checkcast 48, 3) := dk_192 0 48 (dk_at dksX2_init_2_4 0 rfl rfl)
theorem dX2_init_2_98 : decode cX2_init_2 98 = .ok (.invokevirtual 50, 3) := dk_182 0 50 (dk_at dksX2_init_2_4 3 rfl rfl)
theorem dX2_init_2_101 : decode cX2_init_2 101 = .ok (.pop, 1) := dk_87 (dk_at dksX2_init_2_4 6 rfl rfl)
theorem dX2_init_2_102 : decode cX2_init_2 102 = .ok (.iinc 2 1, 3) := dk_132 2 1 (dk_at dksX2_init_2_4 7 rfl rfl)
theorem dX2_init_2_105 : decode cX2_init_2 105 = .ok (.goto (-33), 3) := dk_167 255 223 (dk_at dksX2_init_2_4 10 rfl rfl)
theorem dX2_init_2_108 : decode cX2_init_2 108 = .ok (.iconst 0, 1) := dk_3 (dk_at dksX2_init_2_4 13 rfl rfl)
theorem dX2_init_2_109 : decode cX2_init_2 109 = .ok (.istore_n 2, 1) := dk_61 (dk_at dksX2_init_2_4 14 rfl rfl)
theorem dX2_init_2_110 : decode cX2_init_2 110 = .ok (.iload_n 2, 1) := dk_28 (dk_at dksX2_init_2_4 15 rfl rfl)
theorem dX2_init_2_111 : decode cX2_init_2 111 = .ok (.aload_n 1, 1) := dk_43 (dk_at dksX2_init_2_4 16 rfl rfl)
theorem dX2_init_2_112 : decode cX2_init_2 112 = .ok (.getfield 18, 3) := dk_180 0 18 (dk_at dksX2_init_2_4 17 rfl rfl)
theorem dX2_init_2_115 : decode cX2_init_2 115 = .ok (.invokevirtual 40, 3) := dk_182 0 40 (dk_at dksX2_init_2_4 20 rfl rfl)
theorem dX2_init_2_118 : decode cX2_init_2 118 = .ok (.if_icmp .ge 28, 3) := dk_162 0 28 (dk_at dksX2_init_2_5 0 rfl rfl)
theorem dX2_init_2_121 : decode cX2_init_2 121 = .ok (.aload_n 0, 1) := dk_42 (dk_at dksX2_init_2_5 3 rfl rfl)
theorem dX2_init_2_122 : decode cX2_init_2 122 = .ok (.getfield 18, 3) := dk_180 0 18 (dk_at dksX2_init_2_5 4 rfl rfl)
theorem dX2_init_2_125 : decode cX2_init_2 125 = .ok (.aload_n 1, 1) := dk_43 (dk_at dksX2_init_2_5 7 rfl rfl)
theorem dX2_init_2_126 : decode cX2_init_2 126 = .ok (.getfield 18, 3) := dk_180 0 18 (dk_at dksX2_init_2_5 8 rfl rfl)
theorem dX2_init_2_129 : decode cX2_init_2 129 = .ok (.iload_n 2, 1) := dk_28 (dk_at dksX2_init_2_5 11 rfl rfl)
theorem dX2_init_2_130 : decode cX2_init_2 130 = .ok (.invokevirtual 44, 3) := dk_182 0 44 (dk_at dksX2_init_2_5 12 rfl rfl)
theorem dX2_init_2_133 : decode cX2_init_2 133 = .ok (.checkcast 54, 3) := dk_192 0 54 (dk_at dksX2_init_2_5 15 rfl rfl)
theorem dX2_init_2_136 : decode cX2_init_2 136 = .ok (.invokevirtual 50, 3) := dk_182 0 50 (dk_at dksX2_init_2_5 18 rfl rfl)
theorem dX2_init_2_139 : decode cX2_init_2 139 = .ok (.pop, 1) := dk_87 (dk_at dksX2_init_2_5 21 rfl rfl)
theorem dX2_init_2_140 : decode cX2_init_2 140 = .ok (.iinc 2 1, 3) := dk_132 2 1 (dk_at dksX2_init_2_6 0 rfl rfl)
theorem dX2_init_2_143 : decode cX2_init_2 143 = .ok (.goto (-33), 3) := dk_167 255 223 (dk_at dksX2_init_2_6 3 rfl rfl)
theorem dX2_init_2_146 : decode cX2_init_2 146 = .ok (.iconst 0, 1) := dk_3 (dk_at dksX2_init_2_6 6 rfl rfl)
theorem dX2_init_2_147 : decode cX2_init_2 147 = .ok (.istore_n 2, 1) := dk_61 (dk_at dksX2_init_2_6 7 rfl rfl)
theorem dX2_init_2_148 : decode cX2_init_2 148 = .ok (.iload_n 2, 1) := dk_28 (dk_at dksX2_init_2_6 8 rfl rfl)
theorem dX2_init_2_149 : decode cX2_init_2 149 = .ok (.aload_n 1, 1) := dk_43 (dk_at dksX2_init_2_6 9 rfl rfl)
theorem dX2_init_2_150 : decode cX2_init_2 150 = .ok (.getfield 21, 3) := dk_180 0 21 (dk_at dksX2_init_2_6 10 rfl rfl)
theorem dX2_init_2_153 : decode cX2_init_2 153 = .ok (.invokevirtual 40, 3) := dk_182 0 40 (dk_at dksX2_init_2_6 13 rfl rfl)
theorem dX2_init_2_156 : decode cX2_init_2 156 = .ok (.if_icmp .ge 28, 3) := dk_162 0 28 (dk_at dksX2_init_2_6 16 rfl rfl)
theorem dX2_init_2_159 : decode cX2_init_2 159 = .ok (.aload_n 0, 1) := dk_42 (dk_at dksX2_init_2_6 19 rfl rfl)
theorem dX2_init_2_160 : decode cX2_init_2 160 = .ok (.getfield 21, 3) := dk_180 0 21 (dk_at dksX2_init_2_6 20 rfl rfl)
theorem dX2_init_2_163 : decode cX2_init_2 163 = .ok (.aload_n 1, 1) := dk_43 (dk_at dksX2_init_2_6 23 rfl rfl)
theorem dX2_init_2_164 : decode cX2_init_2 164 = .ok (.getfield 21, 3) := dk_180 0 21 (dk_at dksX2_init_2_7 0 rfl rfl)
theorem dX2_init_2_167 : decode cX2_init_2 167 = .ok (.iload_n 2, 1) := dk_28 (dk_at dksX2_init_2_7 3 rfl rfl)
theorem dX2_init_2_168 : decode cX2_init_2 168 = .ok (.invokevirtual 44, 3) := dk_182 0 44 (dk_at dksX2_init_2_7 4 rfl rfl)
theorem dX2_init_2_171 : decode cX2_init_2 171 = .ok (.checkcast 56, 3) := dk_192 0 56 (dk_at dksX2_init_2_7 7 rfl rfl)
theorem dX2_init_2_174 : decode cX2_init_2 174 = .ok (.invokevirtual 50, 3) := dk_182 0 50 (dk_at dksX2_init_2_7 10 rfl rfl)
theorem dX2_init_2_177 : decode cX2_init_2 177 = .ok (.pop, 1) := dk_87 (dk_at dksX2_init_2_7 13 rfl rfl)
theorem dX2_init_2_178 : decode cX2_init_2 178 = .ok (.iinc 2 1, 3) := dk_132 2 1 (dk_at dksX2_init_2_7 14 rfl rfl)
theorem dX2_init_2_181 : decode cX2_init_2 181 = .ok (.goto (-33), 3) := dk_167 255 223 (dk_at dksX2_init_2_7 17 rfl rfl)
theorem dX2_init_2_184 : decode cX2_init_2 184 = .ok (.aload_n 0, 1) := dk_42 (dk_at dksX2_init_2_7 20 rfl rfl)
theorem dX2_init_2_185 : decode cX2_init_2 185 = .ok (.aload_n 1, 1) := dk_43 (dk_at dksX2_init_2_7 21 rfl rfl)
theorem dX2_init_2_186 : decode cX2_init_2 186 = .ok (.getfield 24, 3) := dk_180 0 24 (dk_at dksX2_init_2_8 0 rfl rfl)
theorem dX2_init_2_189 : decode cX2_init_2 189 = .ok (.putfield 24, 3) := dk_181 0 24 (dk_at dksX2_init_2_8 3 rfl rfl)
theorem dX2_init_2_192 : decode cX2_init_2 192 = .ok (.aload_n 0, 1) := dk_42 (dk_at dksX2_init_2_8 6 rfl rfl)
theorem dX2_init_2_193 : decode cX2_init_2 193 = .ok (.aload_n 1, 1) := dk_43 (dk_at dksX2_init_2_8 7 rfl rfl)
theorem dX2_init_2_194 : decode cX2_init_2 194 = .ok (.getfield 58, 3) := dk_180 0 58 (dk_at dksX2_init_2_8 8 rfl rfl)
theorem dX2_init_2_197 : decode cX2_init_2 197 = .ok (.putfield 58, 3) := dk_181 0 58 (dk_at dksX2_init_2_8 11 rfl rfl)
theorem dX2_init_2_200 : decode cX2_init_2 200 = .ok (.aload_n 0, 1) := dk_42 (dk_at dksX2_init_2_8 14 rfl rfl)
theorem dX2_init_2_201 : decode cX2_init_2 201 = .ok (.aload_n 1, 1) := dk_43 (dk_at dksX2_init_2_8 15 rfl rfl)
theorem dX2_init_2_202 : decode cX2_init_2 202 = .ok (.getfield 61, 3) := dk_180 0 61 (dk_at dksX2_init_2_8 16 rfl rfl)
theorem dX2_init_2_205 : decode cX2_init_2 205 = .ok (.putfield 61, 3) := dk_181 0 61 (dk_at dksX2_init_2_8 19 rfl rfl)
theorem dX2_init_2_208 : decode cX2_init_2 208 = .ok (.aload_n 0, 1) := dk_42 (dk_at dksX2_init_2_8 22 rfl rfl)
theorem dX2_init_2_209 : decode cX2_init_2 209 = .ok (.aload_n 1, 1) := dk_43 (dk_at dksX2_init_2_8 23 rfl rfl)
theorem dX2_init_2_210 : decode cX2_init_2 210 = .ok (.getfield 64, 3) := dk_180 0 64 (dk_at dksX2_init_2_9 0 rfl rfl)
theorem dX2_init_2_213 : decode cX2_init_2 213 = .ok (.putfield 64, 3) := dk_181 0 64 (dk_at dksX2_init_2_9 3 rfl rfl)
theorem dX2_init_2_216 : decode cX2_init_2 216 = .ok (.return_, 1) := dk_177 (dk_at dksX2_init_2_9 6 rfl rfl)
abbrev cX2_getsAxle : ByteArray := prog_8_method_16_code
def yX2_getsAxle : MethodName := ⟨RX2, "getsAxle", "()I"⟩
def dkwX2_getsAxle_1 : List UInt8 := [96, 181, 0, 24, 42, 180, 0, 24, 4, 100, 172]
abbrev dktX2_getsAxle_1 : List UInt8 := dkwX2_getsAxle_1 ++ []
def dkwX2_getsAxle_0 : List UInt8 := [42, 180, 0, 24, 16, 12, 162, 0, 7, 4, 167, 0, 4, 3, 5, 184, 0, 146, 42, 89, 180, 0, 24, 4]
abbrev dktX2_getsAxle_0 : List UInt8 := dkwX2_getsAxle_0 ++ dktX2_getsAxle_1
theorem dksX2_getsAxle_0 : cX2_getsAxle.data.toList.drop 0 = dktX2_getsAxle_0 := by decide +kernel
theorem dksX2_getsAxle_1 : cX2_getsAxle.data.toList.drop 24 = dktX2_getsAxle_1 := dk_seg dksX2_getsAxle_0 24 rfl rfl
theorem dX2_getsAxle_0 : decode cX2_getsAxle 0 = .ok (.aload_n 0, 1) := dk_42 (dk_at dksX2_getsAxle_0 0 rfl rfl)
theorem dX2_getsAxle_1 : decode cX2_getsAxle 1 = .ok (.getfield 24, 3) := dk_180 0 24 (dk_at dksX2_getsAxle_0 1 rfl rfl)
theorem dX2_getsAxle_4 : decode cX2_getsAxle 4 = .ok (.bipush 12, 2) := dk_16 12 (dk_at dksX2_getsAxle_0 4 rfl rfl)
theorem dX2_getsAxle_6 : decode cX2_getsAxle 6 = .ok (.if_icmp .ge 7, 3) := dk_162 0 7 (dk_at dksX2_getsAxle_0 6 rfl rfl)
theorem dX2_getsAxle_9 : decode cX2_getsAxle 9 = .ok (.iconst 1, 1) := dk_4 (dk_at dksX2_getsAxle_0 9 rfl rfl)
theorem dX2_getsAxle_10 : decode cX2_getsAxle 10 = .ok (.goto 4, 3) := dk_167 0 4 (dk_at dksX2_getsAxle_0 10 rfl rfl)
theorem dX2_getsAxle_13 : decode cX2_getsAxle 13 = .ok (.iconst 0, 1) := dk_3 (dk_at dksX2_getsAxle_0 13 rfl rfl)
theorem dX2_getsAxle_14 : decode cX2_getsAxle 14 = .ok (.iconst 2, 1) := dk_5 (dk_at dksX2_getsAxle_0 14 rfl rfl)
theorem dX2_getsAxle_15 : decode cX2_getsAxle 15 = .ok (.invokestatic 146, 3) := dk_184 0 146 (dk_at dksX2_getsAxle_0 15 rfl rfl)
theorem dX2_getsAxle_18 : decode cX2_getsAxle 18 = .ok (.aload_n 0, 1) := dk_42 (dk_at dksX2_getsAxle_0 18 rfl rfl)
theorem dX2_getsAxle_19 : decode cX2_getsAxle 19 = .ok (.dup, 1) := dk_89 (dk_at dksX2_getsAxle_0 19 rfl rfl)
theorem dX2_getsAxle_20 : decode cX2_getsAxle 20 = .ok (.getfield 24, 3) := dk_180 0 24 (dk_at dksX2_getsAxle_0 20 rfl rfl)
theorem dX2_getsAxle_23 : decode cX2_getsAxle 23 = .ok (.iconst 1, 1) := dk_4 (dk_at dksX2_getsAxle_0 23 rfl rfl)
theorem dX2_getsAxle_24 : decode cX2_getsAxle 24 = .ok (.iadd, 1) := dk_96 (dk_at dksX2_getsAxle_1 0 rfl rfl)
theorem dX2_getsAxle_25 : decode cX2_getsAxle 25 = .ok (.putfield 24, 3) := dk_181 0 24 (dk_at dksX2_getsAxle_1 1 rfl rfl)
theorem dX2_getsAxle_28 : decode cX2_getsAxle 28 = .ok (.aload_n 0, 1) := dk_42 (dk_at dksX2_getsAxle_1 4 rfl rfl)
theorem dX2_getsAxle_29 : decode cX2_getsAxle 29 = .ok (.getfield 24, 3) := dk_180 0 24 (dk_at dksX2_getsAxle_1 5 rfl rfl)
theorem dX2_getsAxle_32 : decode cX2_getsAxle 32 = .ok (.iconst 1, 1) := dk_4 (dk_at dksX2_getsAxle_1 8 rfl rfl)
theorem dX2_getsAxle_33 : decode cX2_getsAxle 33 = .ok (.isub, 1) := dk_100 (dk_at dksX2_getsAxle_1 9 rfl rfl)
theorem dX2_getsAxle_34 : decode cX2_getsAxle 34 = .ok (.ireturn, 1) := dk_172 (dk_at dksX2_getsAxle_1 10 rfl rfl)
abbrev cX2_getsWheel : ByteArray := prog_8_method_17_code
def yX2_getsWheel : MethodName := ⟨RX2, "getsWheel", "(II)I"⟩
def dkwX2_getsWheel_3 : List UInt8 := [180, 0, 12, 182, 0, 40, 4, 100, 172]
abbrev dktX2_getsWheel_3 : List UInt8 := dkwX2_getsWheel_3 ++ []
def dkwX2_getsWheel_2 : List UInt8 := [3, 5, 184, 0, 146, 42, 180, 0, 12, 187, 0, 48, 89, 27, 28, 183, 0, 157, 182, 0, 50, 87, 42]
abbrev dktX2_getsWheel_2 : List UInt8 := dkwX2_getsWheel_2 ++ dktX2_getsWheel_3
def dkwX2_getsWheel_1 : List UInt8 := [167, 0, 4, 3, 4, 184, 0, 146, 42, 180, 0, 12, 182, 0, 40, 16, 24, 162, 0, 7, 4, 167, 0, 4]
abbrev dktX2_getsWheel_1 : List UInt8 := dkwX2_getsWheel_1 ++ dktX2_getsWheel_2
def dkwX2_getsWheel_0 : List UInt8 := [42, 27, 182, 0, 150, 153, 0, 21, 28, 133, 20, 0, 153, 20, 0, 155, 184, 0, 67, 153, 0, 7, 4]
abbrev dktX2_getsWheel_0 : List UInt8 := dkwX2_getsWheel_0 ++ dktX2_getsWheel_1
theorem dksX2_getsWheel_0 : cX2_getsWheel.data.toList.drop 0 = dktX2_getsWheel_0 := by decide +kernel
theorem dksX2_getsWheel_1 : cX2_getsWheel.data.toList.drop 23 = dktX2_getsWheel_1 := dk_seg dksX2_getsWheel_0 23 rfl rfl
theorem dksX2_getsWheel_2 : cX2_getsWheel.data.toList.drop 47 = dktX2_getsWheel_2 := dk_seg dksX2_getsWheel_1 24 rfl rfl
theorem dksX2_getsWheel_3 : cX2_getsWheel.data.toList.drop 70 = dktX2_getsWheel_3 := dk_seg dksX2_getsWheel_2 23 rfl rfl
theorem dX2_getsWheel_0 : decode cX2_getsWheel 0 = .ok (.aload_n 0, 1) := dk_42 (dk_at dksX2_getsWheel_0 0 rfl rfl)
theorem dX2_getsWheel_1 : decode cX2_getsWheel 1 = .ok (.iload_n 1, 1) := dk_27 (dk_at dksX2_getsWheel_0 1 rfl rfl)
theorem dX2_getsWheel_2 : decode cX2_getsWheel 2 = .ok (.invokevirtual 150, 3) := dk_182 0 150 (dk_at dksX2_getsWheel_0 2 rfl rfl)
theorem dX2_getsWheel_5 : decode cX2_getsWheel 5 = .ok (.ifCond .eq 21, 3) := dk_153 0 21 (dk_at dksX2_getsWheel_0 5 rfl rfl)
theorem dX2_getsWheel_8 : decode cX2_getsWheel 8 = .ok (.iload_n 2, 1) := dk_28 (dk_at dksX2_getsWheel_0 8 rfl rfl)
theorem dX2_getsWheel_9 : decode cX2_getsWheel 9 = .ok (.i2l, 1) := dk_133 (dk_at dksX2_getsWheel_0 9 rfl rfl)
theorem dX2_getsWheel_10 : decode cX2_getsWheel 10 = .ok (.ldc2_w 153, 3) := dk_20 0 153 (dk_at dksX2_getsWheel_0 10 rfl rfl)
theorem dX2_getsWheel_13 : decode cX2_getsWheel 13 = .ok (.ldc2_w 155, 3) := dk_20 0 155 (dk_at dksX2_getsWheel_0 13 rfl rfl)
theorem dX2_getsWheel_16 : decode cX2_getsWheel 16 = .ok (.invokestatic 67, 3) := dk_184 0 67 (dk_at dksX2_getsWheel_0 16 rfl rfl)
theorem dX2_getsWheel_19 : decode cX2_getsWheel 19 = .ok (.ifCond .eq 7, 3) := dk_153 0 7 (dk_at dksX2_getsWheel_0 19 rfl rfl)
theorem dX2_getsWheel_22 : decode cX2_getsWheel 22 = .ok (.iconst 1, 1) := dk_4 (dk_at dksX2_getsWheel_0 22 rfl rfl)
theorem dX2_getsWheel_23 : decode cX2_getsWheel 23 = .ok (.goto 4, 3) := dk_167 0 4 (dk_at dksX2_getsWheel_1 0 rfl rfl)
theorem dX2_getsWheel_26 : decode cX2_getsWheel 26 = .ok (.iconst 0, 1) := dk_3 (dk_at dksX2_getsWheel_1 3 rfl rfl)
theorem dX2_getsWheel_27 : decode cX2_getsWheel 27 = .ok (.iconst 1, 1) := dk_4 (dk_at dksX2_getsWheel_1 4 rfl rfl)
theorem dX2_getsWheel_28 : decode cX2_getsWheel 28 = .ok (.invokestatic 146, 3) := dk_184 0 146 (dk_at dksX2_getsWheel_1 5 rfl rfl)
theorem dX2_getsWheel_31 : decode cX2_getsWheel 31 = .ok (.aload_n 0, 1) := dk_42 (dk_at dksX2_getsWheel_1 8 rfl rfl)
theorem dX2_getsWheel_32 : decode cX2_getsWheel 32 = .ok (.getfield 12, 3) := dk_180 0 12 (dk_at dksX2_getsWheel_1 9 rfl rfl)
theorem dX2_getsWheel_35 : decode cX2_getsWheel 35 = .ok (.invokevirtual 40, 3) := dk_182 0 40 (dk_at dksX2_getsWheel_1 12 rfl rfl)
theorem dX2_getsWheel_38 : decode cX2_getsWheel 38 = .ok (.bipush 24, 2) := dk_16 24 (dk_at dksX2_getsWheel_1 15 rfl rfl)
theorem dX2_getsWheel_40 : decode cX2_getsWheel 40 = .ok (.if_icmp .ge 7, 3) := dk_162 0 7 (dk_at dksX2_getsWheel_1 17 rfl rfl)
theorem dX2_getsWheel_43 : decode cX2_getsWheel 43 = .ok (.iconst 1, 1) := dk_4 (dk_at dksX2_getsWheel_1 20 rfl rfl)
theorem dX2_getsWheel_44 : decode cX2_getsWheel 44 = .ok (.goto 4, 3) := dk_167 0 4 (dk_at dksX2_getsWheel_1 21 rfl rfl)
theorem dX2_getsWheel_47 : decode cX2_getsWheel 47 = .ok (.iconst 0, 1) := dk_3 (dk_at dksX2_getsWheel_2 0 rfl rfl)
theorem dX2_getsWheel_48 : decode cX2_getsWheel 48 = .ok (.iconst 2, 1) := dk_5 (dk_at dksX2_getsWheel_2 1 rfl rfl)
theorem dX2_getsWheel_49 : decode cX2_getsWheel 49 = .ok (.invokestatic 146, 3) := dk_184 0 146 (dk_at dksX2_getsWheel_2 2 rfl rfl)
theorem dX2_getsWheel_52 : decode cX2_getsWheel 52 = .ok (.aload_n 0, 1) := dk_42 (dk_at dksX2_getsWheel_2 5 rfl rfl)
theorem dX2_getsWheel_53 : decode cX2_getsWheel 53 = .ok (.getfield 12, 3) := dk_180 0 12 (dk_at dksX2_getsWheel_2 6 rfl rfl)
theorem dX2_getsWheel_56 : decode cX2_getsWheel 56 = .ok (.new 48, 3) := dk_187 0 48 (dk_at dksX2_getsWheel_2 9 rfl rfl)
theorem dX2_getsWheel_59 : decode cX2_getsWheel 59 = .ok (.dup, 1) := dk_89 (dk_at dksX2_getsWheel_2 12 rfl rfl)
theorem dX2_getsWheel_60 : decode cX2_getsWheel 60 = .ok (.iload_n 1, 1) := dk_27 (dk_at dksX2_getsWheel_2 13 rfl rfl)
theorem dX2_getsWheel_61 : decode cX2_getsWheel 61 = .ok (.iload_n 2, 1) := dk_28 (dk_at dksX2_getsWheel_2 14 rfl rfl)
theorem dX2_getsWheel_62 : decode cX2_getsWheel 62 = .ok (.invokespecial 157, 3) := dk_183 0 157 (dk_at dksX2_getsWheel_2 15 rfl rfl)
theorem dX2_getsWheel_65 : decode cX2_getsWheel 65 = .ok (.invokevirtual 50, 3) := dk_182 0 50 (dk_at dksX2_getsWheel_2 18 rfl rfl)
theorem dX2_getsWheel_68 : decode cX2_getsWheel 68 = .ok (.pop, 1) := dk_87 (dk_at dksX2_getsWheel_2 21 rfl rfl)
theorem dX2_getsWheel_69 : decode cX2_getsWheel 69 = .ok (.aload_n 0, 1) := dk_42 (dk_at dksX2_getsWheel_2 22 rfl rfl)
theorem dX2_getsWheel_70 : decode cX2_getsWheel 70 = .ok (.getfield 12, 3) := dk_180 0 12 (dk_at dksX2_getsWheel_3 0 rfl rfl)
theorem dX2_getsWheel_73 : decode cX2_getsWheel 73 = .ok (.invokevirtual 40, 3) := dk_182 0 40 (dk_at dksX2_getsWheel_3 3 rfl rfl)
theorem dX2_getsWheel_76 : decode cX2_getsWheel 76 = .ok (.iconst 1, 1) := dk_4 (dk_at dksX2_getsWheel_3 6 rfl rfl)
theorem dX2_getsWheel_77 : decode cX2_getsWheel 77 = .ok (.isub, 1) := dk_100 (dk_at dksX2_getsWheel_3 7 rfl rfl)
theorem dX2_getsWheel_78 : decode cX2_getsWheel 78 = .ok (.ireturn, 1) := dk_172 (dk_at dksX2_getsWheel_3 8 rfl rfl)
abbrev cX2_isAxle : ByteArray := prog_8_method_3_code
def yX2_isAxle : MethodName := ⟨RX2, "isAxle", "(I)Z"⟩
def dkwX2_isAxle_0 : List UInt8 := [27, 133, 9, 42, 180, 0, 24, 4, 100, 133, 184, 0, 67, 172]
abbrev dktX2_isAxle_0 : List UInt8 := dkwX2_isAxle_0 ++ []
theorem dksX2_isAxle_0 : cX2_isAxle.data.toList.drop 0 = dktX2_isAxle_0 := by decide +kernel
theorem dX2_isAxle_0 : decode cX2_isAxle 0 = .ok (.iload_n 1, 1) := dk_27 (dk_at dksX2_isAxle_0 0 rfl rfl)
theorem dX2_isAxle_1 : decode cX2_isAxle 1 = .ok (.i2l, 1) := dk_133 (dk_at dksX2_isAxle_0 1 rfl rfl)
theorem dX2_isAxle_2 : decode cX2_isAxle 2 = .ok (.lconst 0, 1) := dk_9 (dk_at dksX2_isAxle_0 2 rfl rfl)
theorem dX2_isAxle_3 : decode cX2_isAxle 3 = .ok (.aload_n 0, 1) := dk_42 (dk_at dksX2_isAxle_0 3 rfl rfl)
theorem dX2_isAxle_4 : decode cX2_isAxle 4 = .ok (.getfield 24, 3) := dk_180 0 24 (dk_at dksX2_isAxle_0 4 rfl rfl)
theorem dX2_isAxle_7 : decode cX2_isAxle 7 = .ok (.iconst 1, 1) := dk_4 (dk_at dksX2_isAxle_0 7 rfl rfl)
theorem dX2_isAxle_8 : decode cX2_isAxle 8 = .ok (.isub, 1) := dk_100 (dk_at dksX2_isAxle_0 8 rfl rfl)
theorem dX2_isAxle_9 : decode cX2_isAxle 9 = .ok (.i2l, 1) := dk_133 (dk_at dksX2_isAxle_0 9 rfl rfl)
theorem dX2_isAxle_10 : decode cX2_isAxle 10 = .ok (.invokestatic 67, 3) := dk_184 0 67 (dk_at dksX2_isAxle_0 10 rfl rfl)
theorem dX2_isAxle_13 : decode cX2_isAxle 13 = .ok (.ireturn, 1) := dk_172 (dk_at dksX2_isAxle_0 13 rfl rfl)
abbrev cX2_joins : ByteArray := prog_8_method_18_code
def yX2_joins : MethodName := ⟨RX2, "joins", "(II)I"⟩
def dkwX2_joins_1 : List UInt8 := [5, 184, 0, 146, 42, 27, 28, 182, 0, 88, 42, 182, 0, 92, 180, 0, 165, 172]
abbrev dktX2_joins_1 : List UInt8 := dkwX2_joins_1 ++ []
def dkwX2_joins_0 : List UInt8 := [42, 27, 28, 182, 0, 159, 4, 184, 0, 146, 42, 27, 28, 182, 0, 162, 154, 0, 7, 4, 167, 0, 4, 3]
abbrev dktX2_joins_0 : List UInt8 := dkwX2_joins_0 ++ dktX2_joins_1
theorem dksX2_joins_0 : cX2_joins.data.toList.drop 0 = dktX2_joins_0 := by decide +kernel
theorem dksX2_joins_1 : cX2_joins.data.toList.drop 24 = dktX2_joins_1 := dk_seg dksX2_joins_0 24 rfl rfl
theorem dX2_joins_0 : decode cX2_joins 0 = .ok (.aload_n 0, 1) := dk_42 (dk_at dksX2_joins_0 0 rfl rfl)
theorem dX2_joins_1 : decode cX2_joins 1 = .ok (.iload_n 1, 1) := dk_27 (dk_at dksX2_joins_0 1 rfl rfl)
theorem dX2_joins_2 : decode cX2_joins 2 = .ok (.iload_n 2, 1) := dk_28 (dk_at dksX2_joins_0 2 rfl rfl)
theorem dX2_joins_3 : decode cX2_joins 3 = .ok (.invokevirtual 159, 3) := dk_182 0 159 (dk_at dksX2_joins_0 3 rfl rfl)
theorem dX2_joins_6 : decode cX2_joins 6 = .ok (.iconst 1, 1) := dk_4 (dk_at dksX2_joins_0 6 rfl rfl)
theorem dX2_joins_7 : decode cX2_joins 7 = .ok (.invokestatic 146, 3) := dk_184 0 146 (dk_at dksX2_joins_0 7 rfl rfl)
theorem dX2_joins_10 : decode cX2_joins 10 = .ok (.aload_n 0, 1) := dk_42 (dk_at dksX2_joins_0 10 rfl rfl)
theorem dX2_joins_11 : decode cX2_joins 11 = .ok (.iload_n 1, 1) := dk_27 (dk_at dksX2_joins_0 11 rfl rfl)
theorem dX2_joins_12 : decode cX2_joins 12 = .ok (.iload_n 2, 1) := dk_28 (dk_at dksX2_joins_0 12 rfl rfl)
theorem dX2_joins_13 : decode cX2_joins 13 = .ok (.invokevirtual 162, 3) := dk_182 0 162 (dk_at dksX2_joins_0 13 rfl rfl)
theorem dX2_joins_16 : decode cX2_joins 16 = .ok (.ifCond .ne 7, 3) := dk_154 0 7 (dk_at dksX2_joins_0 16 rfl rfl)
theorem dX2_joins_19 : decode cX2_joins 19 = .ok (.iconst 1, 1) := dk_4 (dk_at dksX2_joins_0 19 rfl rfl)
theorem dX2_joins_20 : decode cX2_joins 20 = .ok (.goto 4, 3) := dk_167 0 4 (dk_at dksX2_joins_0 20 rfl rfl)
theorem dX2_joins_23 : decode cX2_joins 23 = .ok (.iconst 0, 1) := dk_3 (dk_at dksX2_joins_0 23 rfl rfl)
theorem dX2_joins_24 : decode cX2_joins 24 = .ok (.iconst 2, 1) := dk_5 (dk_at dksX2_joins_1 0 rfl rfl)
theorem dX2_joins_25 : decode cX2_joins 25 = .ok (.invokestatic 146, 3) := dk_184 0 146 (dk_at dksX2_joins_1 1 rfl rfl)
theorem dX2_joins_28 : decode cX2_joins 28 = .ok (.aload_n 0, 1) := dk_42 (dk_at dksX2_joins_1 4 rfl rfl)
theorem dX2_joins_29 : decode cX2_joins 29 = .ok (.iload_n 1, 1) := dk_27 (dk_at dksX2_joins_1 5 rfl rfl)
theorem dX2_joins_30 : decode cX2_joins 30 = .ok (.iload_n 2, 1) := dk_28 (dk_at dksX2_joins_1 6 rfl rfl)
theorem dX2_joins_31 : decode cX2_joins 31 = .ok (.invokevirtual 88, 3) := dk_182 0 88 (dk_at dksX2_joins_1 7 rfl rfl)
theorem dX2_joins_34 : decode cX2_joins 34 = .ok (.aload_n 0, 1) := dk_42 (dk_at dksX2_joins_1 10 rfl rfl)
theorem dX2_joins_35 : decode cX2_joins 35 = .ok (.invokevirtual 92, 3) := dk_182 0 92 (dk_at dksX2_joins_1 11 rfl rfl)
theorem dX2_joins_38 : decode cX2_joins 38 = .ok (.getfield 165, 3) := dk_180 0 165 (dk_at dksX2_joins_1 14 rfl rfl)
theorem dX2_joins_41 : decode cX2_joins 41 = .ok (.ireturn, 1) := dk_172 (dk_at dksX2_joins_1 17 rfl rfl)
abbrev cX2_areTwo : ByteArray := prog_8_method_5_code
def yX2_areTwo : MethodName := ⟨RX2, "areTwo", "(II)Z"⟩
def dkwX2_areTwo_1 : List UInt8 := [167, 0, 4, 3, 172]
abbrev dktX2_areTwo_1 : List UInt8 := dkwX2_areTwo_1 ++ []
def dkwX2_areTwo_0 : List UInt8 := [42, 27, 182, 0, 71, 153, 0, 20, 42, 28, 182, 0, 71, 153, 0, 12, 27, 28, 159, 0, 7, 4]
abbrev dktX2_areTwo_0 : List UInt8 := dkwX2_areTwo_0 ++ dktX2_areTwo_1
theorem dksX2_areTwo_0 : cX2_areTwo.data.toList.drop 0 = dktX2_areTwo_0 := by decide +kernel
theorem dksX2_areTwo_1 : cX2_areTwo.data.toList.drop 22 = dktX2_areTwo_1 := dk_seg dksX2_areTwo_0 22 rfl rfl
theorem dX2_areTwo_0 : decode cX2_areTwo 0 = .ok (.aload_n 0, 1) := dk_42 (dk_at dksX2_areTwo_0 0 rfl rfl)
theorem dX2_areTwo_1 : decode cX2_areTwo 1 = .ok (.iload_n 1, 1) := dk_27 (dk_at dksX2_areTwo_0 1 rfl rfl)
theorem dX2_areTwo_2 : decode cX2_areTwo 2 = .ok (.invokevirtual 71, 3) := dk_182 0 71 (dk_at dksX2_areTwo_0 2 rfl rfl)
theorem dX2_areTwo_5 : decode cX2_areTwo 5 = .ok (.ifCond .eq 20, 3) := dk_153 0 20 (dk_at dksX2_areTwo_0 5 rfl rfl)
theorem dX2_areTwo_8 : decode cX2_areTwo 8 = .ok (.aload_n 0, 1) := dk_42 (dk_at dksX2_areTwo_0 8 rfl rfl)
theorem dX2_areTwo_9 : decode cX2_areTwo 9 = .ok (.iload_n 2, 1) := dk_28 (dk_at dksX2_areTwo_0 9 rfl rfl)
theorem dX2_areTwo_10 : decode cX2_areTwo 10 = .ok (.invokevirtual 71, 3) := dk_182 0 71 (dk_at dksX2_areTwo_0 10 rfl rfl)
theorem dX2_areTwo_13 : decode cX2_areTwo 13 = .ok (.ifCond .eq 12, 3) := dk_153 0 12 (dk_at dksX2_areTwo_0 13 rfl rfl)
theorem dX2_areTwo_16 : decode cX2_areTwo 16 = .ok (.iload_n 1, 1) := dk_27 (dk_at dksX2_areTwo_0 16 rfl rfl)
theorem dX2_areTwo_17 : decode cX2_areTwo 17 = .ok (.iload_n 2, 1) := dk_28 (dk_at dksX2_areTwo_0 17 rfl rfl)
theorem dX2_areTwo_18 : decode cX2_areTwo 18 = .ok (.if_icmp .eq 7, 3) := dk_159 0 7 (dk_at dksX2_areTwo_0 18 rfl rfl)
theorem dX2_areTwo_21 : decode cX2_areTwo 21 = .ok (.iconst 1, 1) := dk_4 (dk_at dksX2_areTwo_0 21 rfl rfl)
theorem dX2_areTwo_22 : decode cX2_areTwo 22 = .ok (.goto 4, 3) := dk_167 0 4 (dk_at dksX2_areTwo_1 0 rfl rfl)
theorem dX2_areTwo_25 : decode cX2_areTwo 25 = .ok (.iconst 0, 1) := dk_3 (dk_at dksX2_areTwo_1 3 rfl rfl)
theorem dX2_areTwo_26 : decode cX2_areTwo 26 = .ok (.ireturn, 1) := dk_172 (dk_at dksX2_areTwo_1 4 rfl rfl)
abbrev cX2_isWheel : ByteArray := prog_8_method_4_code
def yX2_isWheel : MethodName := ⟨RX2, "isWheel", "(I)Z"⟩
def dkwX2_isWheel_0 : List UInt8 := [27, 133, 9, 42, 180, 0, 12, 182, 0, 40, 4, 100, 133, 184, 0, 67, 172]
abbrev dktX2_isWheel_0 : List UInt8 := dkwX2_isWheel_0 ++ []
theorem dksX2_isWheel_0 : cX2_isWheel.data.toList.drop 0 = dktX2_isWheel_0 := by decide +kernel
theorem dX2_isWheel_0 : decode cX2_isWheel 0 = .ok (.iload_n 1, 1) := dk_27 (dk_at dksX2_isWheel_0 0 rfl rfl)
theorem dX2_isWheel_1 : decode cX2_isWheel 1 = .ok (.i2l, 1) := dk_133 (dk_at dksX2_isWheel_0 1 rfl rfl)
theorem dX2_isWheel_2 : decode cX2_isWheel 2 = .ok (.lconst 0, 1) := dk_9 (dk_at dksX2_isWheel_0 2 rfl rfl)
theorem dX2_isWheel_3 : decode cX2_isWheel 3 = .ok (.aload_n 0, 1) := dk_42 (dk_at dksX2_isWheel_0 3 rfl rfl)
theorem dX2_isWheel_4 : decode cX2_isWheel 4 = .ok (.getfield 12, 3) := dk_180 0 12 (dk_at dksX2_isWheel_0 4 rfl rfl)
theorem dX2_isWheel_7 : decode cX2_isWheel 7 = .ok (.invokevirtual 40, 3) := dk_182 0 40 (dk_at dksX2_isWheel_0 7 rfl rfl)
theorem dX2_isWheel_10 : decode cX2_isWheel 10 = .ok (.iconst 1, 1) := dk_4 (dk_at dksX2_isWheel_0 10 rfl rfl)
theorem dX2_isWheel_11 : decode cX2_isWheel 11 = .ok (.isub, 1) := dk_100 (dk_at dksX2_isWheel_0 11 rfl rfl)
theorem dX2_isWheel_12 : decode cX2_isWheel 12 = .ok (.i2l, 1) := dk_133 (dk_at dksX2_isWheel_0 12 rfl rfl)
theorem dX2_isWheel_13 : decode cX2_isWheel 13 = .ok (.invokestatic 67, 3) := dk_184 0 67 (dk_at dksX2_isWheel_0 13 rfl rfl)
theorem dX2_isWheel_16 : decode cX2_isWheel 16 = .ok (.ireturn, 1) := dk_172 (dk_at dksX2_isWheel_0 16 rfl rfl)
abbrev cX2_whyMesh : ByteArray := prog_8_method_10_code
def yX2_whyMesh : MethodName := ⟨RX2, "whyMesh", "(II)I"⟩
def dkwX2_whyMesh_4 : List UInt8 := [180, 0, 100, 153, 0, 7, 8, 167, 0, 4, 3, 172]
abbrev dktX2_whyMesh_4 : List UInt8 := dkwX2_whyMesh_4 ++ []
def dkwX2_whyMesh_3 : List UInt8 := [182, 0, 88, 45, 182, 0, 92, 58, 4, 25, 4, 180, 0, 96, 153, 0, 7, 7, 167, 0, 16, 25, 4]
abbrev dktX2_whyMesh_3 : List UInt8 := dkwX2_whyMesh_3 ++ dktX2_whyMesh_4
def dkwX2_whyMesh_2 : List UInt8 := [180, 0, 58, 16, 16, 160, 0, 5, 6, 172, 187, 0, 13, 89, 42, 183, 0, 87, 78, 45, 27, 28]
abbrev dktX2_whyMesh_2 : List UInt8 := dkwX2_whyMesh_2 ++ dktX2_whyMesh_3
def dkwX2_whyMesh_1 : List UInt8 := [192, 0, 48, 180, 0, 80, 160, 0, 5, 4, 172, 42, 27, 28, 182, 0, 83, 153, 0, 5, 5, 172, 42]
abbrev dktX2_whyMesh_1 : List UInt8 := dkwX2_whyMesh_1 ++ dktX2_whyMesh_2
def dkwX2_whyMesh_0 : List UInt8 := [42, 180, 0, 12, 27, 182, 0, 44, 192, 0, 48, 180, 0, 80, 42, 180, 0, 12, 28, 182, 0, 44]
abbrev dktX2_whyMesh_0 : List UInt8 := dkwX2_whyMesh_0 ++ dktX2_whyMesh_1
theorem dksX2_whyMesh_0 : cX2_whyMesh.data.toList.drop 0 = dktX2_whyMesh_0 := by decide +kernel
theorem dksX2_whyMesh_1 : cX2_whyMesh.data.toList.drop 22 = dktX2_whyMesh_1 := dk_seg dksX2_whyMesh_0 22 rfl rfl
theorem dksX2_whyMesh_2 : cX2_whyMesh.data.toList.drop 45 = dktX2_whyMesh_2 := dk_seg dksX2_whyMesh_1 23 rfl rfl
theorem dksX2_whyMesh_3 : cX2_whyMesh.data.toList.drop 67 = dktX2_whyMesh_3 := dk_seg dksX2_whyMesh_2 22 rfl rfl
theorem dksX2_whyMesh_4 : cX2_whyMesh.data.toList.drop 90 = dktX2_whyMesh_4 := dk_seg dksX2_whyMesh_3 23 rfl rfl
theorem dX2_whyMesh_0 : decode cX2_whyMesh 0 = .ok (.aload_n 0, 1) := dk_42 (dk_at dksX2_whyMesh_0 0 rfl rfl)
theorem dX2_whyMesh_1 : decode cX2_whyMesh 1 = .ok (.getfield 12, 3) := dk_180 0 12 (dk_at dksX2_whyMesh_0 1 rfl rfl)
theorem dX2_whyMesh_4 : decode cX2_whyMesh 4 = .ok (.iload_n 1, 1) := dk_27 (dk_at dksX2_whyMesh_0 4 rfl rfl)
theorem dX2_whyMesh_5 : decode cX2_whyMesh 5 = .ok (.invokevirtual 44, 3) := dk_182 0 44 (dk_at dksX2_whyMesh_0 5 rfl rfl)
theorem dX2_whyMesh_8 : decode cX2_whyMesh 8 = .ok (.checkcast 48, 3) := dk_192 0 48 (dk_at dksX2_whyMesh_0 8 rfl rfl)
theorem dX2_whyMesh_11 : decode cX2_whyMesh 11 = .ok (.getfield 80, 3) := dk_180 0 80 (dk_at dksX2_whyMesh_0 11 rfl rfl)
theorem dX2_whyMesh_14 : decode cX2_whyMesh 14 = .ok (.aload_n 0, 1) := dk_42 (dk_at dksX2_whyMesh_0 14 rfl rfl)
theorem dX2_whyMesh_15 : decode cX2_whyMesh 15 = .ok (.getfield 12, 3) := dk_180 0 12 (dk_at dksX2_whyMesh_0 15 rfl rfl)
theorem dX2_whyMesh_18 : decode cX2_whyMesh 18 = .ok (.iload_n 2, 1) := dk_28 (dk_at dksX2_whyMesh_0 18 rfl rfl)
theorem dX2_whyMesh_19 : decode cX2_whyMesh 19 = .ok (.invokevirtual 44, 3) := dk_182 0 44 (dk_at dksX2_whyMesh_0 19 rfl rfl)
theorem dX2_whyMesh_22 : decode cX2_whyMesh 22 = .ok (.checkcast 48, 3) := dk_192 0 48 (dk_at dksX2_whyMesh_1 0 rfl rfl)
theorem dX2_whyMesh_25 : decode cX2_whyMesh 25 = .ok (.getfield 80, 3) := dk_180 0 80 (dk_at dksX2_whyMesh_1 3 rfl rfl)
theorem dX2_whyMesh_28 : decode cX2_whyMesh 28 = .ok (.if_icmp .ne 5, 3) := dk_160 0 5 (dk_at dksX2_whyMesh_1 6 rfl rfl)
theorem dX2_whyMesh_31 : decode cX2_whyMesh 31 = .ok (.iconst 1, 1) := dk_4 (dk_at dksX2_whyMesh_1 9 rfl rfl)
theorem dX2_whyMesh_32 : decode cX2_whyMesh 32 = .ok (.ireturn, 1) := dk_172 (dk_at dksX2_whyMesh_1 10 rfl rfl)
theorem dX2_whyMesh_33 : decode cX2_whyMesh 33 = .ok (.aload_n 0, 1) := dk_42 (dk_at dksX2_whyMesh_1 11 rfl rfl)
theorem dX2_whyMesh_34 : decode cX2_whyMesh 34 = .ok (.iload_n 1, 1) := dk_27 (dk_at dksX2_whyMesh_1 12 rfl rfl)
theorem dX2_whyMesh_35 : decode cX2_whyMesh 35 = .ok (.iload_n 2, 1) := dk_28 (dk_at dksX2_whyMesh_1 13 rfl rfl)
theorem dX2_whyMesh_36 : decode cX2_whyMesh 36 = .ok (.invokevirtual 83, 3) := dk_182 0 83 (dk_at dksX2_whyMesh_1 14 rfl rfl)
theorem dX2_whyMesh_39 : decode cX2_whyMesh 39 = .ok (.ifCond .eq 5, 3) := dk_153 0 5 (dk_at dksX2_whyMesh_1 17 rfl rfl)
theorem dX2_whyMesh_42 : decode cX2_whyMesh 42 = .ok (.iconst 2, 1) := dk_5 (dk_at dksX2_whyMesh_1 20 rfl rfl)
theorem dX2_whyMesh_43 : decode cX2_whyMesh 43 = .ok (.ireturn, 1) := dk_172 (dk_at dksX2_whyMesh_1 21 rfl rfl)
theorem dX2_whyMesh_44 : decode cX2_whyMesh 44 = .ok (.aload_n 0, 1) := dk_42 (dk_at dksX2_whyMesh_1 22 rfl rfl)
theorem dX2_whyMesh_45 : decode cX2_whyMesh 45 = .ok (.getfield 58, 3) := dk_180 0 58 (dk_at dksX2_whyMesh_2 0 rfl rfl)
theorem dX2_whyMesh_48 : decode cX2_whyMesh 48 = .ok (.bipush 16, 2) := dk_16 16 (dk_at dksX2_whyMesh_2 3 rfl rfl)
theorem dX2_whyMesh_50 : decode cX2_whyMesh 50 = .ok (.if_icmp .ne 5, 3) := dk_160 0 5 (dk_at dksX2_whyMesh_2 5 rfl rfl)
theorem dX2_whyMesh_53 : decode cX2_whyMesh 53 = .ok (.iconst 3, 1) := dk_6 (dk_at dksX2_whyMesh_2 8 rfl rfl)
theorem dX2_whyMesh_54 : decode cX2_whyMesh 54 = .ok (.ireturn, 1) := dk_172 (dk_at dksX2_whyMesh_2 9 rfl rfl)
theorem dX2_whyMesh_55 : decode cX2_whyMesh 55 = .ok (.new 13, 3) := dk_187 0 13 (dk_at dksX2_whyMesh_2 10 rfl rfl)
theorem dX2_whyMesh_58 : decode cX2_whyMesh 58 = .ok (.dup, 1) := dk_89 (dk_at dksX2_whyMesh_2 13 rfl rfl)
theorem dX2_whyMesh_59 : decode cX2_whyMesh 59 = .ok (.aload_n 0, 1) := dk_42 (dk_at dksX2_whyMesh_2 14 rfl rfl)
theorem dX2_whyMesh_60 : decode cX2_whyMesh 60 = .ok (.invokespecial 87, 3) := dk_183 0 87 (dk_at dksX2_whyMesh_2 15 rfl rfl)
theorem dX2_whyMesh_63 : decode cX2_whyMesh 63 = .ok (.astore_n 3, 1) := dk_78 (dk_at dksX2_whyMesh_2 18 rfl rfl)
theorem dX2_whyMesh_64 : decode cX2_whyMesh 64 = .ok (.aload_n 3, 1) := dk_45 (dk_at dksX2_whyMesh_2 19 rfl rfl)
theorem dX2_whyMesh_65 : decode cX2_whyMesh 65 = .ok (.iload_n 1, 1) := dk_27 (dk_at dksX2_whyMesh_2 20 rfl rfl)
theorem dX2_whyMesh_66 : decode cX2_whyMesh 66 = .ok (.iload_n 2, 1) := dk_28 (dk_at dksX2_whyMesh_2 21 rfl rfl)
theorem dX2_whyMesh_67 : decode cX2_whyMesh 67 = .ok (.invokevirtual 88, 3) := dk_182 0 88 (dk_at dksX2_whyMesh_3 0 rfl rfl)
theorem dX2_whyMesh_70 : decode cX2_whyMesh 70 = .ok (.aload_n 3, 1) := dk_45 (dk_at dksX2_whyMesh_3 3 rfl rfl)
theorem dX2_whyMesh_71 : decode cX2_whyMesh 71 = .ok (.invokevirtual 92, 3) := dk_182 0 92 (dk_at dksX2_whyMesh_3 4 rfl rfl)
theorem dX2_whyMesh_74 : decode cX2_whyMesh 74 = .ok (.astore 4, 2) := dk_58 4 (dk_at dksX2_whyMesh_3 7 rfl rfl)
theorem dX2_whyMesh_76 : decode cX2_whyMesh 76 = .ok (.aload 4, 2) := dk_25 4 (dk_at dksX2_whyMesh_3 9 rfl rfl)
theorem dX2_whyMesh_78 : decode cX2_whyMesh 78 = .ok (.getfield 96, 3) := dk_180 0 96 (dk_at dksX2_whyMesh_3 11 rfl rfl)
theorem dX2_whyMesh_81 : decode cX2_whyMesh 81 = .ok (.ifCond .eq 7, 3) := dk_153 0 7 (dk_at dksX2_whyMesh_3 14 rfl rfl)
theorem dX2_whyMesh_84 : decode cX2_whyMesh 84 = .ok (.iconst 4, 1) := dk_7 (dk_at dksX2_whyMesh_3 17 rfl rfl)
theorem dX2_whyMesh_85 : decode cX2_whyMesh 85 = .ok (.goto 16, 3) := dk_167 0 16 (dk_at dksX2_whyMesh_3 18 rfl rfl)
theorem dX2_whyMesh_88 : decode cX2_whyMesh 88 = .ok (.aload 4, 2) := dk_25 4 (dk_at dksX2_whyMesh_3 21 rfl rfl)
theorem dX2_whyMesh_90 : decode cX2_whyMesh 90 = .ok (.getfield 100, 3) := dk_180 0 100 (dk_at dksX2_whyMesh_4 0 rfl rfl)
theorem dX2_whyMesh_93 : decode cX2_whyMesh 93 = .ok (.ifCond .eq 7, 3) := dk_153 0 7 (dk_at dksX2_whyMesh_4 3 rfl rfl)
theorem dX2_whyMesh_96 : decode cX2_whyMesh 96 = .ok (.iconst 5, 1) := dk_8 (dk_at dksX2_whyMesh_4 6 rfl rfl)
theorem dX2_whyMesh_97 : decode cX2_whyMesh 97 = .ok (.goto 4, 3) := dk_167 0 4 (dk_at dksX2_whyMesh_4 7 rfl rfl)
theorem dX2_whyMesh_100 : decode cX2_whyMesh 100 = .ok (.iconst 0, 1) := dk_3 (dk_at dksX2_whyMesh_4 10 rfl rfl)
theorem dX2_whyMesh_101 : decode cX2_whyMesh 101 = .ok (.ireturn, 1) := dk_172 (dk_at dksX2_whyMesh_4 11 rfl rfl)
abbrev cX2_areMeshed : ByteArray := prog_8_method_8_code
def yX2_areMeshed : MethodName := ⟨RX2, "areMeshed", "(II)Z"⟩
def dkwX2_areMeshed_3 : List UInt8 := [167, 255, 192, 29, 172]
abbrev dktX2_areMeshed_3 : List UInt8 := dkwX2_areMeshed_3 ++ []
def dkwX2_areMeshed_2 : List UInt8 := [160, 0, 18, 42, 180, 0, 32, 21, 4, 46, 27, 160, 0, 7, 4, 167, 0, 4, 3, 128, 62, 132, 4, 1]
abbrev dktX2_areMeshed_2 : List UInt8 := dkwX2_areMeshed_2 ++ dktX2_areMeshed_3
def dkwX2_areMeshed_1 : List UInt8 := [160, 0, 14, 42, 180, 0, 32, 21, 4, 46, 28, 159, 0, 25, 42, 180, 0, 28, 21, 4, 46, 28]
abbrev dktX2_areMeshed_1 : List UInt8 := dkwX2_areMeshed_1 ++ dktX2_areMeshed_2
def dkwX2_areMeshed_0 : List UInt8 := [3, 62, 3, 54, 4, 21, 4, 42, 180, 0, 58, 162, 0, 61, 29, 42, 180, 0, 28, 21, 4, 46, 27]
abbrev dktX2_areMeshed_0 : List UInt8 := dkwX2_areMeshed_0 ++ dktX2_areMeshed_1
theorem dksX2_areMeshed_0 : cX2_areMeshed.data.toList.drop 0 = dktX2_areMeshed_0 := by decide +kernel
theorem dksX2_areMeshed_1 : cX2_areMeshed.data.toList.drop 23 = dktX2_areMeshed_1 := dk_seg dksX2_areMeshed_0 23 rfl rfl
theorem dksX2_areMeshed_2 : cX2_areMeshed.data.toList.drop 45 = dktX2_areMeshed_2 := dk_seg dksX2_areMeshed_1 22 rfl rfl
theorem dksX2_areMeshed_3 : cX2_areMeshed.data.toList.drop 69 = dktX2_areMeshed_3 := dk_seg dksX2_areMeshed_2 24 rfl rfl
theorem dX2_areMeshed_0 : decode cX2_areMeshed 0 = .ok (.iconst 0, 1) := dk_3 (dk_at dksX2_areMeshed_0 0 rfl rfl)
theorem dX2_areMeshed_1 : decode cX2_areMeshed 1 = .ok (.istore_n 3, 1) := dk_62 (dk_at dksX2_areMeshed_0 1 rfl rfl)
theorem dX2_areMeshed_2 : decode cX2_areMeshed 2 = .ok (.iconst 0, 1) := dk_3 (dk_at dksX2_areMeshed_0 2 rfl rfl)
theorem dX2_areMeshed_3 : decode cX2_areMeshed 3 = .ok (.istore 4, 2) := dk_54 4 (dk_at dksX2_areMeshed_0 3 rfl rfl)
theorem dX2_areMeshed_5 : decode cX2_areMeshed 5 = .ok (.iload 4, 2) := dk_21 4 (dk_at dksX2_areMeshed_0 5 rfl rfl)
theorem dX2_areMeshed_7 : decode cX2_areMeshed 7 = .ok (.aload_n 0, 1) := dk_42 (dk_at dksX2_areMeshed_0 7 rfl rfl)
theorem dX2_areMeshed_8 : decode cX2_areMeshed 8 = .ok (.getfield 58, 3) := dk_180 0 58 (dk_at dksX2_areMeshed_0 8 rfl rfl)
theorem dX2_areMeshed_11 : decode cX2_areMeshed 11 = .ok (.if_icmp .ge 61, 3) := dk_162 0 61 (dk_at dksX2_areMeshed_0 11 rfl rfl)
theorem dX2_areMeshed_14 : decode cX2_areMeshed 14 = .ok (.iload_n 3, 1) := dk_29 (dk_at dksX2_areMeshed_0 14 rfl rfl)
theorem dX2_areMeshed_15 : decode cX2_areMeshed 15 = .ok (.aload_n 0, 1) := dk_42 (dk_at dksX2_areMeshed_0 15 rfl rfl)
theorem dX2_areMeshed_16 : decode cX2_areMeshed 16 = .ok (.getfield 28, 3) := dk_180 0 28 (dk_at dksX2_areMeshed_0 16 rfl rfl)
theorem dX2_areMeshed_19 : decode cX2_areMeshed 19 = .ok (.iload 4, 2) := dk_21 4 (dk_at dksX2_areMeshed_0 19 rfl rfl)
theorem dX2_areMeshed_21 : decode cX2_areMeshed 21 = .ok (.iaload, 1) := dk_46 (dk_at dksX2_areMeshed_0 21 rfl rfl)
theorem dX2_areMeshed_22 : decode cX2_areMeshed 22 = .ok (.iload_n 1, 1) := dk_27 (dk_at dksX2_areMeshed_0 22 rfl rfl)
theorem dX2_areMeshed_23 : decode cX2_areMeshed 23 = .ok (.if_icmp .ne 14, 3) := dk_160 0 14 (dk_at dksX2_areMeshed_1 0 rfl rfl)
theorem dX2_areMeshed_26 : decode cX2_areMeshed 26 = .ok (.aload_n 0, 1) := dk_42 (dk_at dksX2_areMeshed_1 3 rfl rfl)
theorem dX2_areMeshed_27 : decode cX2_areMeshed 27 = .ok (.getfield 32, 3) := dk_180 0 32 (dk_at dksX2_areMeshed_1 4 rfl rfl)
theorem dX2_areMeshed_30 : decode cX2_areMeshed 30 = .ok (.iload 4, 2) := dk_21 4 (dk_at dksX2_areMeshed_1 7 rfl rfl)
theorem dX2_areMeshed_32 : decode cX2_areMeshed 32 = .ok (.iaload, 1) := dk_46 (dk_at dksX2_areMeshed_1 9 rfl rfl)
theorem dX2_areMeshed_33 : decode cX2_areMeshed 33 = .ok (.iload_n 2, 1) := dk_28 (dk_at dksX2_areMeshed_1 10 rfl rfl)
theorem dX2_areMeshed_34 : decode cX2_areMeshed 34 = .ok (.if_icmp .eq 25, 3) := dk_159 0 25 (dk_at dksX2_areMeshed_1 11 rfl rfl)
theorem dX2_areMeshed_37 : decode cX2_areMeshed 37 = .ok (.aload_n 0, 1) := dk_42 (dk_at dksX2_areMeshed_1 14 rfl rfl)
theorem dX2_areMeshed_38 : decode cX2_areMeshed 38 = .ok (.getfield 28, 3) := dk_180 0 28 (dk_at dksX2_areMeshed_1 15 rfl rfl)
theorem dX2_areMeshed_41 : decode cX2_areMeshed 41 = .ok (.iload 4, 2) := dk_21 4 (dk_at dksX2_areMeshed_1 18 rfl rfl)
theorem dX2_areMeshed_43 : decode cX2_areMeshed 43 = .ok (.iaload, 1) := dk_46 (dk_at dksX2_areMeshed_1 20 rfl rfl)
theorem dX2_areMeshed_44 : decode cX2_areMeshed 44 = .ok (.iload_n 2, 1) := dk_28 (dk_at dksX2_areMeshed_1 21 rfl rfl)
theorem dX2_areMeshed_45 : decode cX2_areMeshed 45 = .ok (.if_icmp .ne 18, 3) := dk_160 0 18 (dk_at dksX2_areMeshed_2 0 rfl rfl)
theorem dX2_areMeshed_48 : decode cX2_areMeshed 48 = .ok (.aload_n 0, 1) := dk_42 (dk_at dksX2_areMeshed_2 3 rfl rfl)
theorem dX2_areMeshed_49 : decode cX2_areMeshed 49 = .ok (.getfield 32, 3) := dk_180 0 32 (dk_at dksX2_areMeshed_2 4 rfl rfl)
theorem dX2_areMeshed_52 : decode cX2_areMeshed 52 = .ok (.iload 4, 2) := dk_21 4 (dk_at dksX2_areMeshed_2 7 rfl rfl)
theorem dX2_areMeshed_54 : decode cX2_areMeshed 54 = .ok (.iaload, 1) := dk_46 (dk_at dksX2_areMeshed_2 9 rfl rfl)
theorem dX2_areMeshed_55 : decode cX2_areMeshed 55 = .ok (.iload_n 1, 1) := dk_27 (dk_at dksX2_areMeshed_2 10 rfl rfl)
theorem dX2_areMeshed_56 : decode cX2_areMeshed 56 = .ok (.if_icmp .ne 7, 3) := dk_160 0 7 (dk_at dksX2_areMeshed_2 11 rfl rfl)
theorem dX2_areMeshed_59 : decode cX2_areMeshed 59 = .ok (.iconst 1, 1) := dk_4 (dk_at dksX2_areMeshed_2 14 rfl rfl)
theorem dX2_areMeshed_60 : decode cX2_areMeshed 60 = .ok (.goto 4, 3) := dk_167 0 4 (dk_at dksX2_areMeshed_2 15 rfl rfl)
theorem dX2_areMeshed_63 : decode cX2_areMeshed 63 = .ok (.iconst 0, 1) := dk_3 (dk_at dksX2_areMeshed_2 18 rfl rfl)
theorem dX2_areMeshed_64 : decode cX2_areMeshed 64 = .ok (.ior, 1) := dk_128 (dk_at dksX2_areMeshed_2 19 rfl rfl)
theorem dX2_areMeshed_65 : decode cX2_areMeshed 65 = .ok (.istore_n 3, 1) := dk_62 (dk_at dksX2_areMeshed_2 20 rfl rfl)
theorem dX2_areMeshed_66 : decode cX2_areMeshed 66 = .ok (.iinc 4 1, 3) := dk_132 4 1 (dk_at dksX2_areMeshed_2 21 rfl rfl)
theorem dX2_areMeshed_69 : decode cX2_areMeshed 69 = .ok (.goto (-64), 3) := dk_167 255 192 (dk_at dksX2_areMeshed_3 0 rfl rfl)
theorem dX2_areMeshed_72 : decode cX2_areMeshed 72 = .ok (.iload_n 3, 1) := dk_29 (dk_at dksX2_areMeshed_3 3 rfl rfl)
theorem dX2_areMeshed_73 : decode cX2_areMeshed 73 = .ok (.ireturn, 1) := dk_172 (dk_at dksX2_areMeshed_3 4 rfl rfl)
abbrev cX2_addsPair : ByteArray := prog_8_method_9_code
def yX2_addsPair : MethodName := ⟨RX2, "addsPair", "(II)V"⟩
def dkwX2_addsPair_1 : List UInt8 := [180, 0, 58, 4, 96, 181, 0, 58, 177]
abbrev dktX2_addsPair_1 : List UInt8 := dkwX2_addsPair_1 ++ []
def dkwX2_addsPair_0 : List UInt8 := [42, 180, 0, 28, 42, 180, 0, 58, 27, 79, 42, 180, 0, 32, 42, 180, 0, 58, 28, 79, 42, 89]
abbrev dktX2_addsPair_0 : List UInt8 := dkwX2_addsPair_0 ++ dktX2_addsPair_1
theorem dksX2_addsPair_0 : cX2_addsPair.data.toList.drop 0 = dktX2_addsPair_0 := by decide +kernel
theorem dksX2_addsPair_1 : cX2_addsPair.data.toList.drop 22 = dktX2_addsPair_1 := dk_seg dksX2_addsPair_0 22 rfl rfl
theorem dX2_addsPair_0 : decode cX2_addsPair 0 = .ok (.aload_n 0, 1) := dk_42 (dk_at dksX2_addsPair_0 0 rfl rfl)
theorem dX2_addsPair_1 : decode cX2_addsPair 1 = .ok (.getfield 28, 3) := dk_180 0 28 (dk_at dksX2_addsPair_0 1 rfl rfl)
theorem dX2_addsPair_4 : decode cX2_addsPair 4 = .ok (.aload_n 0, 1) := dk_42 (dk_at dksX2_addsPair_0 4 rfl rfl)
theorem dX2_addsPair_5 : decode cX2_addsPair 5 = .ok (.getfield 58, 3) := dk_180 0 58 (dk_at dksX2_addsPair_0 5 rfl rfl)
theorem dX2_addsPair_8 : decode cX2_addsPair 8 = .ok (.iload_n 1, 1) := dk_27 (dk_at dksX2_addsPair_0 8 rfl rfl)
theorem dX2_addsPair_9 : decode cX2_addsPair 9 = .ok (.iastore, 1) := dk_79 (dk_at dksX2_addsPair_0 9 rfl rfl)
theorem dX2_addsPair_10 : decode cX2_addsPair 10 = .ok (.aload_n 0, 1) := dk_42 (dk_at dksX2_addsPair_0 10 rfl rfl)
theorem dX2_addsPair_11 : decode cX2_addsPair 11 = .ok (.getfield 32, 3) := dk_180 0 32 (dk_at dksX2_addsPair_0 11 rfl rfl)
theorem dX2_addsPair_14 : decode cX2_addsPair 14 = .ok (.aload_n 0, 1) := dk_42 (dk_at dksX2_addsPair_0 14 rfl rfl)
theorem dX2_addsPair_15 : decode cX2_addsPair 15 = .ok (.getfield 58, 3) := dk_180 0 58 (dk_at dksX2_addsPair_0 15 rfl rfl)
theorem dX2_addsPair_18 : decode cX2_addsPair 18 = .ok (.iload_n 2, 1) := dk_28 (dk_at dksX2_addsPair_0 18 rfl rfl)
theorem dX2_addsPair_19 : decode cX2_addsPair 19 = .ok (.iastore, 1) := dk_79 (dk_at dksX2_addsPair_0 19 rfl rfl)
theorem dX2_addsPair_20 : decode cX2_addsPair 20 = .ok (.aload_n 0, 1) := dk_42 (dk_at dksX2_addsPair_0 20 rfl rfl)
theorem dX2_addsPair_21 : decode cX2_addsPair 21 = .ok (.dup, 1) := dk_89 (dk_at dksX2_addsPair_0 21 rfl rfl)
theorem dX2_addsPair_22 : decode cX2_addsPair 22 = .ok (.getfield 58, 3) := dk_180 0 58 (dk_at dksX2_addsPair_1 0 rfl rfl)
theorem dX2_addsPair_25 : decode cX2_addsPair 25 = .ok (.iconst 1, 1) := dk_4 (dk_at dksX2_addsPair_1 3 rfl rfl)
theorem dX2_addsPair_26 : decode cX2_addsPair 26 = .ok (.iadd, 1) := dk_96 (dk_at dksX2_addsPair_1 4 rfl rfl)
theorem dX2_addsPair_27 : decode cX2_addsPair 27 = .ok (.putfield 58, 3) := dk_181 0 58 (dk_at dksX2_addsPair_1 5 rfl rfl)
theorem dX2_addsPair_30 : decode cX2_addsPair 30 = .ok (.return_, 1) := dk_177 (dk_at dksX2_addsPair_1 8 rfl rfl)
abbrev cX2_parts : ByteArray := prog_8_method_19_code
def yX2_parts : MethodName := ⟨RX2, "parts", "(I)I"⟩
def dkwX2_parts_4 : List UInt8 := [172]
abbrev dktX2_parts_4 : List UInt8 := dkwX2_parts_4 ++ []
def dkwX2_parts_3 : List UInt8 := [182, 0, 92, 77, 44, 180, 0, 96, 154, 0, 7, 4, 167, 0, 4, 3, 5, 184, 0, 146, 44, 180, 0, 165]
abbrev dktX2_parts_3 : List UInt8 := dkwX2_parts_3 ++ dktX2_parts_4
def dkwX2_parts_2 : List UInt8 := [96, 46, 79, 42, 180, 0, 32, 28, 42, 180, 0, 32, 28, 4, 96, 46, 79, 132, 2, 1, 167, 255, 217, 42]
abbrev dktX2_parts_2 : List UInt8 := dkwX2_parts_2 ++ dktX2_parts_3
def dkwX2_parts_1 : List UInt8 := [181, 0, 58, 27, 61, 28, 42, 180, 0, 58, 162, 0, 37, 42, 180, 0, 28, 28, 42, 180, 0, 28, 28, 4]
abbrev dktX2_parts_1 : List UInt8 := dkwX2_parts_1 ++ dktX2_parts_2
def dkwX2_parts_0 : List UInt8 := [27, 133, 9, 42, 180, 0, 58, 4, 100, 133, 184, 0, 67, 4, 184, 0, 146, 42, 89, 180, 0, 58, 4, 100]
abbrev dktX2_parts_0 : List UInt8 := dkwX2_parts_0 ++ dktX2_parts_1
theorem dksX2_parts_0 : cX2_parts.data.toList.drop 0 = dktX2_parts_0 := by decide +kernel
theorem dksX2_parts_1 : cX2_parts.data.toList.drop 24 = dktX2_parts_1 := dk_seg dksX2_parts_0 24 rfl rfl
theorem dksX2_parts_2 : cX2_parts.data.toList.drop 48 = dktX2_parts_2 := dk_seg dksX2_parts_1 24 rfl rfl
theorem dksX2_parts_3 : cX2_parts.data.toList.drop 72 = dktX2_parts_3 := dk_seg dksX2_parts_2 24 rfl rfl
theorem dksX2_parts_4 : cX2_parts.data.toList.drop 96 = dktX2_parts_4 := dk_seg dksX2_parts_3 24 rfl rfl
theorem dX2_parts_0 : decode cX2_parts 0 = .ok (.iload_n 1, 1) := dk_27 (dk_at dksX2_parts_0 0 rfl rfl)
theorem dX2_parts_1 : decode cX2_parts 1 = .ok (.i2l, 1) := dk_133 (dk_at dksX2_parts_0 1 rfl rfl)
theorem dX2_parts_2 : decode cX2_parts 2 = .ok (.lconst 0, 1) := dk_9 (dk_at dksX2_parts_0 2 rfl rfl)
theorem dX2_parts_3 : decode cX2_parts 3 = .ok (.aload_n 0, 1) := dk_42 (dk_at dksX2_parts_0 3 rfl rfl)
theorem dX2_parts_4 : decode cX2_parts 4 = .ok (.getfield 58, 3) := dk_180 0 58 (dk_at dksX2_parts_0 4 rfl rfl)
theorem dX2_parts_7 : decode cX2_parts 7 = .ok (.iconst 1, 1) := dk_4 (dk_at dksX2_parts_0 7 rfl rfl)
theorem dX2_parts_8 : decode cX2_parts 8 = .ok (.isub, 1) := dk_100 (dk_at dksX2_parts_0 8 rfl rfl)
theorem dX2_parts_9 : decode cX2_parts 9 = .ok (.i2l, 1) := dk_133 (dk_at dksX2_parts_0 9 rfl rfl)
theorem dX2_parts_10 : decode cX2_parts 10 = .ok (.invokestatic 67, 3) := dk_184 0 67 (dk_at dksX2_parts_0 10 rfl rfl)
theorem dX2_parts_13 : decode cX2_parts 13 = .ok (.iconst 1, 1) := dk_4 (dk_at dksX2_parts_0 13 rfl rfl)
theorem dX2_parts_14 : decode cX2_parts 14 = .ok (.invokestatic 146, 3) := dk_184 0 146 (dk_at dksX2_parts_0 14 rfl rfl)
theorem dX2_parts_17 : decode cX2_parts 17 = .ok (.aload_n 0, 1) := dk_42 (dk_at dksX2_parts_0 17 rfl rfl)
theorem dX2_parts_18 : decode cX2_parts 18 = .ok (.dup, 1) := dk_89 (dk_at dksX2_parts_0 18 rfl rfl)
theorem dX2_parts_19 : decode cX2_parts 19 = .ok (.getfield 58, 3) := dk_180 0 58 (dk_at dksX2_parts_0 19 rfl rfl)
theorem dX2_parts_22 : decode cX2_parts 22 = .ok (.iconst 1, 1) := dk_4 (dk_at dksX2_parts_0 22 rfl rfl)
theorem dX2_parts_23 : decode cX2_parts 23 = .ok (.isub, 1) := dk_100 (dk_at dksX2_parts_0 23 rfl rfl)
theorem dX2_parts_24 : decode cX2_parts 24 = .ok (.putfield 58, 3) := dk_181 0 58 (dk_at dksX2_parts_1 0 rfl rfl)
theorem dX2_parts_27 : decode cX2_parts 27 = .ok (.iload_n 1, 1) := dk_27 (dk_at dksX2_parts_1 3 rfl rfl)
theorem dX2_parts_28 : decode cX2_parts 28 = .ok (.istore_n 2, 1) := dk_61 (dk_at dksX2_parts_1 4 rfl rfl)
theorem dX2_parts_29 : decode cX2_parts 29 = .ok (.iload_n 2, 1) := dk_28 (dk_at dksX2_parts_1 5 rfl rfl)
theorem dX2_parts_30 : decode cX2_parts 30 = .ok (.aload_n 0, 1) := dk_42 (dk_at dksX2_parts_1 6 rfl rfl)
theorem dX2_parts_31 : decode cX2_parts 31 = .ok (.getfield 58, 3) := dk_180 0 58 (dk_at dksX2_parts_1 7 rfl rfl)
theorem dX2_parts_34 : decode cX2_parts 34 = .ok (.if_icmp .ge 37, 3) := dk_162 0 37 (dk_at dksX2_parts_1 10 rfl rfl)
theorem dX2_parts_37 : decode cX2_parts 37 = .ok (.aload_n 0, 1) := dk_42 (dk_at dksX2_parts_1 13 rfl rfl)
theorem dX2_parts_38 : decode cX2_parts 38 = .ok (.getfield 28, 3) := dk_180 0 28 (dk_at dksX2_parts_1 14 rfl rfl)
theorem dX2_parts_41 : decode cX2_parts 41 = .ok (.iload_n 2, 1) := dk_28 (dk_at dksX2_parts_1 17 rfl rfl)
theorem dX2_parts_42 : decode cX2_parts 42 = .ok (.aload_n 0, 1) := dk_42 (dk_at dksX2_parts_1 18 rfl rfl)
theorem dX2_parts_43 : decode cX2_parts 43 = .ok (.getfield 28, 3) := dk_180 0 28 (dk_at dksX2_parts_1 19 rfl rfl)
theorem dX2_parts_46 : decode cX2_parts 46 = .ok (.iload_n 2, 1) := dk_28 (dk_at dksX2_parts_1 22 rfl rfl)
theorem dX2_parts_47 : decode cX2_parts 47 = .ok (.iconst 1, 1) := dk_4 (dk_at dksX2_parts_1 23 rfl rfl)
theorem dX2_parts_48 : decode cX2_parts 48 = .ok (.iadd, 1) := dk_96 (dk_at dksX2_parts_2 0 rfl rfl)
theorem dX2_parts_49 : decode cX2_parts 49 = .ok (.iaload, 1) := dk_46 (dk_at dksX2_parts_2 1 rfl rfl)
theorem dX2_parts_50 : decode cX2_parts 50 = .ok (.iastore, 1) := dk_79 (dk_at dksX2_parts_2 2 rfl rfl)
theorem dX2_parts_51 : decode cX2_parts 51 = .ok (.aload_n 0, 1) := dk_42 (dk_at dksX2_parts_2 3 rfl rfl)
theorem dX2_parts_52 : decode cX2_parts 52 = .ok (.getfield 32, 3) := dk_180 0 32 (dk_at dksX2_parts_2 4 rfl rfl)
theorem dX2_parts_55 : decode cX2_parts 55 = .ok (.iload_n 2, 1) := dk_28 (dk_at dksX2_parts_2 7 rfl rfl)
theorem dX2_parts_56 : decode cX2_parts 56 = .ok (.aload_n 0, 1) := dk_42 (dk_at dksX2_parts_2 8 rfl rfl)
theorem dX2_parts_57 : decode cX2_parts 57 = .ok (.getfield 32, 3) := dk_180 0 32 (dk_at dksX2_parts_2 9 rfl rfl)
theorem dX2_parts_60 : decode cX2_parts 60 = .ok (.iload_n 2, 1) := dk_28 (dk_at dksX2_parts_2 12 rfl rfl)
theorem dX2_parts_61 : decode cX2_parts 61 = .ok (.iconst 1, 1) := dk_4 (dk_at dksX2_parts_2 13 rfl rfl)
theorem dX2_parts_62 : decode cX2_parts 62 = .ok (.iadd, 1) := dk_96 (dk_at dksX2_parts_2 14 rfl rfl)
theorem dX2_parts_63 : decode cX2_parts 63 = .ok (.iaload, 1) := dk_46 (dk_at dksX2_parts_2 15 rfl rfl)
theorem dX2_parts_64 : decode cX2_parts 64 = .ok (.iastore, 1) := dk_79 (dk_at dksX2_parts_2 16 rfl rfl)
theorem dX2_parts_65 : decode cX2_parts 65 = .ok (.iinc 2 1, 3) := dk_132 2 1 (dk_at dksX2_parts_2 17 rfl rfl)
theorem dX2_parts_68 : decode cX2_parts 68 = .ok (.goto (-39), 3) := dk_167 255 217 (dk_at dksX2_parts_2 20 rfl rfl)
theorem dX2_parts_71 : decode cX2_parts 71 = .ok (.aload_n 0, 1) := dk_42 (dk_at dksX2_parts_2 23 rfl rfl)
theorem dX2_parts_72 : decode cX2_parts 72 = .ok (.invokevirtual 92, 3) := dk_182 0 92 (dk_at dksX2_parts_3 0 rfl rfl)
theorem dX2_parts_75 : decode cX2_parts 75 = .ok (.astore_n 2, 1) := dk_77 (dk_at dksX2_parts_3 3 rfl rfl)
theorem dX2_parts_76 : decode cX2_parts 76 = .ok (.aload_n 2, 1) := dk_44 (dk_at dksX2_parts_3 4 rfl rfl)
theorem dX2_parts_77 : decode cX2_parts 77 = .ok (.getfield 96, 3) := dk_180 0 96 (dk_at dksX2_parts_3 5 rfl rfl)
theorem dX2_parts_80 : decode cX2_parts 80 = .ok (.ifCond .ne 7, 3) := dk_154 0 7 (dk_at dksX2_parts_3 8 rfl rfl)
theorem dX2_parts_83 : decode cX2_parts 83 = .ok (.iconst 1, 1) := dk_4 (dk_at dksX2_parts_3 11 rfl rfl)
theorem dX2_parts_84 : decode cX2_parts 84 = .ok (.goto 4, 3) := dk_167 0 4 (dk_at dksX2_parts_3 12 rfl rfl)
theorem dX2_parts_87 : decode cX2_parts 87 = .ok (.iconst 0, 1) := dk_3 (dk_at dksX2_parts_3 15 rfl rfl)
theorem dX2_parts_88 : decode cX2_parts 88 = .ok (.iconst 2, 1) := dk_5 (dk_at dksX2_parts_3 16 rfl rfl)
theorem dX2_parts_89 : decode cX2_parts 89 = .ok (.invokestatic 146, 3) := dk_184 0 146 (dk_at dksX2_parts_3 17 rfl rfl)
theorem dX2_parts_92 : decode cX2_parts 92 = .ok (.aload_n 2, 1) := dk_44 (dk_at dksX2_parts_3 20 rfl rfl)
theorem dX2_parts_93 : decode cX2_parts 93 = .ok (.getfield 165, 3) := dk_180 0 165 (dk_at dksX2_parts_3 21 rfl rfl)
theorem dX2_parts_96 : decode cX2_parts 96 = .ok (.ireturn, 1) := dk_172 (dk_at dksX2_parts_4 0 rfl rfl)
abbrev cX2_cuts : ByteArray := prog_8_method_20_code
def yX2_cuts : MethodName := ⟨RX2, "cuts", "(II)I"⟩
def dkwX2_cuts_3 : List UInt8 := [180, 0, 100, 154, 0, 7, 4, 167, 0, 4, 3, 5, 184, 0, 146, 45, 180, 0, 172, 172]
abbrev dktX2_cuts_3 : List UInt8 := dkwX2_cuts_3 ++ []
def dkwX2_cuts_2 : List UInt8 := [182, 0, 44, 192, 0, 48, 180, 0, 80, 28, 183, 0, 157, 182, 0, 168, 192, 0, 48, 78, 42, 182, 0, 92]
abbrev dktX2_cuts_2 : List UInt8 := dkwX2_cuts_2 ++ dktX2_cuts_3
def dkwX2_cuts_1 : List UInt8 := [167, 0, 4, 3, 4, 184, 0, 146, 42, 180, 0, 12, 27, 187, 0, 48, 89, 42, 180, 0, 12, 27]
abbrev dktX2_cuts_1 : List UInt8 := dkwX2_cuts_1 ++ dktX2_cuts_2
def dkwX2_cuts_0 : List UInt8 := [42, 27, 182, 0, 71, 153, 0, 21, 28, 133, 20, 0, 153, 20, 0, 155, 184, 0, 67, 153, 0, 7, 4]
abbrev dktX2_cuts_0 : List UInt8 := dkwX2_cuts_0 ++ dktX2_cuts_1
theorem dksX2_cuts_0 : cX2_cuts.data.toList.drop 0 = dktX2_cuts_0 := by decide +kernel
theorem dksX2_cuts_1 : cX2_cuts.data.toList.drop 23 = dktX2_cuts_1 := dk_seg dksX2_cuts_0 23 rfl rfl
theorem dksX2_cuts_2 : cX2_cuts.data.toList.drop 45 = dktX2_cuts_2 := dk_seg dksX2_cuts_1 22 rfl rfl
theorem dksX2_cuts_3 : cX2_cuts.data.toList.drop 69 = dktX2_cuts_3 := dk_seg dksX2_cuts_2 24 rfl rfl
theorem dX2_cuts_0 : decode cX2_cuts 0 = .ok (.aload_n 0, 1) := dk_42 (dk_at dksX2_cuts_0 0 rfl rfl)
theorem dX2_cuts_1 : decode cX2_cuts 1 = .ok (.iload_n 1, 1) := dk_27 (dk_at dksX2_cuts_0 1 rfl rfl)
theorem dX2_cuts_2 : decode cX2_cuts 2 = .ok (.invokevirtual 71, 3) := dk_182 0 71 (dk_at dksX2_cuts_0 2 rfl rfl)
theorem dX2_cuts_5 : decode cX2_cuts 5 = .ok (.ifCond .eq 21, 3) := dk_153 0 21 (dk_at dksX2_cuts_0 5 rfl rfl)
theorem dX2_cuts_8 : decode cX2_cuts 8 = .ok (.iload_n 2, 1) := dk_28 (dk_at dksX2_cuts_0 8 rfl rfl)
theorem dX2_cuts_9 : decode cX2_cuts 9 = .ok (.i2l, 1) := dk_133 (dk_at dksX2_cuts_0 9 rfl rfl)
theorem dX2_cuts_10 : decode cX2_cuts 10 = .ok (.ldc2_w 153, 3) := dk_20 0 153 (dk_at dksX2_cuts_0 10 rfl rfl)
theorem dX2_cuts_13 : decode cX2_cuts 13 = .ok (.ldc2_w 155, 3) := dk_20 0 155 (dk_at dksX2_cuts_0 13 rfl rfl)
theorem dX2_cuts_16 : decode cX2_cuts 16 = .ok (.invokestatic 67, 3) := dk_184 0 67 (dk_at dksX2_cuts_0 16 rfl rfl)
theorem dX2_cuts_19 : decode cX2_cuts 19 = .ok (.ifCond .eq 7, 3) := dk_153 0 7 (dk_at dksX2_cuts_0 19 rfl rfl)
theorem dX2_cuts_22 : decode cX2_cuts 22 = .ok (.iconst 1, 1) := dk_4 (dk_at dksX2_cuts_0 22 rfl rfl)
theorem dX2_cuts_23 : decode cX2_cuts 23 = .ok (.goto 4, 3) := dk_167 0 4 (dk_at dksX2_cuts_1 0 rfl rfl)
theorem dX2_cuts_26 : decode cX2_cuts 26 = .ok (.iconst 0, 1) := dk_3 (dk_at dksX2_cuts_1 3 rfl rfl)
theorem dX2_cuts_27 : decode cX2_cuts 27 = .ok (.iconst 1, 1) := dk_4 (dk_at dksX2_cuts_1 4 rfl rfl)
theorem dX2_cuts_28 : decode cX2_cuts 28 = .ok (.invokestatic 146, 3) := dk_184 0 146 (dk_at dksX2_cuts_1 5 rfl rfl)
theorem dX2_cuts_31 : decode cX2_cuts 31 = .ok (.aload_n 0, 1) := dk_42 (dk_at dksX2_cuts_1 8 rfl rfl)
theorem dX2_cuts_32 : decode cX2_cuts 32 = .ok (.getfield 12, 3) := dk_180 0 12 (dk_at dksX2_cuts_1 9 rfl rfl)
theorem dX2_cuts_35 : decode cX2_cuts 35 = .ok (.iload_n 1, 1) := dk_27 (dk_at dksX2_cuts_1 12 rfl rfl)
theorem dX2_cuts_36 : decode cX2_cuts 36 = .ok (.new 48, 3) := dk_187 0 48 (dk_at dksX2_cuts_1 13 rfl rfl)
theorem dX2_cuts_39 : decode cX2_cuts 39 = .ok (.dup, 1) := dk_89 (dk_at dksX2_cuts_1 16 rfl rfl)
theorem dX2_cuts_40 : decode cX2_cuts 40 = .ok (.aload_n 0, 1) := dk_42 (dk_at dksX2_cuts_1 17 rfl rfl)
theorem dX2_cuts_41 : decode cX2_cuts 41 = .ok (.getfield 12, 3) := dk_180 0 12 (dk_at dksX2_cuts_1 18 rfl rfl)
theorem dX2_cuts_44 : decode cX2_cuts 44 = .ok (.iload_n 1, 1) := dk_27 (dk_at dksX2_cuts_1 21 rfl rfl)
theorem dX2_cuts_45 : decode cX2_cuts 45 = .ok (.invokevirtual 44, 3) := dk_182 0 44 (dk_at dksX2_cuts_2 0 rfl rfl)
theorem dX2_cuts_48 : decode cX2_cuts 48 = .ok (.checkcast 48, 3) := dk_192 0 48 (dk_at dksX2_cuts_2 3 rfl rfl)
theorem dX2_cuts_51 : decode cX2_cuts 51 = .ok (.getfield 80, 3) := dk_180 0 80 (dk_at dksX2_cuts_2 6 rfl rfl)
theorem dX2_cuts_54 : decode cX2_cuts 54 = .ok (.iload_n 2, 1) := dk_28 (dk_at dksX2_cuts_2 9 rfl rfl)
theorem dX2_cuts_55 : decode cX2_cuts 55 = .ok (.invokespecial 157, 3) := dk_183 0 157 (dk_at dksX2_cuts_2 10 rfl rfl)
theorem dX2_cuts_58 : decode cX2_cuts 58 = .ok (.invokevirtual 168, 3) := dk_182 0 168 (dk_at dksX2_cuts_2 13 rfl rfl)
theorem dX2_cuts_61 : decode cX2_cuts 61 = .ok (.checkcast 48, 3) := dk_192 0 48 (dk_at dksX2_cuts_2 16 rfl rfl)
theorem dX2_cuts_64 : decode cX2_cuts 64 = .ok (.astore_n 3, 1) := dk_78 (dk_at dksX2_cuts_2 19 rfl rfl)
theorem dX2_cuts_65 : decode cX2_cuts 65 = .ok (.aload_n 0, 1) := dk_42 (dk_at dksX2_cuts_2 20 rfl rfl)
theorem dX2_cuts_66 : decode cX2_cuts 66 = .ok (.invokevirtual 92, 3) := dk_182 0 92 (dk_at dksX2_cuts_2 21 rfl rfl)
theorem dX2_cuts_69 : decode cX2_cuts 69 = .ok (.getfield 100, 3) := dk_180 0 100 (dk_at dksX2_cuts_3 0 rfl rfl)
theorem dX2_cuts_72 : decode cX2_cuts 72 = .ok (.ifCond .ne 7, 3) := dk_154 0 7 (dk_at dksX2_cuts_3 3 rfl rfl)
theorem dX2_cuts_75 : decode cX2_cuts 75 = .ok (.iconst 1, 1) := dk_4 (dk_at dksX2_cuts_3 6 rfl rfl)
theorem dX2_cuts_76 : decode cX2_cuts 76 = .ok (.goto 4, 3) := dk_167 0 4 (dk_at dksX2_cuts_3 7 rfl rfl)
theorem dX2_cuts_79 : decode cX2_cuts 79 = .ok (.iconst 0, 1) := dk_3 (dk_at dksX2_cuts_3 10 rfl rfl)
theorem dX2_cuts_80 : decode cX2_cuts 80 = .ok (.iconst 2, 1) := dk_5 (dk_at dksX2_cuts_3 11 rfl rfl)
theorem dX2_cuts_81 : decode cX2_cuts 81 = .ok (.invokestatic 146, 3) := dk_184 0 146 (dk_at dksX2_cuts_3 12 rfl rfl)
theorem dX2_cuts_84 : decode cX2_cuts 84 = .ok (.aload_n 3, 1) := dk_45 (dk_at dksX2_cuts_3 15 rfl rfl)
theorem dX2_cuts_85 : decode cX2_cuts 85 = .ok (.getfield 172, 3) := dk_180 0 172 (dk_at dksX2_cuts_3 16 rfl rfl)
theorem dX2_cuts_88 : decode cX2_cuts 88 = .ok (.ireturn, 1) := dk_172 (dk_at dksX2_cuts_3 19 rfl rfl)
abbrev cX2_getsArm : ByteArray := prog_8_method_21_code
def yX2_getsArm : MethodName := ⟨RX2, "getsArm", "(II)I"⟩
def dkwX2_getsArm_3 : List UInt8 := [180, 0, 18, 182, 0, 40, 4, 100, 172]
abbrev dktX2_getsArm_3 : List UInt8 := dkwX2_getsArm_3 ++ []
def dkwX2_getsArm_2 : List UInt8 := [3, 5, 184, 0, 146, 42, 180, 0, 18, 187, 0, 54, 89, 27, 28, 3, 183, 0, 179, 182, 0, 50, 87, 42]
abbrev dktX2_getsArm_2 : List UInt8 := dkwX2_getsArm_2 ++ dktX2_getsArm_3
def dkwX2_getsArm_1 : List UInt8 := [167, 0, 4, 3, 4, 184, 0, 146, 42, 180, 0, 18, 182, 0, 40, 16, 6, 162, 0, 7, 4, 167, 0, 4]
abbrev dktX2_getsArm_1 : List UInt8 := dkwX2_getsArm_1 ++ dktX2_getsArm_2
def dkwX2_getsArm_0 : List UInt8 := [42, 27, 182, 0, 150, 153, 0, 21, 28, 133, 20, 0, 175, 20, 0, 177, 184, 0, 67, 153, 0, 7, 4]
abbrev dktX2_getsArm_0 : List UInt8 := dkwX2_getsArm_0 ++ dktX2_getsArm_1
theorem dksX2_getsArm_0 : cX2_getsArm.data.toList.drop 0 = dktX2_getsArm_0 := by decide +kernel
theorem dksX2_getsArm_1 : cX2_getsArm.data.toList.drop 23 = dktX2_getsArm_1 := dk_seg dksX2_getsArm_0 23 rfl rfl
theorem dksX2_getsArm_2 : cX2_getsArm.data.toList.drop 47 = dktX2_getsArm_2 := dk_seg dksX2_getsArm_1 24 rfl rfl
theorem dksX2_getsArm_3 : cX2_getsArm.data.toList.drop 71 = dktX2_getsArm_3 := dk_seg dksX2_getsArm_2 24 rfl rfl
theorem dX2_getsArm_0 : decode cX2_getsArm 0 = .ok (.aload_n 0, 1) := dk_42 (dk_at dksX2_getsArm_0 0 rfl rfl)
theorem dX2_getsArm_1 : decode cX2_getsArm 1 = .ok (.iload_n 1, 1) := dk_27 (dk_at dksX2_getsArm_0 1 rfl rfl)
theorem dX2_getsArm_2 : decode cX2_getsArm 2 = .ok (.invokevirtual 150, 3) := dk_182 0 150 (dk_at dksX2_getsArm_0 2 rfl rfl)
theorem dX2_getsArm_5 : decode cX2_getsArm 5 = .ok (.ifCond .eq 21, 3) := dk_153 0 21 (dk_at dksX2_getsArm_0 5 rfl rfl)
theorem dX2_getsArm_8 : decode cX2_getsArm 8 = .ok (.iload_n 2, 1) := dk_28 (dk_at dksX2_getsArm_0 8 rfl rfl)
theorem dX2_getsArm_9 : decode cX2_getsArm 9 = .ok (.i2l, 1) := dk_133 (dk_at dksX2_getsArm_0 9 rfl rfl)
theorem dX2_getsArm_10 : decode cX2_getsArm 10 = .ok (.ldc2_w 175, 3) := dk_20 0 175 (dk_at dksX2_getsArm_0 10 rfl rfl)
theorem dX2_getsArm_13 : decode cX2_getsArm 13 = .ok (.ldc2_w 177, 3) := dk_20 0 177 (dk_at dksX2_getsArm_0 13 rfl rfl)
theorem dX2_getsArm_16 : decode cX2_getsArm 16 = .ok (.invokestatic 67, 3) := dk_184 0 67 (dk_at dksX2_getsArm_0 16 rfl rfl)
theorem dX2_getsArm_19 : decode cX2_getsArm 19 = .ok (.ifCond .eq 7, 3) := dk_153 0 7 (dk_at dksX2_getsArm_0 19 rfl rfl)
theorem dX2_getsArm_22 : decode cX2_getsArm 22 = .ok (.iconst 1, 1) := dk_4 (dk_at dksX2_getsArm_0 22 rfl rfl)
theorem dX2_getsArm_23 : decode cX2_getsArm 23 = .ok (.goto 4, 3) := dk_167 0 4 (dk_at dksX2_getsArm_1 0 rfl rfl)
theorem dX2_getsArm_26 : decode cX2_getsArm 26 = .ok (.iconst 0, 1) := dk_3 (dk_at dksX2_getsArm_1 3 rfl rfl)
theorem dX2_getsArm_27 : decode cX2_getsArm 27 = .ok (.iconst 1, 1) := dk_4 (dk_at dksX2_getsArm_1 4 rfl rfl)
theorem dX2_getsArm_28 : decode cX2_getsArm 28 = .ok (.invokestatic 146, 3) := dk_184 0 146 (dk_at dksX2_getsArm_1 5 rfl rfl)
theorem dX2_getsArm_31 : decode cX2_getsArm 31 = .ok (.aload_n 0, 1) := dk_42 (dk_at dksX2_getsArm_1 8 rfl rfl)
theorem dX2_getsArm_32 : decode cX2_getsArm 32 = .ok (.getfield 18, 3) := dk_180 0 18 (dk_at dksX2_getsArm_1 9 rfl rfl)
theorem dX2_getsArm_35 : decode cX2_getsArm 35 = .ok (.invokevirtual 40, 3) := dk_182 0 40 (dk_at dksX2_getsArm_1 12 rfl rfl)
theorem dX2_getsArm_38 : decode cX2_getsArm 38 = .ok (.bipush 6, 2) := dk_16 6 (dk_at dksX2_getsArm_1 15 rfl rfl)
theorem dX2_getsArm_40 : decode cX2_getsArm 40 = .ok (.if_icmp .ge 7, 3) := dk_162 0 7 (dk_at dksX2_getsArm_1 17 rfl rfl)
theorem dX2_getsArm_43 : decode cX2_getsArm 43 = .ok (.iconst 1, 1) := dk_4 (dk_at dksX2_getsArm_1 20 rfl rfl)
theorem dX2_getsArm_44 : decode cX2_getsArm 44 = .ok (.goto 4, 3) := dk_167 0 4 (dk_at dksX2_getsArm_1 21 rfl rfl)
theorem dX2_getsArm_47 : decode cX2_getsArm 47 = .ok (.iconst 0, 1) := dk_3 (dk_at dksX2_getsArm_2 0 rfl rfl)
theorem dX2_getsArm_48 : decode cX2_getsArm 48 = .ok (.iconst 2, 1) := dk_5 (dk_at dksX2_getsArm_2 1 rfl rfl)
theorem dX2_getsArm_49 : decode cX2_getsArm 49 = .ok (.invokestatic 146, 3) := dk_184 0 146 (dk_at dksX2_getsArm_2 2 rfl rfl)
theorem dX2_getsArm_52 : decode cX2_getsArm 52 = .ok (.aload_n 0, 1) := dk_42 (dk_at dksX2_getsArm_2 5 rfl rfl)
theorem dX2_getsArm_53 : decode cX2_getsArm 53 = .ok (.getfield 18, 3) := dk_180 0 18 (dk_at dksX2_getsArm_2 6 rfl rfl)
theorem dX2_getsArm_56 : decode cX2_getsArm 56 = .ok (.new 54, 3) := dk_187 0 54 (dk_at dksX2_getsArm_2 9 rfl rfl)
theorem dX2_getsArm_59 : decode cX2_getsArm 59 = .ok (.dup, 1) := dk_89 (dk_at dksX2_getsArm_2 12 rfl rfl)
theorem dX2_getsArm_60 : decode cX2_getsArm 60 = .ok (.iload_n 1, 1) := dk_27 (dk_at dksX2_getsArm_2 13 rfl rfl)
theorem dX2_getsArm_61 : decode cX2_getsArm 61 = .ok (.iload_n 2, 1) := dk_28 (dk_at dksX2_getsArm_2 14 rfl rfl)
theorem dX2_getsArm_62 : decode cX2_getsArm 62 = .ok (.iconst 0, 1) := dk_3 (dk_at dksX2_getsArm_2 15 rfl rfl)
theorem dX2_getsArm_63 : decode cX2_getsArm 63 = .ok (.invokespecial 179, 3) := dk_183 0 179 (dk_at dksX2_getsArm_2 16 rfl rfl)
theorem dX2_getsArm_66 : decode cX2_getsArm 66 = .ok (.invokevirtual 50, 3) := dk_182 0 50 (dk_at dksX2_getsArm_2 19 rfl rfl)
theorem dX2_getsArm_69 : decode cX2_getsArm 69 = .ok (.pop, 1) := dk_87 (dk_at dksX2_getsArm_2 22 rfl rfl)
theorem dX2_getsArm_70 : decode cX2_getsArm 70 = .ok (.aload_n 0, 1) := dk_42 (dk_at dksX2_getsArm_2 23 rfl rfl)
theorem dX2_getsArm_71 : decode cX2_getsArm 71 = .ok (.getfield 18, 3) := dk_180 0 18 (dk_at dksX2_getsArm_3 0 rfl rfl)
theorem dX2_getsArm_74 : decode cX2_getsArm 74 = .ok (.invokevirtual 40, 3) := dk_182 0 40 (dk_at dksX2_getsArm_3 3 rfl rfl)
theorem dX2_getsArm_77 : decode cX2_getsArm 77 = .ok (.iconst 1, 1) := dk_4 (dk_at dksX2_getsArm_3 6 rfl rfl)
theorem dX2_getsArm_78 : decode cX2_getsArm 78 = .ok (.isub, 1) := dk_100 (dk_at dksX2_getsArm_3 7 rfl rfl)
theorem dX2_getsArm_79 : decode cX2_getsArm 79 = .ok (.ireturn, 1) := dk_172 (dk_at dksX2_getsArm_3 8 rfl rfl)
abbrev cX2_bends : ByteArray := prog_8_method_22_code
def yX2_bends : MethodName := ⟨RX2, "bends", "(II)I"⟩
def dkwX2_bends_3 : List UInt8 := [58, 4, 25, 4, 180, 0, 115, 172]
abbrev dktX2_bends_3 : List UInt8 := dkwX2_bends_3 ++ []
def dkwX2_bends_2 : List UInt8 := [27, 187, 0, 54, 89, 45, 180, 0, 107, 28, 45, 180, 0, 185, 183, 0, 179, 182, 0, 168, 192, 0, 54]
abbrev dktX2_bends_2 : List UInt8 := dkwX2_bends_2 ++ dktX2_bends_3
def dkwX2_bends_1 : List UInt8 := [167, 0, 4, 3, 4, 184, 0, 146, 42, 180, 0, 18, 27, 182, 0, 44, 192, 0, 54, 78, 42, 180, 0, 18]
abbrev dktX2_bends_1 : List UInt8 := dkwX2_bends_1 ++ dktX2_bends_2
def dkwX2_bends_0 : List UInt8 := [42, 27, 182, 0, 182, 153, 0, 21, 28, 133, 20, 0, 175, 20, 0, 177, 184, 0, 67, 153, 0, 7, 4]
abbrev dktX2_bends_0 : List UInt8 := dkwX2_bends_0 ++ dktX2_bends_1
theorem dksX2_bends_0 : cX2_bends.data.toList.drop 0 = dktX2_bends_0 := by decide +kernel
theorem dksX2_bends_1 : cX2_bends.data.toList.drop 23 = dktX2_bends_1 := dk_seg dksX2_bends_0 23 rfl rfl
theorem dksX2_bends_2 : cX2_bends.data.toList.drop 47 = dktX2_bends_2 := dk_seg dksX2_bends_1 24 rfl rfl
theorem dksX2_bends_3 : cX2_bends.data.toList.drop 70 = dktX2_bends_3 := dk_seg dksX2_bends_2 23 rfl rfl
theorem dX2_bends_0 : decode cX2_bends 0 = .ok (.aload_n 0, 1) := dk_42 (dk_at dksX2_bends_0 0 rfl rfl)
theorem dX2_bends_1 : decode cX2_bends 1 = .ok (.iload_n 1, 1) := dk_27 (dk_at dksX2_bends_0 1 rfl rfl)
theorem dX2_bends_2 : decode cX2_bends 2 = .ok (.invokevirtual 182, 3) := dk_182 0 182 (dk_at dksX2_bends_0 2 rfl rfl)
theorem dX2_bends_5 : decode cX2_bends 5 = .ok (.ifCond .eq 21, 3) := dk_153 0 21 (dk_at dksX2_bends_0 5 rfl rfl)
theorem dX2_bends_8 : decode cX2_bends 8 = .ok (.iload_n 2, 1) := dk_28 (dk_at dksX2_bends_0 8 rfl rfl)
theorem dX2_bends_9 : decode cX2_bends 9 = .ok (.i2l, 1) := dk_133 (dk_at dksX2_bends_0 9 rfl rfl)
theorem dX2_bends_10 : decode cX2_bends 10 = .ok (.ldc2_w 175, 3) := dk_20 0 175 (dk_at dksX2_bends_0 10 rfl rfl)
theorem dX2_bends_13 : decode cX2_bends 13 = .ok (.ldc2_w 177, 3) := dk_20 0 177 (dk_at dksX2_bends_0 13 rfl rfl)
theorem dX2_bends_16 : decode cX2_bends 16 = .ok (.invokestatic 67, 3) := dk_184 0 67 (dk_at dksX2_bends_0 16 rfl rfl)
theorem dX2_bends_19 : decode cX2_bends 19 = .ok (.ifCond .eq 7, 3) := dk_153 0 7 (dk_at dksX2_bends_0 19 rfl rfl)
theorem dX2_bends_22 : decode cX2_bends 22 = .ok (.iconst 1, 1) := dk_4 (dk_at dksX2_bends_0 22 rfl rfl)
theorem dX2_bends_23 : decode cX2_bends 23 = .ok (.goto 4, 3) := dk_167 0 4 (dk_at dksX2_bends_1 0 rfl rfl)
theorem dX2_bends_26 : decode cX2_bends 26 = .ok (.iconst 0, 1) := dk_3 (dk_at dksX2_bends_1 3 rfl rfl)
theorem dX2_bends_27 : decode cX2_bends 27 = .ok (.iconst 1, 1) := dk_4 (dk_at dksX2_bends_1 4 rfl rfl)
theorem dX2_bends_28 : decode cX2_bends 28 = .ok (.invokestatic 146, 3) := dk_184 0 146 (dk_at dksX2_bends_1 5 rfl rfl)
theorem dX2_bends_31 : decode cX2_bends 31 = .ok (.aload_n 0, 1) := dk_42 (dk_at dksX2_bends_1 8 rfl rfl)
theorem dX2_bends_32 : decode cX2_bends 32 = .ok (.getfield 18, 3) := dk_180 0 18 (dk_at dksX2_bends_1 9 rfl rfl)
theorem dX2_bends_35 : decode cX2_bends 35 = .ok (.iload_n 1, 1) := dk_27 (dk_at dksX2_bends_1 12 rfl rfl)
theorem dX2_bends_36 : decode cX2_bends 36 = .ok (.invokevirtual 44, 3) := dk_182 0 44 (dk_at dksX2_bends_1 13 rfl rfl)
theorem dX2_bends_39 : decode cX2_bends 39 = .ok (.checkcast 54, 3) := dk_192 0 54 (dk_at dksX2_bends_1 16 rfl rfl)
theorem dX2_bends_42 : decode cX2_bends 42 = .ok (.astore_n 3, 1) := dk_78 (dk_at dksX2_bends_1 19 rfl rfl)
theorem dX2_bends_43 : decode cX2_bends 43 = .ok (.aload_n 0, 1) := dk_42 (dk_at dksX2_bends_1 20 rfl rfl)
theorem dX2_bends_44 : decode cX2_bends 44 = .ok (.getfield 18, 3) := dk_180 0 18 (dk_at dksX2_bends_1 21 rfl rfl)
theorem dX2_bends_47 : decode cX2_bends 47 = .ok (.iload_n 1, 1) := dk_27 (dk_at dksX2_bends_2 0 rfl rfl)
theorem dX2_bends_48 : decode cX2_bends 48 = .ok (.new 54, 3) := dk_187 0 54 (dk_at dksX2_bends_2 1 rfl rfl)
theorem dX2_bends_51 : decode cX2_bends 51 = .ok (.dup, 1) := dk_89 (dk_at dksX2_bends_2 4 rfl rfl)
theorem dX2_bends_52 : decode cX2_bends 52 = .ok (.aload_n 3, 1) := dk_45 (dk_at dksX2_bends_2 5 rfl rfl)
theorem dX2_bends_53 : decode cX2_bends 53 = .ok (.getfield 107, 3) := dk_180 0 107 (dk_at dksX2_bends_2 6 rfl rfl)
theorem dX2_bends_56 : decode cX2_bends 56 = .ok (.iload_n 2, 1) := dk_28 (dk_at dksX2_bends_2 9 rfl rfl)
theorem dX2_bends_57 : decode cX2_bends 57 = .ok (.aload_n 3, 1) := dk_45 (dk_at dksX2_bends_2 10 rfl rfl)
theorem dX2_bends_58 : decode cX2_bends 58 = .ok (.getfield 185, 3) := dk_180 0 185 (dk_at dksX2_bends_2 11 rfl rfl)
theorem dX2_bends_61 : decode cX2_bends 61 = .ok (.invokespecial 179, 3) := dk_183 0 179 (dk_at dksX2_bends_2 14 rfl rfl)
theorem dX2_bends_64 : decode cX2_bends 64 = .ok (.invokevirtual 168, 3) := dk_182 0 168 (dk_at dksX2_bends_2 17 rfl rfl)
theorem dX2_bends_67 : decode cX2_bends 67 = .ok (.checkcast 54, 3) := dk_192 0 54 (dk_at dksX2_bends_2 20 rfl rfl)
theorem dX2_bends_70 : decode cX2_bends 70 = .ok (.astore 4, 2) := dk_58 4 (dk_at dksX2_bends_3 0 rfl rfl)
theorem dX2_bends_72 : decode cX2_bends 72 = .ok (.aload 4, 2) := dk_25 4 (dk_at dksX2_bends_3 2 rfl rfl)
theorem dX2_bends_74 : decode cX2_bends 74 = .ok (.getfield 115, 3) := dk_180 0 115 (dk_at dksX2_bends_3 4 rfl rfl)
theorem dX2_bends_77 : decode cX2_bends 77 = .ok (.ireturn, 1) := dk_172 (dk_at dksX2_bends_3 7 rfl rfl)
abbrev cX2_isArm : ByteArray := prog_8_method_6_code
def yX2_isArm : MethodName := ⟨RX2, "isArm", "(I)Z"⟩
def dkwX2_isArm_0 : List UInt8 := [27, 133, 9, 42, 180, 0, 18, 182, 0, 40, 4, 100, 133, 184, 0, 67, 172]
abbrev dktX2_isArm_0 : List UInt8 := dkwX2_isArm_0 ++ []
theorem dksX2_isArm_0 : cX2_isArm.data.toList.drop 0 = dktX2_isArm_0 := by decide +kernel
theorem dX2_isArm_0 : decode cX2_isArm 0 = .ok (.iload_n 1, 1) := dk_27 (dk_at dksX2_isArm_0 0 rfl rfl)
theorem dX2_isArm_1 : decode cX2_isArm 1 = .ok (.i2l, 1) := dk_133 (dk_at dksX2_isArm_0 1 rfl rfl)
theorem dX2_isArm_2 : decode cX2_isArm 2 = .ok (.lconst 0, 1) := dk_9 (dk_at dksX2_isArm_0 2 rfl rfl)
theorem dX2_isArm_3 : decode cX2_isArm 3 = .ok (.aload_n 0, 1) := dk_42 (dk_at dksX2_isArm_0 3 rfl rfl)
theorem dX2_isArm_4 : decode cX2_isArm 4 = .ok (.getfield 18, 3) := dk_180 0 18 (dk_at dksX2_isArm_0 4 rfl rfl)
theorem dX2_isArm_7 : decode cX2_isArm 7 = .ok (.invokevirtual 40, 3) := dk_182 0 40 (dk_at dksX2_isArm_0 7 rfl rfl)
theorem dX2_isArm_10 : decode cX2_isArm 10 = .ok (.iconst 1, 1) := dk_4 (dk_at dksX2_isArm_0 10 rfl rfl)
theorem dX2_isArm_11 : decode cX2_isArm 11 = .ok (.isub, 1) := dk_100 (dk_at dksX2_isArm_0 11 rfl rfl)
theorem dX2_isArm_12 : decode cX2_isArm 12 = .ok (.i2l, 1) := dk_133 (dk_at dksX2_isArm_0 12 rfl rfl)
theorem dX2_isArm_13 : decode cX2_isArm 13 = .ok (.invokestatic 67, 3) := dk_184 0 67 (dk_at dksX2_isArm_0 13 rfl rfl)
theorem dX2_isArm_16 : decode cX2_isArm 16 = .ok (.ireturn, 1) := dk_172 (dk_at dksX2_isArm_0 16 rfl rfl)
abbrev cX2_getsMoon : ByteArray := prog_8_method_23_code
def yX2_getsMoon : MethodName := ⟨RX2, "getsMoon", "(II)I"⟩
def dkwX2_getsMoon_3 : List UInt8 := [100, 172]
abbrev dktX2_getsMoon_3 : List UInt8 := dkwX2_getsMoon_3 ++ []
def dkwX2_getsMoon_2 : List UInt8 := [180, 0, 21, 187, 0, 56, 89, 27, 28, 183, 0, 188, 182, 0, 50, 87, 42, 180, 0, 21, 182, 0, 40, 4]
abbrev dktX2_getsMoon_2 : List UInt8 := dkwX2_getsMoon_2 ++ dktX2_getsMoon_3
def dkwX2_getsMoon_1 : List UInt8 := [184, 0, 146, 42, 180, 0, 21, 182, 0, 40, 7, 162, 0, 7, 4, 167, 0, 4, 3, 5, 184, 0, 146, 42]
abbrev dktX2_getsMoon_1 : List UInt8 := dkwX2_getsMoon_1 ++ dktX2_getsMoon_2
def dkwX2_getsMoon_0 : List UInt8 := [42, 27, 182, 0, 182, 153, 0, 15, 42, 28, 182, 0, 150, 153, 0, 7, 4, 167, 0, 4, 3, 4]
abbrev dktX2_getsMoon_0 : List UInt8 := dkwX2_getsMoon_0 ++ dktX2_getsMoon_1
theorem dksX2_getsMoon_0 : cX2_getsMoon.data.toList.drop 0 = dktX2_getsMoon_0 := by decide +kernel
theorem dksX2_getsMoon_1 : cX2_getsMoon.data.toList.drop 22 = dktX2_getsMoon_1 := dk_seg dksX2_getsMoon_0 22 rfl rfl
theorem dksX2_getsMoon_2 : cX2_getsMoon.data.toList.drop 46 = dktX2_getsMoon_2 := dk_seg dksX2_getsMoon_1 24 rfl rfl
theorem dksX2_getsMoon_3 : cX2_getsMoon.data.toList.drop 70 = dktX2_getsMoon_3 := dk_seg dksX2_getsMoon_2 24 rfl rfl
theorem dX2_getsMoon_0 : decode cX2_getsMoon 0 = .ok (.aload_n 0, 1) := dk_42 (dk_at dksX2_getsMoon_0 0 rfl rfl)
theorem dX2_getsMoon_1 : decode cX2_getsMoon 1 = .ok (.iload_n 1, 1) := dk_27 (dk_at dksX2_getsMoon_0 1 rfl rfl)
theorem dX2_getsMoon_2 : decode cX2_getsMoon 2 = .ok (.invokevirtual 182, 3) := dk_182 0 182 (dk_at dksX2_getsMoon_0 2 rfl rfl)
theorem dX2_getsMoon_5 : decode cX2_getsMoon 5 = .ok (.ifCond .eq 15, 3) := dk_153 0 15 (dk_at dksX2_getsMoon_0 5 rfl rfl)
theorem dX2_getsMoon_8 : decode cX2_getsMoon 8 = .ok (.aload_n 0, 1) := dk_42 (dk_at dksX2_getsMoon_0 8 rfl rfl)
theorem dX2_getsMoon_9 : decode cX2_getsMoon 9 = .ok (.iload_n 2, 1) := dk_28 (dk_at dksX2_getsMoon_0 9 rfl rfl)
theorem dX2_getsMoon_10 : decode cX2_getsMoon 10 = .ok (.invokevirtual 150, 3) := dk_182 0 150 (dk_at dksX2_getsMoon_0 10 rfl rfl)
theorem dX2_getsMoon_13 : decode cX2_getsMoon 13 = .ok (.ifCond .eq 7, 3) := dk_153 0 7 (dk_at dksX2_getsMoon_0 13 rfl rfl)
theorem dX2_getsMoon_16 : decode cX2_getsMoon 16 = .ok (.iconst 1, 1) := dk_4 (dk_at dksX2_getsMoon_0 16 rfl rfl)
theorem dX2_getsMoon_17 : decode cX2_getsMoon 17 = .ok (.goto 4, 3) := dk_167 0 4 (dk_at dksX2_getsMoon_0 17 rfl rfl)
theorem dX2_getsMoon_20 : decode cX2_getsMoon 20 = .ok (.iconst 0, 1) := dk_3 (dk_at dksX2_getsMoon_0 20 rfl rfl)
theorem dX2_getsMoon_21 : decode cX2_getsMoon 21 = .ok (.iconst 1, 1) := dk_4 (dk_at dksX2_getsMoon_0 21 rfl rfl)
theorem dX2_getsMoon_22 : decode cX2_getsMoon 22 = .ok (.invokestatic 146, 3) := dk_184 0 146 (dk_at dksX2_getsMoon_1 0 rfl rfl)
theorem dX2_getsMoon_25 : decode cX2_getsMoon 25 = .ok (.aload_n 0, 1) := dk_42 (dk_at dksX2_getsMoon_1 3 rfl rfl)
theorem dX2_getsMoon_26 : decode cX2_getsMoon 26 = .ok (.getfield 21, 3) := dk_180 0 21 (dk_at dksX2_getsMoon_1 4 rfl rfl)
theorem dX2_getsMoon_29 : decode cX2_getsMoon 29 = .ok (.invokevirtual 40, 3) := dk_182 0 40 (dk_at dksX2_getsMoon_1 7 rfl rfl)
theorem dX2_getsMoon_32 : decode cX2_getsMoon 32 = .ok (.iconst 4, 1) := dk_7 (dk_at dksX2_getsMoon_1 10 rfl rfl)
theorem dX2_getsMoon_33 : decode cX2_getsMoon 33 = .ok (.if_icmp .ge 7, 3) := dk_162 0 7 (dk_at dksX2_getsMoon_1 11 rfl rfl)
theorem dX2_getsMoon_36 : decode cX2_getsMoon 36 = .ok (.iconst 1, 1) := dk_4 (dk_at dksX2_getsMoon_1 14 rfl rfl)
theorem dX2_getsMoon_37 : decode cX2_getsMoon 37 = .ok (.goto 4, 3) := dk_167 0 4 (dk_at dksX2_getsMoon_1 15 rfl rfl)
theorem dX2_getsMoon_40 : decode cX2_getsMoon 40 = .ok (.iconst 0, 1) := dk_3 (dk_at dksX2_getsMoon_1 18 rfl rfl)
theorem dX2_getsMoon_41 : decode cX2_getsMoon 41 = .ok (.iconst 2, 1) := dk_5 (dk_at dksX2_getsMoon_1 19 rfl rfl)
theorem dX2_getsMoon_42 : decode cX2_getsMoon 42 = .ok (.invokestatic 146, 3) := dk_184 0 146 (dk_at dksX2_getsMoon_1 20 rfl rfl)
theorem dX2_getsMoon_45 : decode cX2_getsMoon 45 = .ok (.aload_n 0, 1) := dk_42 (dk_at dksX2_getsMoon_1 23 rfl rfl)
theorem dX2_getsMoon_46 : decode cX2_getsMoon 46 = .ok (.getfield 21, 3) := dk_180 0 21 (dk_at dksX2_getsMoon_2 0 rfl rfl)
theorem dX2_getsMoon_49 : decode cX2_getsMoon 49 = .ok (.new 56, 3) := dk_187 0 56 (dk_at dksX2_getsMoon_2 3 rfl rfl)
theorem dX2_getsMoon_52 : decode cX2_getsMoon 52 = .ok (.dup, 1) := dk_89 (dk_at dksX2_getsMoon_2 6 rfl rfl)
theorem dX2_getsMoon_53 : decode cX2_getsMoon 53 = .ok (.iload_n 1, 1) := dk_27 (dk_at dksX2_getsMoon_2 7 rfl rfl)
theorem dX2_getsMoon_54 : decode cX2_getsMoon 54 = .ok (.iload_n 2, 1) := dk_28 (dk_at dksX2_getsMoon_2 8 rfl rfl)
theorem dX2_getsMoon_55 : decode cX2_getsMoon 55 = .ok (.invokespecial 188, 3) := dk_183 0 188 (dk_at dksX2_getsMoon_2 9 rfl rfl)
theorem dX2_getsMoon_58 : decode cX2_getsMoon 58 = .ok (.invokevirtual 50, 3) := dk_182 0 50 (dk_at dksX2_getsMoon_2 12 rfl rfl)
theorem dX2_getsMoon_61 : decode cX2_getsMoon 61 = .ok (.pop, 1) := dk_87 (dk_at dksX2_getsMoon_2 15 rfl rfl)
theorem dX2_getsMoon_62 : decode cX2_getsMoon 62 = .ok (.aload_n 0, 1) := dk_42 (dk_at dksX2_getsMoon_2 16 rfl rfl)
theorem dX2_getsMoon_63 : decode cX2_getsMoon 63 = .ok (.getfield 21, 3) := dk_180 0 21 (dk_at dksX2_getsMoon_2 17 rfl rfl)
theorem dX2_getsMoon_66 : decode cX2_getsMoon 66 = .ok (.invokevirtual 40, 3) := dk_182 0 40 (dk_at dksX2_getsMoon_2 20 rfl rfl)
theorem dX2_getsMoon_69 : decode cX2_getsMoon 69 = .ok (.iconst 1, 1) := dk_4 (dk_at dksX2_getsMoon_2 23 rfl rfl)
theorem dX2_getsMoon_70 : decode cX2_getsMoon 70 = .ok (.isub, 1) := dk_100 (dk_at dksX2_getsMoon_3 0 rfl rfl)
theorem dX2_getsMoon_71 : decode cX2_getsMoon 71 = .ok (.ireturn, 1) := dk_172 (dk_at dksX2_getsMoon_3 1 rfl rfl)
abbrev cX2_tells : ByteArray := prog_8_method_24_code
def yX2_tells : MethodName := ⟨RX2, "tells", "(II)I"⟩
def dkwX2_tells_3 : List UInt8 := [25, 4, 180, 0, 185, 172]
abbrev dktX2_tells_3 : List UInt8 := dkwX2_tells_3 ++ []
def dkwX2_tells_2 : List UInt8 := [187, 0, 54, 89, 45, 180, 0, 107, 45, 180, 0, 115, 28, 183, 0, 179, 182, 0, 168, 192, 0, 54, 58, 4]
abbrev dktX2_tells_2 : List UInt8 := dkwX2_tells_2 ++ dktX2_tells_3
def dkwX2_tells_1 : List UInt8 := [3, 4, 184, 0, 146, 42, 180, 0, 18, 27, 182, 0, 44, 192, 0, 54, 78, 42, 180, 0, 18, 27]
abbrev dktX2_tells_1 : List UInt8 := dkwX2_tells_1 ++ dktX2_tells_2
def dkwX2_tells_0 : List UInt8 := [42, 27, 182, 0, 182, 153, 0, 19, 28, 133, 9, 20, 0, 189, 184, 0, 67, 153, 0, 7, 4, 167, 0, 4]
abbrev dktX2_tells_0 : List UInt8 := dkwX2_tells_0 ++ dktX2_tells_1
theorem dksX2_tells_0 : cX2_tells.data.toList.drop 0 = dktX2_tells_0 := by decide +kernel
theorem dksX2_tells_1 : cX2_tells.data.toList.drop 24 = dktX2_tells_1 := dk_seg dksX2_tells_0 24 rfl rfl
theorem dksX2_tells_2 : cX2_tells.data.toList.drop 46 = dktX2_tells_2 := dk_seg dksX2_tells_1 22 rfl rfl
theorem dksX2_tells_3 : cX2_tells.data.toList.drop 70 = dktX2_tells_3 := dk_seg dksX2_tells_2 24 rfl rfl
theorem dX2_tells_0 : decode cX2_tells 0 = .ok (.aload_n 0, 1) := dk_42 (dk_at dksX2_tells_0 0 rfl rfl)
theorem dX2_tells_1 : decode cX2_tells 1 = .ok (.iload_n 1, 1) := dk_27 (dk_at dksX2_tells_0 1 rfl rfl)
theorem dX2_tells_2 : decode cX2_tells 2 = .ok (.invokevirtual 182, 3) := dk_182 0 182 (dk_at dksX2_tells_0 2 rfl rfl)
theorem dX2_tells_5 : decode cX2_tells 5 = .ok (.ifCond .eq 19, 3) := dk_153 0 19 (dk_at dksX2_tells_0 5 rfl rfl)
theorem dX2_tells_8 : decode cX2_tells 8 = .ok (.iload_n 2, 1) := dk_28 (dk_at dksX2_tells_0 8 rfl rfl)
theorem dX2_tells_9 : decode cX2_tells 9 = .ok (.i2l, 1) := dk_133 (dk_at dksX2_tells_0 9 rfl rfl)
theorem dX2_tells_10 : decode cX2_tells 10 = .ok (.lconst 0, 1) := dk_9 (dk_at dksX2_tells_0 10 rfl rfl)
theorem dX2_tells_11 : decode cX2_tells 11 = .ok (.ldc2_w 189, 3) := dk_20 0 189 (dk_at dksX2_tells_0 11 rfl rfl)
theorem dX2_tells_14 : decode cX2_tells 14 = .ok (.invokestatic 67, 3) := dk_184 0 67 (dk_at dksX2_tells_0 14 rfl rfl)
theorem dX2_tells_17 : decode cX2_tells 17 = .ok (.ifCond .eq 7, 3) := dk_153 0 7 (dk_at dksX2_tells_0 17 rfl rfl)
theorem dX2_tells_20 : decode cX2_tells 20 = .ok (.iconst 1, 1) := dk_4 (dk_at dksX2_tells_0 20 rfl rfl)
theorem dX2_tells_21 : decode cX2_tells 21 = .ok (.goto 4, 3) := dk_167 0 4 (dk_at dksX2_tells_0 21 rfl rfl)
theorem dX2_tells_24 : decode cX2_tells 24 = .ok (.iconst 0, 1) := dk_3 (dk_at dksX2_tells_1 0 rfl rfl)
theorem dX2_tells_25 : decode cX2_tells 25 = .ok (.iconst 1, 1) := dk_4 (dk_at dksX2_tells_1 1 rfl rfl)
theorem dX2_tells_26 : decode cX2_tells 26 = .ok (.invokestatic 146, 3) := dk_184 0 146 (dk_at dksX2_tells_1 2 rfl rfl)
theorem dX2_tells_29 : decode cX2_tells 29 = .ok (.aload_n 0, 1) := dk_42 (dk_at dksX2_tells_1 5 rfl rfl)
theorem dX2_tells_30 : decode cX2_tells 30 = .ok (.getfield 18, 3) := dk_180 0 18 (dk_at dksX2_tells_1 6 rfl rfl)
theorem dX2_tells_33 : decode cX2_tells 33 = .ok (.iload_n 1, 1) := dk_27 (dk_at dksX2_tells_1 9 rfl rfl)
theorem dX2_tells_34 : decode cX2_tells 34 = .ok (.invokevirtual 44, 3) := dk_182 0 44 (dk_at dksX2_tells_1 10 rfl rfl)
theorem dX2_tells_37 : decode cX2_tells 37 = .ok (.checkcast 54, 3) := dk_192 0 54 (dk_at dksX2_tells_1 13 rfl rfl)
theorem dX2_tells_40 : decode cX2_tells 40 = .ok (.astore_n 3, 1) := dk_78 (dk_at dksX2_tells_1 16 rfl rfl)
theorem dX2_tells_41 : decode cX2_tells 41 = .ok (.aload_n 0, 1) := dk_42 (dk_at dksX2_tells_1 17 rfl rfl)
theorem dX2_tells_42 : decode cX2_tells 42 = .ok (.getfield 18, 3) := dk_180 0 18 (dk_at dksX2_tells_1 18 rfl rfl)
theorem dX2_tells_45 : decode cX2_tells 45 = .ok (.iload_n 1, 1) := dk_27 (dk_at dksX2_tells_1 21 rfl rfl)
theorem dX2_tells_46 : decode cX2_tells 46 = .ok (.new 54, 3) := dk_187 0 54 (dk_at dksX2_tells_2 0 rfl rfl)
theorem dX2_tells_49 : decode cX2_tells 49 = .ok (.dup, 1) := dk_89 (dk_at dksX2_tells_2 3 rfl rfl)
theorem dX2_tells_50 : decode cX2_tells 50 = .ok (.aload_n 3, 1) := dk_45 (dk_at dksX2_tells_2 4 rfl rfl)
theorem dX2_tells_51 : decode cX2_tells 51 = .ok (.getfield 107, 3) := dk_180 0 107 (dk_at dksX2_tells_2 5 rfl rfl)
theorem dX2_tells_54 : decode cX2_tells 54 = .ok (.aload_n 3, 1) := dk_45 (dk_at dksX2_tells_2 8 rfl rfl)
theorem dX2_tells_55 : decode cX2_tells 55 = .ok (.getfield 115, 3) := dk_180 0 115 (dk_at dksX2_tells_2 9 rfl rfl)
theorem dX2_tells_58 : decode cX2_tells 58 = .ok (.iload_n 2, 1) := dk_28 (dk_at dksX2_tells_2 12 rfl rfl)
theorem dX2_tells_59 : decode cX2_tells 59 = .ok (.invokespecial 179, 3) := dk_183 0 179 (dk_at dksX2_tells_2 13 rfl rfl)
theorem dX2_tells_62 : decode cX2_tells 62 = .ok (.invokevirtual 168, 3) := dk_182 0 168 (dk_at dksX2_tells_2 16 rfl rfl)
theorem dX2_tells_65 : decode cX2_tells 65 = .ok (.checkcast 54, 3) := dk_192 0 54 (dk_at dksX2_tells_2 19 rfl rfl)
theorem dX2_tells_68 : decode cX2_tells 68 = .ok (.astore 4, 2) := dk_58 4 (dk_at dksX2_tells_2 22 rfl rfl)
theorem dX2_tells_70 : decode cX2_tells 70 = .ok (.aload 4, 2) := dk_25 4 (dk_at dksX2_tells_3 0 rfl rfl)
theorem dX2_tells_72 : decode cX2_tells 72 = .ok (.getfield 185, 3) := dk_180 0 185 (dk_at dksX2_tells_3 2 rfl rfl)
theorem dX2_tells_75 : decode cX2_tells 75 = .ok (.ireturn, 1) := dk_172 (dk_at dksX2_tells_3 5 rfl rfl)
abbrev cX2_goesOn : ByteArray := prog_8_method_25_code
def yX2_goesOn : MethodName := ⟨RX2, "goesOn", "(I)I"⟩
def dkwX2_goesOn_2 : List UInt8 := [27, 96, 181, 0, 64, 42, 180, 0, 61, 172]
abbrev dktX2_goesOn_2 : List UInt8 := dkwX2_goesOn_2 ++ []
def dkwX2_goesOn_1 : List UInt8 := [4, 167, 0, 4, 3, 5, 184, 0, 146, 42, 89, 180, 0, 61, 27, 96, 181, 0, 61, 42, 89, 180, 0, 64]
abbrev dktX2_goesOn_1 : List UInt8 := dkwX2_goesOn_1 ++ dktX2_goesOn_2
def dkwX2_goesOn_0 : List UInt8 := [27, 133, 10, 20, 0, 191, 184, 0, 67, 4, 184, 0, 146, 42, 180, 0, 61, 27, 96, 18, 193, 163, 0, 7]
abbrev dktX2_goesOn_0 : List UInt8 := dkwX2_goesOn_0 ++ dktX2_goesOn_1
theorem dksX2_goesOn_0 : cX2_goesOn.data.toList.drop 0 = dktX2_goesOn_0 := by decide +kernel
theorem dksX2_goesOn_1 : cX2_goesOn.data.toList.drop 24 = dktX2_goesOn_1 := dk_seg dksX2_goesOn_0 24 rfl rfl
theorem dksX2_goesOn_2 : cX2_goesOn.data.toList.drop 48 = dktX2_goesOn_2 := dk_seg dksX2_goesOn_1 24 rfl rfl
theorem dX2_goesOn_0 : decode cX2_goesOn 0 = .ok (.iload_n 1, 1) := dk_27 (dk_at dksX2_goesOn_0 0 rfl rfl)
theorem dX2_goesOn_1 : decode cX2_goesOn 1 = .ok (.i2l, 1) := dk_133 (dk_at dksX2_goesOn_0 1 rfl rfl)
theorem dX2_goesOn_2 : decode cX2_goesOn 2 = .ok (.lconst 1, 1) := dk_10 (dk_at dksX2_goesOn_0 2 rfl rfl)
theorem dX2_goesOn_3 : decode cX2_goesOn 3 = .ok (.ldc2_w 191, 3) := dk_20 0 191 (dk_at dksX2_goesOn_0 3 rfl rfl)
theorem dX2_goesOn_6 : decode cX2_goesOn 6 = .ok (.invokestatic 67, 3) := dk_184 0 67 (dk_at dksX2_goesOn_0 6 rfl rfl)
theorem dX2_goesOn_9 : decode cX2_goesOn 9 = .ok (.iconst 1, 1) := dk_4 (dk_at dksX2_goesOn_0 9 rfl rfl)
theorem dX2_goesOn_10 : decode cX2_goesOn 10 = .ok (.invokestatic 146, 3) := dk_184 0 146 (dk_at dksX2_goesOn_0 10 rfl rfl)
theorem dX2_goesOn_13 : decode cX2_goesOn 13 = .ok (.aload_n 0, 1) := dk_42 (dk_at dksX2_goesOn_0 13 rfl rfl)
theorem dX2_goesOn_14 : decode cX2_goesOn 14 = .ok (.getfield 61, 3) := dk_180 0 61 (dk_at dksX2_goesOn_0 14 rfl rfl)
theorem dX2_goesOn_17 : decode cX2_goesOn 17 = .ok (.iload_n 1, 1) := dk_27 (dk_at dksX2_goesOn_0 17 rfl rfl)
theorem dX2_goesOn_18 : decode cX2_goesOn 18 = .ok (.iadd, 1) := dk_96 (dk_at dksX2_goesOn_0 18 rfl rfl)
theorem dX2_goesOn_19 : decode cX2_goesOn 19 = .ok (.ldc 193, 2) := dk_18 193 (dk_at dksX2_goesOn_0 19 rfl rfl)
theorem dX2_goesOn_21 : decode cX2_goesOn 21 = .ok (.if_icmp .gt 7, 3) := dk_163 0 7 (dk_at dksX2_goesOn_0 21 rfl rfl)
theorem dX2_goesOn_24 : decode cX2_goesOn 24 = .ok (.iconst 1, 1) := dk_4 (dk_at dksX2_goesOn_1 0 rfl rfl)
theorem dX2_goesOn_25 : decode cX2_goesOn 25 = .ok (.goto 4, 3) := dk_167 0 4 (dk_at dksX2_goesOn_1 1 rfl rfl)
theorem dX2_goesOn_28 : decode cX2_goesOn 28 = .ok (.iconst 0, 1) := dk_3 (dk_at dksX2_goesOn_1 4 rfl rfl)
theorem dX2_goesOn_29 : decode cX2_goesOn 29 = .ok (.iconst 2, 1) := dk_5 (dk_at dksX2_goesOn_1 5 rfl rfl)
theorem dX2_goesOn_30 : decode cX2_goesOn 30 = .ok (.invokestatic 146, 3) := dk_184 0 146 (dk_at dksX2_goesOn_1 6 rfl rfl)
theorem dX2_goesOn_33 : decode cX2_goesOn 33 = .ok (.aload_n 0, 1) := dk_42 (dk_at dksX2_goesOn_1 9 rfl rfl)
theorem dX2_goesOn_34 : decode cX2_goesOn 34 = .ok (.dup, 1) := dk_89 (dk_at dksX2_goesOn_1 10 rfl rfl)
theorem dX2_goesOn_35 : decode cX2_goesOn 35 = .ok (.getfield 61, 3) := dk_180 0 61 (dk_at dksX2_goesOn_1 11 rfl rfl)
theorem dX2_goesOn_38 : decode cX2_goesOn 38 = .ok (.iload_n 1, 1) := dk_27 (dk_at dksX2_goesOn_1 14 rfl rfl)
theorem dX2_goesOn_39 : decode cX2_goesOn 39 = .ok (.iadd, 1) := dk_96 (dk_at dksX2_goesOn_1 15 rfl rfl)
theorem dX2_goesOn_40 : decode cX2_goesOn 40 = .ok (.putfield 61, 3) := dk_181 0 61 (dk_at dksX2_goesOn_1 16 rfl rfl)
theorem dX2_goesOn_43 : decode cX2_goesOn 43 = .ok (.aload_n 0, 1) := dk_42 (dk_at dksX2_goesOn_1 19 rfl rfl)
theorem dX2_goesOn_44 : decode cX2_goesOn 44 = .ok (.dup, 1) := dk_89 (dk_at dksX2_goesOn_1 20 rfl rfl)
theorem dX2_goesOn_45 : decode cX2_goesOn 45 = .ok (.getfield 64, 3) := dk_180 0 64 (dk_at dksX2_goesOn_1 21 rfl rfl)
theorem dX2_goesOn_48 : decode cX2_goesOn 48 = .ok (.iload_n 1, 1) := dk_27 (dk_at dksX2_goesOn_2 0 rfl rfl)
theorem dX2_goesOn_49 : decode cX2_goesOn 49 = .ok (.iadd, 1) := dk_96 (dk_at dksX2_goesOn_2 1 rfl rfl)
theorem dX2_goesOn_50 : decode cX2_goesOn 50 = .ok (.putfield 64, 3) := dk_181 0 64 (dk_at dksX2_goesOn_2 2 rfl rfl)
theorem dX2_goesOn_53 : decode cX2_goesOn 53 = .ok (.aload_n 0, 1) := dk_42 (dk_at dksX2_goesOn_2 5 rfl rfl)
theorem dX2_goesOn_54 : decode cX2_goesOn 54 = .ok (.getfield 61, 3) := dk_180 0 61 (dk_at dksX2_goesOn_2 6 rfl rfl)
theorem dX2_goesOn_57 : decode cX2_goesOn 57 = .ok (.ireturn, 1) := dk_172 (dk_at dksX2_goesOn_2 9 rfl rfl)
abbrev cX2_setsDay : ByteArray := prog_8_method_26_code
def yX2_setsDay : MethodName := ⟨RX2, "setsDay", "(I)I"⟩
def dkwX2_setsDay_1 : List UInt8 := [172]
abbrev dktX2_setsDay_1 : List UInt8 := dkwX2_setsDay_1 ++ []
def dkwX2_setsDay_0 : List UInt8 := [27, 133, 9, 20, 0, 194, 184, 0, 67, 4, 184, 0, 146, 42, 180, 0, 61, 61, 42, 27, 181, 0, 61, 28]
abbrev dktX2_setsDay_0 : List UInt8 := dkwX2_setsDay_0 ++ dktX2_setsDay_1
theorem dksX2_setsDay_0 : cX2_setsDay.data.toList.drop 0 = dktX2_setsDay_0 := by decide +kernel
theorem dksX2_setsDay_1 : cX2_setsDay.data.toList.drop 24 = dktX2_setsDay_1 := dk_seg dksX2_setsDay_0 24 rfl rfl
theorem dX2_setsDay_0 : decode cX2_setsDay 0 = .ok (.iload_n 1, 1) := dk_27 (dk_at dksX2_setsDay_0 0 rfl rfl)
theorem dX2_setsDay_1 : decode cX2_setsDay 1 = .ok (.i2l, 1) := dk_133 (dk_at dksX2_setsDay_0 1 rfl rfl)
theorem dX2_setsDay_2 : decode cX2_setsDay 2 = .ok (.lconst 0, 1) := dk_9 (dk_at dksX2_setsDay_0 2 rfl rfl)
theorem dX2_setsDay_3 : decode cX2_setsDay 3 = .ok (.ldc2_w 194, 3) := dk_20 0 194 (dk_at dksX2_setsDay_0 3 rfl rfl)
theorem dX2_setsDay_6 : decode cX2_setsDay 6 = .ok (.invokestatic 67, 3) := dk_184 0 67 (dk_at dksX2_setsDay_0 6 rfl rfl)
theorem dX2_setsDay_9 : decode cX2_setsDay 9 = .ok (.iconst 1, 1) := dk_4 (dk_at dksX2_setsDay_0 9 rfl rfl)
theorem dX2_setsDay_10 : decode cX2_setsDay 10 = .ok (.invokestatic 146, 3) := dk_184 0 146 (dk_at dksX2_setsDay_0 10 rfl rfl)
theorem dX2_setsDay_13 : decode cX2_setsDay 13 = .ok (.aload_n 0, 1) := dk_42 (dk_at dksX2_setsDay_0 13 rfl rfl)
theorem dX2_setsDay_14 : decode cX2_setsDay 14 = .ok (.getfield 61, 3) := dk_180 0 61 (dk_at dksX2_setsDay_0 14 rfl rfl)
theorem dX2_setsDay_17 : decode cX2_setsDay 17 = .ok (.istore_n 2, 1) := dk_61 (dk_at dksX2_setsDay_0 17 rfl rfl)
theorem dX2_setsDay_18 : decode cX2_setsDay 18 = .ok (.aload_n 0, 1) := dk_42 (dk_at dksX2_setsDay_0 18 rfl rfl)
theorem dX2_setsDay_19 : decode cX2_setsDay 19 = .ok (.iload_n 1, 1) := dk_27 (dk_at dksX2_setsDay_0 19 rfl rfl)
theorem dX2_setsDay_20 : decode cX2_setsDay 20 = .ok (.putfield 61, 3) := dk_181 0 61 (dk_at dksX2_setsDay_0 20 rfl rfl)
theorem dX2_setsDay_23 : decode cX2_setsDay 23 = .ok (.iload_n 2, 1) := dk_28 (dk_at dksX2_setsDay_0 23 rfl rfl)
theorem dX2_setsDay_24 : decode cX2_setsDay 24 = .ok (.ireturn, 1) := dk_172 (dk_at dksX2_setsDay_1 0 rfl rfl)
abbrev cX2_armAngle : ByteArray := prog_8_method_11_code
def yX2_armAngle : MethodName := ⟨RX2, "armAngle", "(ILClockworkOrreries$Drive;I)I"⟩
def dkwX2_armAngle_2 : List UInt8 := [180, 0, 115, 104, 96, 133, 184, 0, 118, 172]
abbrev dktX2_armAngle_2 : List UInt8 := dkwX2_armAngle_2 ++ []
def dkwX2_armAngle_1 : List UInt8 := [47, 44, 180, 0, 108, 25, 4, 180, 0, 107, 47, 184, 0, 111, 54, 5, 21, 5, 16, 60, 25, 4]
abbrev dktX2_armAngle_1 : List UInt8 := dkwX2_armAngle_1 ++ dktX2_armAngle_2
def dkwX2_armAngle_0 : List UInt8 := [42, 180, 0, 18, 27, 182, 0, 44, 192, 0, 54, 58, 4, 29, 133, 44, 180, 0, 103, 25, 4, 180, 0, 107]
abbrev dktX2_armAngle_0 : List UInt8 := dkwX2_armAngle_0 ++ dktX2_armAngle_1
theorem dksX2_armAngle_0 : cX2_armAngle.data.toList.drop 0 = dktX2_armAngle_0 := by decide +kernel
theorem dksX2_armAngle_1 : cX2_armAngle.data.toList.drop 24 = dktX2_armAngle_1 := dk_seg dksX2_armAngle_0 24 rfl rfl
theorem dksX2_armAngle_2 : cX2_armAngle.data.toList.drop 46 = dktX2_armAngle_2 := dk_seg dksX2_armAngle_1 22 rfl rfl
theorem dX2_armAngle_0 : decode cX2_armAngle 0 = .ok (.aload_n 0, 1) := dk_42 (dk_at dksX2_armAngle_0 0 rfl rfl)
theorem dX2_armAngle_1 : decode cX2_armAngle 1 = .ok (.getfield 18, 3) := dk_180 0 18 (dk_at dksX2_armAngle_0 1 rfl rfl)
theorem dX2_armAngle_4 : decode cX2_armAngle 4 = .ok (.iload_n 1, 1) := dk_27 (dk_at dksX2_armAngle_0 4 rfl rfl)
theorem dX2_armAngle_5 : decode cX2_armAngle 5 = .ok (.invokevirtual 44, 3) := dk_182 0 44 (dk_at dksX2_armAngle_0 5 rfl rfl)
theorem dX2_armAngle_8 : decode cX2_armAngle 8 = .ok (.checkcast 54, 3) := dk_192 0 54 (dk_at dksX2_armAngle_0 8 rfl rfl)
theorem dX2_armAngle_11 : decode cX2_armAngle 11 = .ok (.astore 4, 2) := dk_58 4 (dk_at dksX2_armAngle_0 11 rfl rfl)
theorem dX2_armAngle_13 : decode cX2_armAngle 13 = .ok (.iload_n 3, 1) := dk_29 (dk_at dksX2_armAngle_0 13 rfl rfl)
theorem dX2_armAngle_14 : decode cX2_armAngle 14 = .ok (.i2l, 1) := dk_133 (dk_at dksX2_armAngle_0 14 rfl rfl)
theorem dX2_armAngle_15 : decode cX2_armAngle 15 = .ok (.aload_n 2, 1) := dk_44 (dk_at dksX2_armAngle_0 15 rfl rfl)
theorem dX2_armAngle_16 : decode cX2_armAngle 16 = .ok (.getfield 103, 3) := dk_180 0 103 (dk_at dksX2_armAngle_0 16 rfl rfl)
theorem dX2_armAngle_19 : decode cX2_armAngle 19 = .ok (.aload 4, 2) := dk_25 4 (dk_at dksX2_armAngle_0 19 rfl rfl)
theorem dX2_armAngle_21 : decode cX2_armAngle 21 = .ok (.getfield 107, 3) := dk_180 0 107 (dk_at dksX2_armAngle_0 21 rfl rfl)
theorem dX2_armAngle_24 : decode cX2_armAngle 24 = .ok (.laload, 1) := dk_47 (dk_at dksX2_armAngle_1 0 rfl rfl)
theorem dX2_armAngle_25 : decode cX2_armAngle 25 = .ok (.aload_n 2, 1) := dk_44 (dk_at dksX2_armAngle_1 1 rfl rfl)
theorem dX2_armAngle_26 : decode cX2_armAngle 26 = .ok (.getfield 108, 3) := dk_180 0 108 (dk_at dksX2_armAngle_1 2 rfl rfl)
theorem dX2_armAngle_29 : decode cX2_armAngle 29 = .ok (.aload 4, 2) := dk_25 4 (dk_at dksX2_armAngle_1 5 rfl rfl)
theorem dX2_armAngle_31 : decode cX2_armAngle 31 = .ok (.getfield 107, 3) := dk_180 0 107 (dk_at dksX2_armAngle_1 7 rfl rfl)
theorem dX2_armAngle_34 : decode cX2_armAngle 34 = .ok (.laload, 1) := dk_47 (dk_at dksX2_armAngle_1 10 rfl rfl)
theorem dX2_armAngle_35 : decode cX2_armAngle 35 = .ok (.invokestatic 111, 3) := dk_184 0 111 (dk_at dksX2_armAngle_1 11 rfl rfl)
theorem dX2_armAngle_38 : decode cX2_armAngle 38 = .ok (.istore 5, 2) := dk_54 5 (dk_at dksX2_armAngle_1 14 rfl rfl)
theorem dX2_armAngle_40 : decode cX2_armAngle 40 = .ok (.iload 5, 2) := dk_21 5 (dk_at dksX2_armAngle_1 16 rfl rfl)
theorem dX2_armAngle_42 : decode cX2_armAngle 42 = .ok (.bipush 60, 2) := dk_16 60 (dk_at dksX2_armAngle_1 18 rfl rfl)
theorem dX2_armAngle_44 : decode cX2_armAngle 44 = .ok (.aload 4, 2) := dk_25 4 (dk_at dksX2_armAngle_1 20 rfl rfl)
theorem dX2_armAngle_46 : decode cX2_armAngle 46 = .ok (.getfield 115, 3) := dk_180 0 115 (dk_at dksX2_armAngle_2 0 rfl rfl)
theorem dX2_armAngle_49 : decode cX2_armAngle 49 = .ok (.imul, 1) := dk_104 (dk_at dksX2_armAngle_2 3 rfl rfl)
theorem dX2_armAngle_50 : decode cX2_armAngle 50 = .ok (.iadd, 1) := dk_96 (dk_at dksX2_armAngle_2 4 rfl rfl)
theorem dX2_armAngle_51 : decode cX2_armAngle 51 = .ok (.i2l, 1) := dk_133 (dk_at dksX2_armAngle_2 5 rfl rfl)
theorem dX2_armAngle_52 : decode cX2_armAngle 52 = .ok (.invokestatic 118, 3) := dk_184 0 118 (dk_at dksX2_armAngle_2 6 rfl rfl)
theorem dX2_armAngle_55 : decode cX2_armAngle 55 = .ok (.ireturn, 1) := dk_172 (dk_at dksX2_armAngle_2 9 rfl rfl)
abbrev cX2_armAngleByTeeth : ByteArray := prog_8_method_12_code
def yX2_armAngleByTeeth : MethodName := ⟨RX2, "armAngleByTeeth", "(ILClockworkOrreries$Drive;)I"⟩
def dkwX2_armAngleByTeeth_2 : List UInt8 := [180, 0, 115, 104, 96, 133, 184, 0, 118, 172]
abbrev dktX2_armAngleByTeeth_2 : List UInt8 := dkwX2_armAngleByTeeth_2 ++ []
def dkwX2_armAngleByTeeth_1 : List UInt8 := [180, 0, 107, 47, 44, 180, 0, 125, 45, 180, 0, 107, 47, 184, 0, 111, 54, 4, 21, 4, 16, 60, 45]
abbrev dktX2_armAngleByTeeth_1 : List UInt8 := dkwX2_armAngleByTeeth_1 ++ dktX2_armAngleByTeeth_2
def dkwX2_armAngleByTeeth_0 : List UInt8 := [42, 180, 0, 18, 27, 182, 0, 44, 192, 0, 54, 78, 42, 180, 0, 61, 133, 44, 180, 0, 122, 45]
abbrev dktX2_armAngleByTeeth_0 : List UInt8 := dkwX2_armAngleByTeeth_0 ++ dktX2_armAngleByTeeth_1
theorem dksX2_armAngleByTeeth_0 : cX2_armAngleByTeeth.data.toList.drop 0 = dktX2_armAngleByTeeth_0 := by decide +kernel
theorem dksX2_armAngleByTeeth_1 : cX2_armAngleByTeeth.data.toList.drop 22 = dktX2_armAngleByTeeth_1 := dk_seg dksX2_armAngleByTeeth_0 22 rfl rfl
theorem dksX2_armAngleByTeeth_2 : cX2_armAngleByTeeth.data.toList.drop 45 = dktX2_armAngleByTeeth_2 := dk_seg dksX2_armAngleByTeeth_1 23 rfl rfl
theorem dX2_armAngleByTeeth_0 : decode cX2_armAngleByTeeth 0 = .ok (.aload_n 0, 1) := dk_42 (dk_at dksX2_armAngleByTeeth_0 0 rfl rfl)
theorem dX2_armAngleByTeeth_1 : decode cX2_armAngleByTeeth 1 = .ok (.getfield 18, 3) := dk_180 0 18 (dk_at dksX2_armAngleByTeeth_0 1 rfl rfl)
theorem dX2_armAngleByTeeth_4 : decode cX2_armAngleByTeeth 4 = .ok (.iload_n 1, 1) := dk_27 (dk_at dksX2_armAngleByTeeth_0 4 rfl rfl)
theorem dX2_armAngleByTeeth_5 : decode cX2_armAngleByTeeth 5 = .ok (.invokevirtual 44, 3) := dk_182 0 44 (dk_at dksX2_armAngleByTeeth_0 5 rfl rfl)
theorem dX2_armAngleByTeeth_8 : decode cX2_armAngleByTeeth 8 = .ok (.checkcast 54, 3) := dk_192 0 54 (dk_at dksX2_armAngleByTeeth_0 8 rfl rfl)
theorem dX2_armAngleByTeeth_11 : decode cX2_armAngleByTeeth 11 = .ok (.astore_n 3, 1) := dk_78 (dk_at dksX2_armAngleByTeeth_0 11 rfl rfl)
theorem dX2_armAngleByTeeth_12 : decode cX2_armAngleByTeeth 12 = .ok (.aload_n 0, 1) := dk_42 (dk_at dksX2_armAngleByTeeth_0 12 rfl rfl)
theorem dX2_armAngleByTeeth_13 : decode cX2_armAngleByTeeth 13 = .ok (.getfield 61, 3) := dk_180 0 61 (dk_at dksX2_armAngleByTeeth_0 13 rfl rfl)
theorem dX2_armAngleByTeeth_16 : decode cX2_armAngleByTeeth 16 = .ok (.i2l, 1) := dk_133 (dk_at dksX2_armAngleByTeeth_0 16 rfl rfl)
theorem dX2_armAngleByTeeth_17 : decode cX2_armAngleByTeeth 17 = .ok (.aload_n 2, 1) := dk_44 (dk_at dksX2_armAngleByTeeth_0 17 rfl rfl)
theorem dX2_armAngleByTeeth_18 : decode cX2_armAngleByTeeth 18 = .ok (.getfield 122, 3) := dk_180 0 122 (dk_at dksX2_armAngleByTeeth_0 18 rfl rfl)
theorem dX2_armAngleByTeeth_21 : decode cX2_armAngleByTeeth 21 = .ok (.aload_n 3, 1) := dk_45 (dk_at dksX2_armAngleByTeeth_0 21 rfl rfl)
theorem dX2_armAngleByTeeth_22 : decode cX2_armAngleByTeeth 22 = .ok (.getfield 107, 3) := dk_180 0 107 (dk_at dksX2_armAngleByTeeth_1 0 rfl rfl)
theorem dX2_armAngleByTeeth_25 : decode cX2_armAngleByTeeth 25 = .ok (.laload, 1) := dk_47 (dk_at dksX2_armAngleByTeeth_1 3 rfl rfl)
theorem dX2_armAngleByTeeth_26 : decode cX2_armAngleByTeeth 26 = .ok (.aload_n 2, 1) := dk_44 (dk_at dksX2_armAngleByTeeth_1 4 rfl rfl)
theorem dX2_armAngleByTeeth_27 : decode cX2_armAngleByTeeth 27 = .ok (.getfield 125, 3) := dk_180 0 125 (dk_at dksX2_armAngleByTeeth_1 5 rfl rfl)
theorem dX2_armAngleByTeeth_30 : decode cX2_armAngleByTeeth 30 = .ok (.aload_n 3, 1) := dk_45 (dk_at dksX2_armAngleByTeeth_1 8 rfl rfl)
theorem dX2_armAngleByTeeth_31 : decode cX2_armAngleByTeeth 31 = .ok (.getfield 107, 3) := dk_180 0 107 (dk_at dksX2_armAngleByTeeth_1 9 rfl rfl)
theorem dX2_armAngleByTeeth_34 : decode cX2_armAngleByTeeth 34 = .ok (.laload, 1) := dk_47 (dk_at dksX2_armAngleByTeeth_1 12 rfl rfl)
theorem dX2_armAngleByTeeth_35 : decode cX2_armAngleByTeeth 35 = .ok (.invokestatic 111, 3) := dk_184 0 111 (dk_at dksX2_armAngleByTeeth_1 13 rfl rfl)
theorem dX2_armAngleByTeeth_38 : decode cX2_armAngleByTeeth 38 = .ok (.istore 4, 2) := dk_54 4 (dk_at dksX2_armAngleByTeeth_1 16 rfl rfl)
theorem dX2_armAngleByTeeth_40 : decode cX2_armAngleByTeeth 40 = .ok (.iload 4, 2) := dk_21 4 (dk_at dksX2_armAngleByTeeth_1 18 rfl rfl)
theorem dX2_armAngleByTeeth_42 : decode cX2_armAngleByTeeth 42 = .ok (.bipush 60, 2) := dk_16 60 (dk_at dksX2_armAngleByTeeth_1 20 rfl rfl)
theorem dX2_armAngleByTeeth_44 : decode cX2_armAngleByTeeth 44 = .ok (.aload_n 3, 1) := dk_45 (dk_at dksX2_armAngleByTeeth_1 22 rfl rfl)
theorem dX2_armAngleByTeeth_45 : decode cX2_armAngleByTeeth 45 = .ok (.getfield 115, 3) := dk_180 0 115 (dk_at dksX2_armAngleByTeeth_2 0 rfl rfl)
theorem dX2_armAngleByTeeth_48 : decode cX2_armAngleByTeeth 48 = .ok (.imul, 1) := dk_104 (dk_at dksX2_armAngleByTeeth_2 3 rfl rfl)
theorem dX2_armAngleByTeeth_49 : decode cX2_armAngleByTeeth 49 = .ok (.iadd, 1) := dk_96 (dk_at dksX2_armAngleByTeeth_2 4 rfl rfl)
theorem dX2_armAngleByTeeth_50 : decode cX2_armAngleByTeeth 50 = .ok (.i2l, 1) := dk_133 (dk_at dksX2_armAngleByTeeth_2 5 rfl rfl)
theorem dX2_armAngleByTeeth_51 : decode cX2_armAngleByTeeth 51 = .ok (.invokestatic 118, 3) := dk_184 0 118 (dk_at dksX2_armAngleByTeeth_2 6 rfl rfl)
theorem dX2_armAngleByTeeth_54 : decode cX2_armAngleByTeeth 54 = .ok (.ireturn, 1) := dk_172 (dk_at dksX2_armAngleByTeeth_2 9 rfl rfl)
abbrev cX2_moonAngleOf : ByteArray := prog_8_method_13_code
def yX2_moonAngleOf : MethodName := ⟨RX2, "moonAngleOf", "(ILClockworkOrreries$Drive;)I"⟩
def dkwX2_moonAngleOf_3 : List UInt8 := [133, 44, 180, 0, 103, 21, 4, 47, 44, 180, 0, 108, 21, 4, 47, 184, 0, 111, 100, 133, 184, 0, 118, 172]
abbrev dktX2_moonAngleOf_3 : List UInt8 := dkwX2_moonAngleOf_3 ++ []
def dkwX2_moonAngleOf_2 : List UInt8 := [133, 44, 180, 0, 103, 29, 47, 44, 180, 0, 108, 29, 47, 184, 0, 111, 54, 5, 21, 5, 42, 180, 0, 61]
abbrev dktX2_moonAngleOf_2 : List UInt8 := dkwX2_moonAngleOf_2 ++ dktX2_moonAngleOf_3
def dkwX2_moonAngleOf_1 : List UInt8 := [182, 0, 44, 192, 0, 56, 180, 0, 129, 182, 0, 44, 192, 0, 54, 180, 0, 107, 54, 4, 42, 180, 0, 61]
abbrev dktX2_moonAngleOf_1 : List UInt8 := dkwX2_moonAngleOf_1 ++ dktX2_moonAngleOf_2
def dkwX2_moonAngleOf_0 : List UInt8 := [42, 180, 0, 21, 27, 182, 0, 44, 192, 0, 56, 180, 0, 128, 62, 42, 180, 0, 18, 42, 180, 0, 21, 27]
abbrev dktX2_moonAngleOf_0 : List UInt8 := dkwX2_moonAngleOf_0 ++ dktX2_moonAngleOf_1
theorem dksX2_moonAngleOf_0 : cX2_moonAngleOf.data.toList.drop 0 = dktX2_moonAngleOf_0 := by decide +kernel
theorem dksX2_moonAngleOf_1 : cX2_moonAngleOf.data.toList.drop 24 = dktX2_moonAngleOf_1 := dk_seg dksX2_moonAngleOf_0 24 rfl rfl
theorem dksX2_moonAngleOf_2 : cX2_moonAngleOf.data.toList.drop 48 = dktX2_moonAngleOf_2 := dk_seg dksX2_moonAngleOf_1 24 rfl rfl
theorem dksX2_moonAngleOf_3 : cX2_moonAngleOf.data.toList.drop 72 = dktX2_moonAngleOf_3 := dk_seg dksX2_moonAngleOf_2 24 rfl rfl
theorem dX2_moonAngleOf_0 : decode cX2_moonAngleOf 0 = .ok (.aload_n 0, 1) := dk_42 (dk_at dksX2_moonAngleOf_0 0 rfl rfl)
theorem dX2_moonAngleOf_1 : decode cX2_moonAngleOf 1 = .ok (.getfield 21, 3) := dk_180 0 21 (dk_at dksX2_moonAngleOf_0 1 rfl rfl)
theorem dX2_moonAngleOf_4 : decode cX2_moonAngleOf 4 = .ok (.iload_n 1, 1) := dk_27 (dk_at dksX2_moonAngleOf_0 4 rfl rfl)
theorem dX2_moonAngleOf_5 : decode cX2_moonAngleOf 5 = .ok (.invokevirtual 44, 3) := dk_182 0 44 (dk_at dksX2_moonAngleOf_0 5 rfl rfl)
theorem dX2_moonAngleOf_8 : decode cX2_moonAngleOf 8 = .ok (.checkcast 56, 3) := dk_192 0 56 (dk_at dksX2_moonAngleOf_0 8 rfl rfl)
theorem dX2_moonAngleOf_11 : decode cX2_moonAngleOf 11 = .ok (.getfield 128, 3) := dk_180 0 128 (dk_at dksX2_moonAngleOf_0 11 rfl rfl)
theorem dX2_moonAngleOf_14 : decode cX2_moonAngleOf 14 = .ok (.istore_n 3, 1) := dk_62 (dk_at dksX2_moonAngleOf_0 14 rfl rfl)
theorem dX2_moonAngleOf_15 : decode cX2_moonAngleOf 15 = .ok (.aload_n 0, 1) := dk_42 (dk_at dksX2_moonAngleOf_0 15 rfl rfl)
theorem dX2_moonAngleOf_16 : decode cX2_moonAngleOf 16 = .ok (.getfield 18, 3) := dk_180 0 18 (dk_at dksX2_moonAngleOf_0 16 rfl rfl)
theorem dX2_moonAngleOf_19 : decode cX2_moonAngleOf 19 = .ok (.aload_n 0, 1) := dk_42 (dk_at dksX2_moonAngleOf_0 19 rfl rfl)
theorem dX2_moonAngleOf_20 : decode cX2_moonAngleOf 20 = .ok (.getfield 21, 3) := dk_180 0 21 (dk_at dksX2_moonAngleOf_0 20 rfl rfl)
theorem dX2_moonAngleOf_23 : decode cX2_moonAngleOf 23 = .ok (.iload_n 1, 1) := dk_27 (dk_at dksX2_moonAngleOf_0 23 rfl rfl)
theorem dX2_moonAngleOf_24 : decode cX2_moonAngleOf 24 = .ok (.invokevirtual 44, 3) := dk_182 0 44 (dk_at dksX2_moonAngleOf_1 0 rfl rfl)
theorem dX2_moonAngleOf_27 : decode cX2_moonAngleOf 27 = .ok (.checkcast 56, 3) := dk_192 0 56 (dk_at dksX2_moonAngleOf_1 3 rfl rfl)
theorem dX2_moonAngleOf_30 : decode cX2_moonAngleOf 30 = .ok (.getfield 129, 3) := dk_180 0 129 (dk_at dksX2_moonAngleOf_1 6 rfl rfl)
theorem dX2_moonAngleOf_33 : decode cX2_moonAngleOf 33 = .ok (.invokevirtual 44, 3) := dk_182 0 44 (dk_at dksX2_moonAngleOf_1 9 rfl rfl)
theorem dX2_moonAngleOf_36 : decode cX2_moonAngleOf 36 = .ok (.checkcast 54, 3) := dk_192 0 54 (dk_at dksX2_moonAngleOf_1 12 rfl rfl)
theorem dX2_moonAngleOf_39 : decode cX2_moonAngleOf 39 = .ok (.getfield 107, 3) := dk_180 0 107 (dk_at dksX2_moonAngleOf_1 15 rfl rfl)
theorem dX2_moonAngleOf_42 : decode cX2_moonAngleOf 42 = .ok (.istore 4, 2) := dk_54 4 (dk_at dksX2_moonAngleOf_1 18 rfl rfl)
theorem dX2_moonAngleOf_44 : decode cX2_moonAngleOf 44 = .ok (.aload_n 0, 1) := dk_42 (dk_at dksX2_moonAngleOf_1 20 rfl rfl)
theorem dX2_moonAngleOf_45 : decode cX2_moonAngleOf 45 = .ok (.getfield 61, 3) := dk_180 0 61 (dk_at dksX2_moonAngleOf_1 21 rfl rfl)
theorem dX2_moonAngleOf_48 : decode cX2_moonAngleOf 48 = .ok (.i2l, 1) := dk_133 (dk_at dksX2_moonAngleOf_2 0 rfl rfl)
theorem dX2_moonAngleOf_49 : decode cX2_moonAngleOf 49 = .ok (.aload_n 2, 1) := dk_44 (dk_at dksX2_moonAngleOf_2 1 rfl rfl)
theorem dX2_moonAngleOf_50 : decode cX2_moonAngleOf 50 = .ok (.getfield 103, 3) := dk_180 0 103 (dk_at dksX2_moonAngleOf_2 2 rfl rfl)
theorem dX2_moonAngleOf_53 : decode cX2_moonAngleOf 53 = .ok (.iload_n 3, 1) := dk_29 (dk_at dksX2_moonAngleOf_2 5 rfl rfl)
theorem dX2_moonAngleOf_54 : decode cX2_moonAngleOf 54 = .ok (.laload, 1) := dk_47 (dk_at dksX2_moonAngleOf_2 6 rfl rfl)
theorem dX2_moonAngleOf_55 : decode cX2_moonAngleOf 55 = .ok (.aload_n 2, 1) := dk_44 (dk_at dksX2_moonAngleOf_2 7 rfl rfl)
theorem dX2_moonAngleOf_56 : decode cX2_moonAngleOf 56 = .ok (.getfield 108, 3) := dk_180 0 108 (dk_at dksX2_moonAngleOf_2 8 rfl rfl)
theorem dX2_moonAngleOf_59 : decode cX2_moonAngleOf 59 = .ok (.iload_n 3, 1) := dk_29 (dk_at dksX2_moonAngleOf_2 11 rfl rfl)
theorem dX2_moonAngleOf_60 : decode cX2_moonAngleOf 60 = .ok (.laload, 1) := dk_47 (dk_at dksX2_moonAngleOf_2 12 rfl rfl)
theorem dX2_moonAngleOf_61 : decode cX2_moonAngleOf 61 = .ok (.invokestatic 111, 3) := dk_184 0 111 (dk_at dksX2_moonAngleOf_2 13 rfl rfl)
theorem dX2_moonAngleOf_64 : decode cX2_moonAngleOf 64 = .ok (.istore 5, 2) := dk_54 5 (dk_at dksX2_moonAngleOf_2 16 rfl rfl)
theorem dX2_moonAngleOf_66 : decode cX2_moonAngleOf 66 = .ok (.iload 5, 2) := dk_21 5 (dk_at dksX2_moonAngleOf_2 18 rfl rfl)
theorem dX2_moonAngleOf_68 : decode cX2_moonAngleOf 68 = .ok (.aload_n 0, 1) := dk_42 (dk_at dksX2_moonAngleOf_2 20 rfl rfl)
theorem dX2_moonAngleOf_69 : decode cX2_moonAngleOf 69 = .ok (.getfield 61, 3) := dk_180 0 61 (dk_at dksX2_moonAngleOf_2 21 rfl rfl)
theorem dX2_moonAngleOf_72 : decode cX2_moonAngleOf 72 = .ok (.i2l, 1) := dk_133 (dk_at dksX2_moonAngleOf_3 0 rfl rfl)
theorem dX2_moonAngleOf_73 : decode cX2_moonAngleOf 73 = .ok (.aload_n 2, 1) := dk_44 (dk_at dksX2_moonAngleOf_3 1 rfl rfl)
theorem dX2_moonAngleOf_74 : decode cX2_moonAngleOf 74 = .ok (.getfield 103, 3) := dk_180 0 103 (dk_at dksX2_moonAngleOf_3 2 rfl rfl)
theorem dX2_moonAngleOf_77 : decode cX2_moonAngleOf 77 = .ok (.iload 4, 2) := dk_21 4 (dk_at dksX2_moonAngleOf_3 5 rfl rfl)
theorem dX2_moonAngleOf_79 : decode cX2_moonAngleOf 79 = .ok (.laload, 1) := dk_47 (dk_at dksX2_moonAngleOf_3 7 rfl rfl)
theorem dX2_moonAngleOf_80 : decode cX2_moonAngleOf 80 = .ok (.aload_n 2, 1) := dk_44 (dk_at dksX2_moonAngleOf_3 8 rfl rfl)
theorem dX2_moonAngleOf_81 : decode cX2_moonAngleOf 81 = .ok (.getfield 108, 3) := dk_180 0 108 (dk_at dksX2_moonAngleOf_3 9 rfl rfl)
theorem dX2_moonAngleOf_84 : decode cX2_moonAngleOf 84 = .ok (.iload 4, 2) := dk_21 4 (dk_at dksX2_moonAngleOf_3 12 rfl rfl)
theorem dX2_moonAngleOf_86 : decode cX2_moonAngleOf 86 = .ok (.laload, 1) := dk_47 (dk_at dksX2_moonAngleOf_3 14 rfl rfl)
theorem dX2_moonAngleOf_87 : decode cX2_moonAngleOf 87 = .ok (.invokestatic 111, 3) := dk_184 0 111 (dk_at dksX2_moonAngleOf_3 15 rfl rfl)
theorem dX2_moonAngleOf_90 : decode cX2_moonAngleOf 90 = .ok (.isub, 1) := dk_100 (dk_at dksX2_moonAngleOf_3 18 rfl rfl)
theorem dX2_moonAngleOf_91 : decode cX2_moonAngleOf 91 = .ok (.i2l, 1) := dk_133 (dk_at dksX2_moonAngleOf_3 19 rfl rfl)
theorem dX2_moonAngleOf_92 : decode cX2_moonAngleOf 92 = .ok (.invokestatic 118, 3) := dk_184 0 118 (dk_at dksX2_moonAngleOf_3 20 rfl rfl)
theorem dX2_moonAngleOf_95 : decode cX2_moonAngleOf 95 = .ok (.ireturn, 1) := dk_172 (dk_at dksX2_moonAngleOf_3 23 rfl rfl)
abbrev cX2_isSlower : ByteArray := prog_8_method_14_code
def yX2_isSlower : MethodName := ⟨RX2, "isSlower", "(ILClockworkOrreries$Drive;)Z"⟩
def dkwX2_isSlower_3 : List UInt8 := [180, 0, 108, 29, 47, 105, 148, 156, 0, 7, 4, 167, 0, 4, 3, 172]
abbrev dktX2_isSlower_3 : List UInt8 := dkwX2_isSlower_3 ++ []
def dkwX2_isSlower_2 : List UInt8 := [29, 47, 184, 0, 132, 44, 180, 0, 108, 21, 4, 47, 105, 44, 180, 0, 103, 21, 4, 47, 184, 0, 132, 44]
abbrev dktX2_isSlower_2 : List UInt8 := dkwX2_isSlower_2 ++ dktX2_isSlower_3
def dkwX2_isSlower_1 : List UInt8 := [182, 0, 44, 192, 0, 56, 180, 0, 129, 182, 0, 44, 192, 0, 54, 180, 0, 107, 54, 4, 44, 180, 0, 103]
abbrev dktX2_isSlower_1 : List UInt8 := dkwX2_isSlower_1 ++ dktX2_isSlower_2
def dkwX2_isSlower_0 : List UInt8 := [42, 180, 0, 21, 27, 182, 0, 44, 192, 0, 56, 180, 0, 128, 62, 42, 180, 0, 18, 42, 180, 0, 21, 27]
abbrev dktX2_isSlower_0 : List UInt8 := dkwX2_isSlower_0 ++ dktX2_isSlower_1
theorem dksX2_isSlower_0 : cX2_isSlower.data.toList.drop 0 = dktX2_isSlower_0 := by decide +kernel
theorem dksX2_isSlower_1 : cX2_isSlower.data.toList.drop 24 = dktX2_isSlower_1 := dk_seg dksX2_isSlower_0 24 rfl rfl
theorem dksX2_isSlower_2 : cX2_isSlower.data.toList.drop 48 = dktX2_isSlower_2 := dk_seg dksX2_isSlower_1 24 rfl rfl
theorem dksX2_isSlower_3 : cX2_isSlower.data.toList.drop 72 = dktX2_isSlower_3 := dk_seg dksX2_isSlower_2 24 rfl rfl
theorem dX2_isSlower_0 : decode cX2_isSlower 0 = .ok (.aload_n 0, 1) := dk_42 (dk_at dksX2_isSlower_0 0 rfl rfl)
theorem dX2_isSlower_1 : decode cX2_isSlower 1 = .ok (.getfield 21, 3) := dk_180 0 21 (dk_at dksX2_isSlower_0 1 rfl rfl)
theorem dX2_isSlower_4 : decode cX2_isSlower 4 = .ok (.iload_n 1, 1) := dk_27 (dk_at dksX2_isSlower_0 4 rfl rfl)
theorem dX2_isSlower_5 : decode cX2_isSlower 5 = .ok (.invokevirtual 44, 3) := dk_182 0 44 (dk_at dksX2_isSlower_0 5 rfl rfl)
theorem dX2_isSlower_8 : decode cX2_isSlower 8 = .ok (.checkcast 56, 3) := dk_192 0 56 (dk_at dksX2_isSlower_0 8 rfl rfl)
theorem dX2_isSlower_11 : decode cX2_isSlower 11 = .ok (.getfield 128, 3) := dk_180 0 128 (dk_at dksX2_isSlower_0 11 rfl rfl)
theorem dX2_isSlower_14 : decode cX2_isSlower 14 = .ok (.istore_n 3, 1) := dk_62 (dk_at dksX2_isSlower_0 14 rfl rfl)
theorem dX2_isSlower_15 : decode cX2_isSlower 15 = .ok (.aload_n 0, 1) := dk_42 (dk_at dksX2_isSlower_0 15 rfl rfl)
theorem dX2_isSlower_16 : decode cX2_isSlower 16 = .ok (.getfield 18, 3) := dk_180 0 18 (dk_at dksX2_isSlower_0 16 rfl rfl)
theorem dX2_isSlower_19 : decode cX2_isSlower 19 = .ok (.aload_n 0, 1) := dk_42 (dk_at dksX2_isSlower_0 19 rfl rfl)
theorem dX2_isSlower_20 : decode cX2_isSlower 20 = .ok (.getfield 21, 3) := dk_180 0 21 (dk_at dksX2_isSlower_0 20 rfl rfl)
theorem dX2_isSlower_23 : decode cX2_isSlower 23 = .ok (.iload_n 1, 1) := dk_27 (dk_at dksX2_isSlower_0 23 rfl rfl)
theorem dX2_isSlower_24 : decode cX2_isSlower 24 = .ok (.invokevirtual 44, 3) := dk_182 0 44 (dk_at dksX2_isSlower_1 0 rfl rfl)
theorem dX2_isSlower_27 : decode cX2_isSlower 27 = .ok (.checkcast 56, 3) := dk_192 0 56 (dk_at dksX2_isSlower_1 3 rfl rfl)
theorem dX2_isSlower_30 : decode cX2_isSlower 30 = .ok (.getfield 129, 3) := dk_180 0 129 (dk_at dksX2_isSlower_1 6 rfl rfl)
theorem dX2_isSlower_33 : decode cX2_isSlower 33 = .ok (.invokevirtual 44, 3) := dk_182 0 44 (dk_at dksX2_isSlower_1 9 rfl rfl)
theorem dX2_isSlower_36 : decode cX2_isSlower 36 = .ok (.checkcast 54, 3) := dk_192 0 54 (dk_at dksX2_isSlower_1 12 rfl rfl)
theorem dX2_isSlower_39 : decode cX2_isSlower 39 = .ok (.getfield 107, 3) := dk_180 0 107 (dk_at dksX2_isSlower_1 15 rfl rfl)
theorem dX2_isSlower_42 : decode cX2_isSlower 42 = .ok (.istore 4, 2) := dk_54 4 (dk_at dksX2_isSlower_1 18 rfl rfl)
theorem dX2_isSlower_44 : decode cX2_isSlower 44 = .ok (.aload_n 2, 1) := dk_44 (dk_at dksX2_isSlower_1 20 rfl rfl)
theorem dX2_isSlower_45 : decode cX2_isSlower 45 = .ok (.getfield 103, 3) := dk_180 0 103 (dk_at dksX2_isSlower_1 21 rfl rfl)
theorem dX2_isSlower_48 : decode cX2_isSlower 48 = .ok (.iload_n 3, 1) := dk_29 (dk_at dksX2_isSlower_2 0 rfl rfl)
theorem dX2_isSlower_49 : decode cX2_isSlower 49 = .ok (.laload, 1) := dk_47 (dk_at dksX2_isSlower_2 1 rfl rfl)
theorem dX2_isSlower_50 : decode cX2_isSlower 50 = .ok (.invokestatic 132, 3) := dk_184 0 132 (dk_at dksX2_isSlower_2 2 rfl rfl)
theorem dX2_isSlower_53 : decode cX2_isSlower 53 = .ok (.aload_n 2, 1) := dk_44 (dk_at dksX2_isSlower_2 5 rfl rfl)
theorem dX2_isSlower_54 : decode cX2_isSlower 54 = .ok (.getfield 108, 3) := dk_180 0 108 (dk_at dksX2_isSlower_2 6 rfl rfl)
theorem dX2_isSlower_57 : decode cX2_isSlower 57 = .ok (.iload 4, 2) := dk_21 4 (dk_at dksX2_isSlower_2 9 rfl rfl)
theorem dX2_isSlower_59 : decode cX2_isSlower 59 = .ok (.laload, 1) := dk_47 (dk_at dksX2_isSlower_2 11 rfl rfl)
theorem dX2_isSlower_60 : decode cX2_isSlower 60 = .ok (.lmul, 1) := dk_105 (dk_at dksX2_isSlower_2 12 rfl rfl)
theorem dX2_isSlower_61 : decode cX2_isSlower 61 = .ok (.aload_n 2, 1) := dk_44 (dk_at dksX2_isSlower_2 13 rfl rfl)
theorem dX2_isSlower_62 : decode cX2_isSlower 62 = .ok (.getfield 103, 3) := dk_180 0 103 (dk_at dksX2_isSlower_2 14 rfl rfl)
theorem dX2_isSlower_65 : decode cX2_isSlower 65 = .ok (.iload 4, 2) := dk_21 4 (dk_at dksX2_isSlower_2 17 rfl rfl)
theorem dX2_isSlower_67 : decode cX2_isSlower 67 = .ok (.laload, 1) := dk_47 (dk_at dksX2_isSlower_2 19 rfl rfl)
theorem dX2_isSlower_68 : decode cX2_isSlower 68 = .ok (.invokestatic 132, 3) := dk_184 0 132 (dk_at dksX2_isSlower_2 20 rfl rfl)
theorem dX2_isSlower_71 : decode cX2_isSlower 71 = .ok (.aload_n 2, 1) := dk_44 (dk_at dksX2_isSlower_2 23 rfl rfl)
theorem dX2_isSlower_72 : decode cX2_isSlower 72 = .ok (.getfield 108, 3) := dk_180 0 108 (dk_at dksX2_isSlower_3 0 rfl rfl)
theorem dX2_isSlower_75 : decode cX2_isSlower 75 = .ok (.iload_n 3, 1) := dk_29 (dk_at dksX2_isSlower_3 3 rfl rfl)
theorem dX2_isSlower_76 : decode cX2_isSlower 76 = .ok (.laload, 1) := dk_47 (dk_at dksX2_isSlower_3 4 rfl rfl)
theorem dX2_isSlower_77 : decode cX2_isSlower 77 = .ok (.lmul, 1) := dk_105 (dk_at dksX2_isSlower_3 5 rfl rfl)
theorem dX2_isSlower_78 : decode cX2_isSlower 78 = .ok (.lcmp, 1) := dk_148 (dk_at dksX2_isSlower_3 6 rfl rfl)
theorem dX2_isSlower_79 : decode cX2_isSlower 79 = .ok (.ifCond .ge 7, 3) := dk_156 0 7 (dk_at dksX2_isSlower_3 7 rfl rfl)
theorem dX2_isSlower_82 : decode cX2_isSlower 82 = .ok (.iconst 1, 1) := dk_4 (dk_at dksX2_isSlower_3 10 rfl rfl)
theorem dX2_isSlower_83 : decode cX2_isSlower 83 = .ok (.goto 4, 3) := dk_167 0 4 (dk_at dksX2_isSlower_3 11 rfl rfl)
theorem dX2_isSlower_86 : decode cX2_isSlower 86 = .ok (.iconst 0, 1) := dk_3 (dk_at dksX2_isSlower_3 14 rfl rfl)
theorem dX2_isSlower_87 : decode cX2_isSlower 87 = .ok (.ireturn, 1) := dk_172 (dk_at dksX2_isSlower_3 15 rfl rfl)
abbrev cX2_doMeet : ByteArray := prog_8_method_15_code
def yX2_doMeet : MethodName := ⟨RX2, "doMeet", "(IIILClockworkOrreries$Drive;I)Z"⟩
def dkwX2_doMeet_1 : List UInt8 := [96, 182, 0, 138, 184, 0, 142, 29, 163, 0, 7, 4, 167, 0, 4, 3, 172]
abbrev dktX2_doMeet_1 : List UInt8 := dkwX2_doMeet_1 ++ []
def dkwX2_doMeet_0 : List UInt8 := [42, 27, 25, 4, 42, 180, 0, 61, 21, 5, 96, 182, 0, 138, 42, 28, 25, 4, 42, 180, 0, 61, 21, 5]
abbrev dktX2_doMeet_0 : List UInt8 := dkwX2_doMeet_0 ++ dktX2_doMeet_1
theorem dksX2_doMeet_0 : cX2_doMeet.data.toList.drop 0 = dktX2_doMeet_0 := by decide +kernel
theorem dksX2_doMeet_1 : cX2_doMeet.data.toList.drop 24 = dktX2_doMeet_1 := dk_seg dksX2_doMeet_0 24 rfl rfl
theorem dX2_doMeet_0 : decode cX2_doMeet 0 = .ok (.aload_n 0, 1) := dk_42 (dk_at dksX2_doMeet_0 0 rfl rfl)
theorem dX2_doMeet_1 : decode cX2_doMeet 1 = .ok (.iload_n 1, 1) := dk_27 (dk_at dksX2_doMeet_0 1 rfl rfl)
theorem dX2_doMeet_2 : decode cX2_doMeet 2 = .ok (.aload 4, 2) := dk_25 4 (dk_at dksX2_doMeet_0 2 rfl rfl)
theorem dX2_doMeet_4 : decode cX2_doMeet 4 = .ok (.aload_n 0, 1) := dk_42 (dk_at dksX2_doMeet_0 4 rfl rfl)
theorem dX2_doMeet_5 : decode cX2_doMeet 5 = .ok (.getfield 61, 3) := dk_180 0 61 (dk_at dksX2_doMeet_0 5 rfl rfl)
theorem dX2_doMeet_8 : decode cX2_doMeet 8 = .ok (.iload 5, 2) := dk_21 5 (dk_at dksX2_doMeet_0 8 rfl rfl)
theorem dX2_doMeet_10 : decode cX2_doMeet 10 = .ok (.iadd, 1) := dk_96 (dk_at dksX2_doMeet_0 10 rfl rfl)
theorem dX2_doMeet_11 : decode cX2_doMeet 11 = .ok (.invokevirtual 138, 3) := dk_182 0 138 (dk_at dksX2_doMeet_0 11 rfl rfl)
theorem dX2_doMeet_14 : decode cX2_doMeet 14 = .ok (.aload_n 0, 1) := dk_42 (dk_at dksX2_doMeet_0 14 rfl rfl)
theorem dX2_doMeet_15 : decode cX2_doMeet 15 = .ok (.iload_n 2, 1) := dk_28 (dk_at dksX2_doMeet_0 15 rfl rfl)
theorem dX2_doMeet_16 : decode cX2_doMeet 16 = .ok (.aload 4, 2) := dk_25 4 (dk_at dksX2_doMeet_0 16 rfl rfl)
theorem dX2_doMeet_18 : decode cX2_doMeet 18 = .ok (.aload_n 0, 1) := dk_42 (dk_at dksX2_doMeet_0 18 rfl rfl)
theorem dX2_doMeet_19 : decode cX2_doMeet 19 = .ok (.getfield 61, 3) := dk_180 0 61 (dk_at dksX2_doMeet_0 19 rfl rfl)
theorem dX2_doMeet_22 : decode cX2_doMeet 22 = .ok (.iload 5, 2) := dk_21 5 (dk_at dksX2_doMeet_0 22 rfl rfl)
theorem dX2_doMeet_24 : decode cX2_doMeet 24 = .ok (.iadd, 1) := dk_96 (dk_at dksX2_doMeet_1 0 rfl rfl)
theorem dX2_doMeet_25 : decode cX2_doMeet 25 = .ok (.invokevirtual 138, 3) := dk_182 0 138 (dk_at dksX2_doMeet_1 1 rfl rfl)
theorem dX2_doMeet_28 : decode cX2_doMeet 28 = .ok (.invokestatic 142, 3) := dk_184 0 142 (dk_at dksX2_doMeet_1 4 rfl rfl)
theorem dX2_doMeet_31 : decode cX2_doMeet 31 = .ok (.iload_n 3, 1) := dk_29 (dk_at dksX2_doMeet_1 7 rfl rfl)
theorem dX2_doMeet_32 : decode cX2_doMeet 32 = .ok (.if_icmp .gt 7, 3) := dk_163 0 7 (dk_at dksX2_doMeet_1 8 rfl rfl)
theorem dX2_doMeet_35 : decode cX2_doMeet 35 = .ok (.iconst 1, 1) := dk_4 (dk_at dksX2_doMeet_1 11 rfl rfl)
theorem dX2_doMeet_36 : decode cX2_doMeet 36 = .ok (.goto 4, 3) := dk_167 0 4 (dk_at dksX2_doMeet_1 12 rfl rfl)
theorem dX2_doMeet_39 : decode cX2_doMeet 39 = .ok (.iconst 0, 1) := dk_3 (dk_at dksX2_doMeet_1 15 rfl rfl)
theorem dX2_doMeet_40 : decode cX2_doMeet 40 = .ok (.ireturn, 1) := dk_172 (dk_at dksX2_doMeet_1 16 rfl rfl)
theorem q76 : (Jvm.Cond.initialized "ClockworkOrreries$Works") ∈ lw_all := lw_g (lw_at lw_m1 2 rfl) rfl
theorem q119 : (Jvm.Cond.instantiable "ClockworkOrreries$Works" (9 : Nat)) ∈ lw_all := lw_g (lw_at lw_m1 45 rfl) rfl
theorem q121 : (Jvm.Cond.instanceMethod ({ cls := "ClockworkOrreries$Works", name := "<init>", desc := "()V" } : Jvm.MethodName)) ∈ lw_all := lw_g (lw_at lw_m1 47 rfl) rfl
theorem q122 : (Jvm.Cond.code ({ cls := "ClockworkOrreries$Works", name := "<init>", desc := "()V" } : Jvm.MethodName) prog_8_method_1_code (1 : Nat) (Option.none : Option Jvm.ClassFile.FieldType)) ∈ lw_all := lw_g (lw_at lw_m1 48 rfl) rfl
theorem q123 : (Jvm.Cond.methodLink "ClockworkOrreries$Works" (3 : Nat) ({ cls := "java/lang/Object", name := "<init>", desc := "()V" } : Jvm.MethodName)) ∈ lw_all := lw_g (lw_at lw_m1 49 rfl) rfl
theorem q124 : (Jvm.Cond.classLink "ClockworkOrreries$Works" (9 : Nat) "java/util/ArrayList") ∈ lw_all := lw_g (lw_at lw_m1 50 rfl) rfl
theorem q126 : (Jvm.Cond.methodLink "ClockworkOrreries$Works" (11 : Nat) ({ cls := "java/util/ArrayList", name := "<init>", desc := "()V" } : Jvm.MethodName)) ∈ lw_all := lw_g (lw_at lw_m1 52 rfl) rfl
theorem q150 : (Jvm.Cond.fieldLink "ClockworkOrreries$Works" (12 : Nat) "ClockworkOrreries$Works" "wheels" "Ljava/util/ArrayList;") ∈ lw_all := lw_g (lw_at lw_m1 76 rfl) rfl
theorem q153 : (Jvm.Cond.fieldLink "ClockworkOrreries$Works" (18 : Nat) "ClockworkOrreries$Works" "arms" "Ljava/util/ArrayList;") ∈ lw_all := lw_g (lw_at lw_m1 79 rfl) rfl
theorem q155 : (Jvm.Cond.fieldLink "ClockworkOrreries$Works" (21 : Nat) "ClockworkOrreries$Works" "moons" "Ljava/util/ArrayList;") ∈ lw_all := lw_g (lw_at lw_m1 81 rfl) rfl
theorem q157 : (Jvm.Cond.fieldLink "ClockworkOrreries$Works" (28 : Nat) "ClockworkOrreries$Works" "first" "[I") ∈ lw_all := lw_g (lw_at lw_m1 83 rfl) rfl
theorem q160 : (Jvm.Cond.fieldLink "ClockworkOrreries$Works" (32 : Nat) "ClockworkOrreries$Works" "second" "[I") ∈ lw_all := lw_g (lw_at lw_m1 86 rfl) rfl
theorem q163 : (Jvm.Cond.fieldLink "ClockworkOrreries$Works" (24 : Nat) "ClockworkOrreries$Works" "axles" "I") ∈ lw_all := lw_g (lw_at lw_m1 89 rfl) rfl
theorem q166 : (Jvm.Cond.fieldLink "ClockworkOrreries$Works" (58 : Nat) "ClockworkOrreries$Works" "meshes" "I") ∈ lw_all := lw_g (lw_at lw_m1 92 rfl) rfl
theorem q168 : (Jvm.Cond.fieldLink "ClockworkOrreries$Works" (61 : Nat) "ClockworkOrreries$Works" "now" "I") ∈ lw_all := lw_g (lw_at lw_m1 94 rfl) rfl
theorem q170 : (Jvm.Cond.fieldLink "ClockworkOrreries$Works" (64 : Nat) "ClockworkOrreries$Works" "gone" "I") ∈ lw_all := lw_g (lw_at lw_m1 96 rfl) rfl
theorem q172 : (Jvm.Cond.laysFinal "ClockworkOrreries$Works" "ClockworkOrreries$Works" "wheels" "Ljava/util/ArrayList;") ∈ lw_all := lw_g (lw_at lw_m1 98 rfl) rfl
theorem q173 : (Jvm.Cond.soleField "ClockworkOrreries$Works" "wheels") ∈ lw_all := lw_g (lw_at lw_m1 99 rfl) rfl
theorem q174 : (Jvm.Cond.laysFinal "ClockworkOrreries$Works" "ClockworkOrreries$Works" "arms" "Ljava/util/ArrayList;") ∈ lw_all := lw_g (lw_at lw_m1 100 rfl) rfl
theorem q175 : (Jvm.Cond.soleField "ClockworkOrreries$Works" "arms") ∈ lw_all := lw_g (lw_at lw_m1 101 rfl) rfl
theorem q176 : (Jvm.Cond.laysFinal "ClockworkOrreries$Works" "ClockworkOrreries$Works" "moons" "Ljava/util/ArrayList;") ∈ lw_all := lw_g (lw_at lw_m1 102 rfl) rfl
theorem q177 : (Jvm.Cond.soleField "ClockworkOrreries$Works" "moons") ∈ lw_all := lw_g (lw_at lw_m1 103 rfl) rfl
theorem q178 : (Jvm.Cond.laysFinal "ClockworkOrreries$Works" "ClockworkOrreries$Works" "first" "[I") ∈ lw_all := lw_g (lw_at lw_m1 104 rfl) rfl
theorem q179 : (Jvm.Cond.soleField "ClockworkOrreries$Works" "first") ∈ lw_all := lw_g (lw_at lw_m1 105 rfl) rfl
theorem q180 : (Jvm.Cond.laysFinal "ClockworkOrreries$Works" "ClockworkOrreries$Works" "second" "[I") ∈ lw_all := lw_g (lw_at lw_m1 106 rfl) rfl
theorem q181 : (Jvm.Cond.soleField "ClockworkOrreries$Works" "second") ∈ lw_all := lw_g (lw_at lw_m1 107 rfl) rfl
theorem q182 : (Jvm.Cond.lays "ClockworkOrreries$Works" "ClockworkOrreries$Works" "axles" "I") ∈ lw_all := lw_g (lw_at lw_m1 108 rfl) rfl
theorem q183 : (Jvm.Cond.soleField "ClockworkOrreries$Works" "axles") ∈ lw_all := lw_g (lw_at lw_m1 109 rfl) rfl
theorem q184 : (Jvm.Cond.lays "ClockworkOrreries$Works" "ClockworkOrreries$Works" "meshes" "I") ∈ lw_all := lw_g (lw_at lw_m1 110 rfl) rfl
theorem q185 : (Jvm.Cond.soleField "ClockworkOrreries$Works" "meshes") ∈ lw_all := lw_g (lw_at lw_m1 111 rfl) rfl
theorem q186 : (Jvm.Cond.lays "ClockworkOrreries$Works" "ClockworkOrreries$Works" "now" "I") ∈ lw_all := lw_g (lw_at lw_m1 112 rfl) rfl
theorem q187 : (Jvm.Cond.soleField "ClockworkOrreries$Works" "now") ∈ lw_all := lw_g (lw_at lw_m1 113 rfl) rfl
theorem q188 : (Jvm.Cond.lays "ClockworkOrreries$Works" "ClockworkOrreries$Works" "gone" "I") ∈ lw_all := lw_g (lw_at lw_m1 114 rfl) rfl
theorem q189 : (Jvm.Cond.soleField "ClockworkOrreries$Works" "gone") ∈ lw_all := lw_g (lw_at lw_m1 115 rfl) rfl
theorem q190 : (Jvm.Cond.superclass "ClockworkOrreries$Works" "java/lang/Object") ∈ lw_all := lw_g (lw_at lw_m1 116 rfl) rfl
theorem q337 : (Jvm.Cond.instanceMethod ({ cls := "ClockworkOrreries$Works", name := "drive", desc := "()LClockworkOrreries$Drive;" } : Jvm.MethodName)) ∈ lw_all := lw_g (lw_at lw_m2 23 rfl) rfl
theorem q338 : (Jvm.Cond.selects "ClockworkOrreries$Works" ({ cls := "ClockworkOrreries$Works", name := "drive", desc := "()LClockworkOrreries$Drive;" } : Jvm.MethodName) ({ cls := "ClockworkOrreries$Works", name := "drive", desc := "()LClockworkOrreries$Drive;" } : Jvm.MethodName)) ∈ lw_all := lw_g (lw_at lw_m2 24 rfl) rfl
theorem q339 : (Jvm.Cond.code ({ cls := "ClockworkOrreries$Works", name := "drive", desc := "()LClockworkOrreries$Drive;" } : Jvm.MethodName) prog_8_method_7_code (1 : Nat) (Option.some (Jvm.ClassFile.FieldType.object "ClockworkOrreries$Drive"))) ∈ lw_all := lw_g (lw_at lw_m2 25 rfl) rfl
theorem q340 : (Jvm.Cond.classLink "ClockworkOrreries$Works" (75 : Nat) "ClockworkOrreries$Drive") ∈ lw_all := lw_g (lw_at lw_m2 26 rfl) rfl
theorem q342 : (Jvm.Cond.methodLink "ClockworkOrreries$Works" (77 : Nat) ({ cls := "ClockworkOrreries$Drive", name := "<init>", desc := "(LClockworkOrreries$Works;)V" } : Jvm.MethodName)) ∈ lw_all := lw_g (lw_at lw_m2 28 rfl) rfl
theorem q376 : (Jvm.Cond.fieldLinkNest "ClockworkOrreries$Works" (103 : Nat) "ClockworkOrreries$Drive" "above" "[J" "ClockworkOrreries") ∈ lw_tbl := lw_at lw_m2 62 rfl
theorem q379 : (Jvm.Cond.fieldLinkNest "ClockworkOrreries$Works" (108 : Nat) "ClockworkOrreries$Drive" "below" "[J" "ClockworkOrreries") ∈ lw_tbl := lw_at lw_m2 65 rfl
theorem q382 : (Jvm.Cond.fieldLinkNest "ClockworkOrreries$Works" (122 : Nat) "ClockworkOrreries$Drive" "wholeAbove" "[J" "ClockworkOrreries") ∈ lw_tbl := lw_at lw_m2 68 rfl
theorem q384 : (Jvm.Cond.fieldLinkNest "ClockworkOrreries$Works" (125 : Nat) "ClockworkOrreries$Drive" "wholeBelow" "[J" "ClockworkOrreries") ∈ lw_tbl := lw_at lw_m2 70 rfl
theorem q389 : (Jvm.Cond.fieldLinkNest "ClockworkOrreries$Works" (165 : Nat) "ClockworkOrreries$Drive" "many" "I" "ClockworkOrreries") ∈ lw_tbl := lw_at lw_m2 75 rfl
theorem q392 : (Jvm.Cond.fieldLinkNest "ClockworkOrreries$Works" (100 : Nat) "ClockworkOrreries$Drive" "isBound" "Z" "ClockworkOrreries") ∈ lw_tbl := lw_at lw_m2 78 rfl
theorem q394 : (Jvm.Cond.fieldLinkNest "ClockworkOrreries$Works" (96 : Nat) "ClockworkOrreries$Drive" "isFar" "Z" "ClockworkOrreries") ∈ lw_tbl := lw_at lw_m2 80 rfl
theorem q750 : (Jvm.Cond.instanceMethod ({ cls := "ClockworkOrreries$Works", name := "<init>", desc := "(LClockworkOrreries$Works;)V" } : Jvm.MethodName)) ∈ lw_all := lw_g (lw_at lw_m3 196 rfl) rfl
theorem q751 : (Jvm.Cond.code ({ cls := "ClockworkOrreries$Works", name := "<init>", desc := "(LClockworkOrreries$Works;)V" } : Jvm.MethodName) prog_8_method_2_code (3 : Nat) (Option.none : Option Jvm.ClassFile.FieldType)) ∈ lw_all := lw_g (lw_at lw_m3 197 rfl) rfl
theorem q752 : (Jvm.Cond.methodLink "ClockworkOrreries$Works" (35 : Nat) ({ cls := "[I", name := "clone", desc := "()Ljava/lang/Object;" } : Jvm.MethodName)) ∈ lw_all := lw_g (lw_at lw_m3 198 rfl) rfl
theorem q756 : (Jvm.Cond.classLink "ClockworkOrreries$Works" (36 : Nat) "[I") ∈ lw_all := lw_g (lw_at lw_m3 202 rfl) rfl
theorem q757 : (Jvm.Cond.methodLink "ClockworkOrreries$Works" (40 : Nat) ({ cls := "java/util/ArrayList", name := "size", desc := "()I" } : Jvm.MethodName)) ∈ lw_all := lw_g (lw_at lw_m3 203 rfl) rfl
theorem q758 : (Jvm.Cond.methodLink "ClockworkOrreries$Works" (44 : Nat) ({ cls := "java/util/ArrayList", name := "get", desc := "(I)Ljava/lang/Object;" } : Jvm.MethodName)) ∈ lw_all := lw_g (lw_at lw_m3 204 rfl) rfl
theorem q759 : (Jvm.Cond.classLink "ClockworkOrreries$Works" (48 : Nat) "ClockworkOrreries$Wheel") ∈ lw_all := lw_g (lw_at lw_m3 205 rfl) rfl
theorem q760 : (Jvm.Cond.methodLink "ClockworkOrreries$Works" (50 : Nat) ({ cls := "java/util/ArrayList", name := "add", desc := "(Ljava/lang/Object;)Z" } : Jvm.MethodName)) ∈ lw_all := lw_g (lw_at lw_m3 206 rfl) rfl
theorem q790 : (Jvm.Cond.selects "ClockworkOrreries$Works" ({ cls := "java/lang/Object", name := "getClass", desc := "()Ljava/lang/Class;" } : Jvm.MethodName) ({ cls := "java/lang/Object", name := "getClass", desc := "()Ljava/lang/Class;" } : Jvm.MethodName)) ∈ lw_all := lw_g (lw_at lw_m3 236 rfl) rfl
theorem q807 : (Jvm.Cond.classLink "ClockworkOrreries$Works" (54 : Nat) "ClockworkOrreries$Arm") ∈ lw_all := lw_g (lw_at lw_m4 13 rfl) rfl
theorem q808 : (Jvm.Cond.classLink "ClockworkOrreries$Works" (56 : Nat) "ClockworkOrreries$Moon") ∈ lw_all := lw_g (lw_at lw_m4 14 rfl) rfl
theorem q813 : (Jvm.Cond.instanceMethod ({ cls := "ClockworkOrreries$Works", name := "getsAxle", desc := "()I" } : Jvm.MethodName)) ∈ lw_all := lw_g (lw_at lw_m4 19 rfl) rfl
theorem q814 : (Jvm.Cond.selects "ClockworkOrreries$Works" ({ cls := "ClockworkOrreries$Works", name := "getsAxle", desc := "()I" } : Jvm.MethodName) ({ cls := "ClockworkOrreries$Works", name := "getsAxle", desc := "()I" } : Jvm.MethodName)) ∈ lw_all := lw_g (lw_at lw_m4 20 rfl) rfl
theorem q815 : (Jvm.Cond.code ({ cls := "ClockworkOrreries$Works", name := "getsAxle", desc := "()I" } : Jvm.MethodName) prog_8_method_16_code (1 : Nat) (Option.some Jvm.ClassFile.FieldType.int)) ∈ lw_all := lw_g (lw_at lw_m4 21 rfl) rfl
theorem q816 : (Jvm.Cond.methodLinkNest "ClockworkOrreries$Works" (146 : Nat) ({ cls := "ClockworkOrreries", name := "need", desc := "(ZI)V" } : Jvm.MethodName) "ClockworkOrreries") ∈ lw_tbl := lw_at lw_m4 22 rfl
theorem q840 : (Jvm.Cond.instanceMethod ({ cls := "ClockworkOrreries$Works", name := "getsWheel", desc := "(II)I" } : Jvm.MethodName)) ∈ lw_all := lw_g (lw_at lw_m4 46 rfl) rfl
theorem q841 : (Jvm.Cond.selects "ClockworkOrreries$Works" ({ cls := "ClockworkOrreries$Works", name := "getsWheel", desc := "(II)I" } : Jvm.MethodName) ({ cls := "ClockworkOrreries$Works", name := "getsWheel", desc := "(II)I" } : Jvm.MethodName)) ∈ lw_all := lw_g (lw_at lw_m4 47 rfl) rfl
theorem q842 : (Jvm.Cond.code ({ cls := "ClockworkOrreries$Works", name := "getsWheel", desc := "(II)I" } : Jvm.MethodName) prog_8_method_17_code (3 : Nat) (Option.some Jvm.ClassFile.FieldType.int)) ∈ lw_all := lw_g (lw_at lw_m4 48 rfl) rfl
theorem q843 : (Jvm.Cond.methodLink "ClockworkOrreries$Works" (150 : Nat) ({ cls := "ClockworkOrreries$Works", name := "isAxle", desc := "(I)Z" } : Jvm.MethodName)) ∈ lw_all := lw_g (lw_at lw_m4 49 rfl) rfl
theorem q844 : (Jvm.Cond.instanceMethod ({ cls := "ClockworkOrreries$Works", name := "isAxle", desc := "(I)Z" } : Jvm.MethodName)) ∈ lw_all := lw_g (lw_at lw_m4 50 rfl) rfl
theorem q845 : (Jvm.Cond.selects "ClockworkOrreries$Works" ({ cls := "ClockworkOrreries$Works", name := "isAxle", desc := "(I)Z" } : Jvm.MethodName) ({ cls := "ClockworkOrreries$Works", name := "isAxle", desc := "(I)Z" } : Jvm.MethodName)) ∈ lw_all := lw_g (lw_at lw_m4 51 rfl) rfl
theorem q846 : (Jvm.Cond.code ({ cls := "ClockworkOrreries$Works", name := "isAxle", desc := "(I)Z" } : Jvm.MethodName) prog_8_method_3_code (2 : Nat) (Option.some Jvm.ClassFile.FieldType.boolean)) ∈ lw_all := lw_g (lw_at lw_m4 52 rfl) rfl
theorem q847 : (Jvm.Cond.methodLinkNest "ClockworkOrreries$Works" (67 : Nat) ({ cls := "ClockworkOrreries", name := "isBetween", desc := "(JJJ)Z" } : Jvm.MethodName) "ClockworkOrreries") ∈ lw_tbl := lw_at lw_m4 53 rfl
theorem q850 : (Jvm.Cond.constantLong "ClockworkOrreries$Works" (153 : Nat) (8 : Int64)) ∈ lw_all := lw_g (lw_at lw_m4 56 rfl) rfl
theorem q851 : (Jvm.Cond.constantLong "ClockworkOrreries$Works" (155 : Nat) (120 : Int64)) ∈ lw_all := lw_g (lw_at lw_m4 57 rfl) rfl
theorem q853 : (Jvm.Cond.methodLink "ClockworkOrreries$Works" (157 : Nat) ({ cls := "ClockworkOrreries$Wheel", name := "<init>", desc := "(II)V" } : Jvm.MethodName)) ∈ lw_all := lw_g (lw_at lw_m4 59 rfl) rfl
theorem q859 : (Jvm.Cond.fieldLinkNest "ClockworkOrreries$Works" (80 : Nat) "ClockworkOrreries$Wheel" "axle" "I" "ClockworkOrreries") ∈ lw_tbl := lw_at lw_m4 65 rfl
theorem q863 : (Jvm.Cond.fieldLinkNest "ClockworkOrreries$Works" (172 : Nat) "ClockworkOrreries$Wheel" "teeth" "I" "ClockworkOrreries") ∈ lw_tbl := lw_at lw_m4 69 rfl
theorem q871 : (Jvm.Cond.instanceMethod ({ cls := "ClockworkOrreries$Works", name := "joins", desc := "(II)I" } : Jvm.MethodName)) ∈ lw_all := lw_g (lw_at lw_m4 77 rfl) rfl
theorem q872 : (Jvm.Cond.selects "ClockworkOrreries$Works" ({ cls := "ClockworkOrreries$Works", name := "joins", desc := "(II)I" } : Jvm.MethodName) ({ cls := "ClockworkOrreries$Works", name := "joins", desc := "(II)I" } : Jvm.MethodName)) ∈ lw_all := lw_g (lw_at lw_m4 78 rfl) rfl
theorem q873 : (Jvm.Cond.code ({ cls := "ClockworkOrreries$Works", name := "joins", desc := "(II)I" } : Jvm.MethodName) prog_8_method_18_code (3 : Nat) (Option.some Jvm.ClassFile.FieldType.int)) ∈ lw_all := lw_g (lw_at lw_m4 79 rfl) rfl
theorem q874 : (Jvm.Cond.methodLink "ClockworkOrreries$Works" (159 : Nat) ({ cls := "ClockworkOrreries$Works", name := "areTwo", desc := "(II)Z" } : Jvm.MethodName)) ∈ lw_all := lw_g (lw_at lw_m4 80 rfl) rfl
theorem q875 : (Jvm.Cond.instanceMethod ({ cls := "ClockworkOrreries$Works", name := "areTwo", desc := "(II)Z" } : Jvm.MethodName)) ∈ lw_all := lw_g (lw_at lw_m4 81 rfl) rfl
theorem q876 : (Jvm.Cond.selects "ClockworkOrreries$Works" ({ cls := "ClockworkOrreries$Works", name := "areTwo", desc := "(II)Z" } : Jvm.MethodName) ({ cls := "ClockworkOrreries$Works", name := "areTwo", desc := "(II)Z" } : Jvm.MethodName)) ∈ lw_all := lw_g (lw_at lw_m4 82 rfl) rfl
theorem q877 : (Jvm.Cond.code ({ cls := "ClockworkOrreries$Works", name := "areTwo", desc := "(II)Z" } : Jvm.MethodName) prog_8_method_5_code (3 : Nat) (Option.some Jvm.ClassFile.FieldType.boolean)) ∈ lw_all := lw_g (lw_at lw_m4 83 rfl) rfl
theorem q878 : (Jvm.Cond.methodLink "ClockworkOrreries$Works" (71 : Nat) ({ cls := "ClockworkOrreries$Works", name := "isWheel", desc := "(I)Z" } : Jvm.MethodName)) ∈ lw_all := lw_g (lw_at lw_m4 84 rfl) rfl
theorem q879 : (Jvm.Cond.instanceMethod ({ cls := "ClockworkOrreries$Works", name := "isWheel", desc := "(I)Z" } : Jvm.MethodName)) ∈ lw_all := lw_g (lw_at lw_m4 85 rfl) rfl
theorem q880 : (Jvm.Cond.selects "ClockworkOrreries$Works" ({ cls := "ClockworkOrreries$Works", name := "isWheel", desc := "(I)Z" } : Jvm.MethodName) ({ cls := "ClockworkOrreries$Works", name := "isWheel", desc := "(I)Z" } : Jvm.MethodName)) ∈ lw_all := lw_g (lw_at lw_m4 86 rfl) rfl
theorem q881 : (Jvm.Cond.code ({ cls := "ClockworkOrreries$Works", name := "isWheel", desc := "(I)Z" } : Jvm.MethodName) prog_8_method_4_code (2 : Nat) (Option.some Jvm.ClassFile.FieldType.boolean)) ∈ lw_all := lw_g (lw_at lw_m4 87 rfl) rfl
theorem q882 : (Jvm.Cond.methodLink "ClockworkOrreries$Works" (162 : Nat) ({ cls := "ClockworkOrreries$Works", name := "whyMesh", desc := "(II)I" } : Jvm.MethodName)) ∈ lw_all := lw_g (lw_at lw_m4 88 rfl) rfl
theorem q883 : (Jvm.Cond.instanceMethod ({ cls := "ClockworkOrreries$Works", name := "whyMesh", desc := "(II)I" } : Jvm.MethodName)) ∈ lw_all := lw_g (lw_at lw_m4 89 rfl) rfl
theorem q884 : (Jvm.Cond.selects "ClockworkOrreries$Works" ({ cls := "ClockworkOrreries$Works", name := "whyMesh", desc := "(II)I" } : Jvm.MethodName) ({ cls := "ClockworkOrreries$Works", name := "whyMesh", desc := "(II)I" } : Jvm.MethodName)) ∈ lw_all := lw_g (lw_at lw_m4 90 rfl) rfl
theorem q885 : (Jvm.Cond.code ({ cls := "ClockworkOrreries$Works", name := "whyMesh", desc := "(II)I" } : Jvm.MethodName) prog_8_method_10_code (5 : Nat) (Option.some Jvm.ClassFile.FieldType.int)) ∈ lw_all := lw_g (lw_at lw_m4 91 rfl) rfl
theorem q886 : (Jvm.Cond.methodLink "ClockworkOrreries$Works" (83 : Nat) ({ cls := "ClockworkOrreries$Works", name := "areMeshed", desc := "(II)Z" } : Jvm.MethodName)) ∈ lw_all := lw_g (lw_at lw_m4 92 rfl) rfl
theorem q887 : (Jvm.Cond.privateMethod ({ cls := "ClockworkOrreries$Works", name := "areMeshed", desc := "(II)Z" } : Jvm.MethodName)) ∈ lw_tbl := lw_at lw_m4 93 rfl
theorem q888 : (Jvm.Cond.instanceMethod ({ cls := "ClockworkOrreries$Works", name := "areMeshed", desc := "(II)Z" } : Jvm.MethodName)) ∈ lw_all := lw_g (lw_at lw_m4 94 rfl) rfl
theorem q889 : (Jvm.Cond.code ({ cls := "ClockworkOrreries$Works", name := "areMeshed", desc := "(II)Z" } : Jvm.MethodName) prog_8_method_8_code (5 : Nat) (Option.some Jvm.ClassFile.FieldType.boolean)) ∈ lw_all := lw_g (lw_at lw_m4 95 rfl) rfl
theorem q890 : (Jvm.Cond.classLink "ClockworkOrreries$Works" (13 : Nat) "ClockworkOrreries$Works") ∈ lw_all := lw_g (lw_at lw_m4 96 rfl) rfl
theorem q891 : (Jvm.Cond.methodLink "ClockworkOrreries$Works" (87 : Nat) ({ cls := "ClockworkOrreries$Works", name := "<init>", desc := "(LClockworkOrreries$Works;)V" } : Jvm.MethodName)) ∈ lw_all := lw_g (lw_at lw_m4 97 rfl) rfl
theorem q892 : (Jvm.Cond.methodLink "ClockworkOrreries$Works" (88 : Nat) ({ cls := "ClockworkOrreries$Works", name := "addsPair", desc := "(II)V" } : Jvm.MethodName)) ∈ lw_all := lw_g (lw_at lw_m4 98 rfl) rfl
theorem q893 : (Jvm.Cond.privateMethod ({ cls := "ClockworkOrreries$Works", name := "addsPair", desc := "(II)V" } : Jvm.MethodName)) ∈ lw_tbl := lw_at lw_m4 99 rfl
theorem q894 : (Jvm.Cond.instanceMethod ({ cls := "ClockworkOrreries$Works", name := "addsPair", desc := "(II)V" } : Jvm.MethodName)) ∈ lw_all := lw_g (lw_at lw_m4 100 rfl) rfl
theorem q895 : (Jvm.Cond.code ({ cls := "ClockworkOrreries$Works", name := "addsPair", desc := "(II)V" } : Jvm.MethodName) prog_8_method_9_code (3 : Nat) (Option.none : Option Jvm.ClassFile.FieldType)) ∈ lw_all := lw_g (lw_at lw_m4 101 rfl) rfl
theorem q896 : (Jvm.Cond.methodLink "ClockworkOrreries$Works" (92 : Nat) ({ cls := "ClockworkOrreries$Works", name := "drive", desc := "()LClockworkOrreries$Drive;" } : Jvm.MethodName)) ∈ lw_all := lw_g (lw_at lw_m4 102 rfl) rfl
theorem q898 : (Jvm.Cond.instanceMethod ({ cls := "ClockworkOrreries$Works", name := "parts", desc := "(I)I" } : Jvm.MethodName)) ∈ lw_all := lw_g (lw_at lw_m4 104 rfl) rfl
theorem q899 : (Jvm.Cond.selects "ClockworkOrreries$Works" ({ cls := "ClockworkOrreries$Works", name := "parts", desc := "(I)I" } : Jvm.MethodName) ({ cls := "ClockworkOrreries$Works", name := "parts", desc := "(I)I" } : Jvm.MethodName)) ∈ lw_all := lw_g (lw_at lw_m4 105 rfl) rfl
theorem q900 : (Jvm.Cond.code ({ cls := "ClockworkOrreries$Works", name := "parts", desc := "(I)I" } : Jvm.MethodName) prog_8_method_19_code (3 : Nat) (Option.some Jvm.ClassFile.FieldType.int)) ∈ lw_all := lw_g (lw_at lw_m4 106 rfl) rfl
theorem q902 : (Jvm.Cond.instanceMethod ({ cls := "ClockworkOrreries$Works", name := "cuts", desc := "(II)I" } : Jvm.MethodName)) ∈ lw_all := lw_g (lw_at lw_m4 108 rfl) rfl
theorem q903 : (Jvm.Cond.selects "ClockworkOrreries$Works" ({ cls := "ClockworkOrreries$Works", name := "cuts", desc := "(II)I" } : Jvm.MethodName) ({ cls := "ClockworkOrreries$Works", name := "cuts", desc := "(II)I" } : Jvm.MethodName)) ∈ lw_all := lw_g (lw_at lw_m4 109 rfl) rfl
theorem q904 : (Jvm.Cond.code ({ cls := "ClockworkOrreries$Works", name := "cuts", desc := "(II)I" } : Jvm.MethodName) prog_8_method_20_code (4 : Nat) (Option.some Jvm.ClassFile.FieldType.int)) ∈ lw_all := lw_g (lw_at lw_m4 110 rfl) rfl
theorem q905 : (Jvm.Cond.methodLink "ClockworkOrreries$Works" (168 : Nat) ({ cls := "java/util/ArrayList", name := "set", desc := "(ILjava/lang/Object;)Ljava/lang/Object;" } : Jvm.MethodName)) ∈ lw_all := lw_g (lw_at lw_m4 111 rfl) rfl
theorem q910 : (Jvm.Cond.instanceMethod ({ cls := "ClockworkOrreries$Works", name := "getsArm", desc := "(II)I" } : Jvm.MethodName)) ∈ lw_all := lw_g (lw_at lw_m4 116 rfl) rfl
theorem q911 : (Jvm.Cond.selects "ClockworkOrreries$Works" ({ cls := "ClockworkOrreries$Works", name := "getsArm", desc := "(II)I" } : Jvm.MethodName) ({ cls := "ClockworkOrreries$Works", name := "getsArm", desc := "(II)I" } : Jvm.MethodName)) ∈ lw_all := lw_g (lw_at lw_m4 117 rfl) rfl
theorem q912 : (Jvm.Cond.code ({ cls := "ClockworkOrreries$Works", name := "getsArm", desc := "(II)I" } : Jvm.MethodName) prog_8_method_21_code (3 : Nat) (Option.some Jvm.ClassFile.FieldType.int)) ∈ lw_all := lw_g (lw_at lw_m4 118 rfl) rfl
theorem q913 : (Jvm.Cond.constantLong "ClockworkOrreries$Works" (175 : Nat) (-180 : Int64)) ∈ lw_all := lw_g (lw_at lw_m4 119 rfl) rfl
theorem q914 : (Jvm.Cond.constantLong "ClockworkOrreries$Works" (177 : Nat) (180 : Int64)) ∈ lw_all := lw_g (lw_at lw_m4 120 rfl) rfl
theorem q916 : (Jvm.Cond.methodLink "ClockworkOrreries$Works" (179 : Nat) ({ cls := "ClockworkOrreries$Arm", name := "<init>", desc := "(III)V" } : Jvm.MethodName)) ∈ lw_all := lw_g (lw_at lw_m4 122 rfl) rfl
theorem q921 : (Jvm.Cond.fieldLinkNest "ClockworkOrreries$Works" (107 : Nat) "ClockworkOrreries$Arm" "axle" "I" "ClockworkOrreries") ∈ lw_tbl := lw_at lw_m4 127 rfl
theorem q924 : (Jvm.Cond.fieldLinkNest "ClockworkOrreries$Works" (115 : Nat) "ClockworkOrreries$Arm" "bend" "I" "ClockworkOrreries") ∈ lw_tbl := lw_at lw_m4 130 rfl
theorem q927 : (Jvm.Cond.fieldLinkNest "ClockworkOrreries$Works" (185 : Nat) "ClockworkOrreries$Arm" "period" "I" "ClockworkOrreries") ∈ lw_tbl := lw_at lw_m4 133 rfl
theorem q937 : (Jvm.Cond.instanceMethod ({ cls := "ClockworkOrreries$Works", name := "bends", desc := "(II)I" } : Jvm.MethodName)) ∈ lw_all := lw_g (lw_at lw_m4 143 rfl) rfl
theorem q938 : (Jvm.Cond.selects "ClockworkOrreries$Works" ({ cls := "ClockworkOrreries$Works", name := "bends", desc := "(II)I" } : Jvm.MethodName) ({ cls := "ClockworkOrreries$Works", name := "bends", desc := "(II)I" } : Jvm.MethodName)) ∈ lw_all := lw_g (lw_at lw_m4 144 rfl) rfl
theorem q939 : (Jvm.Cond.code ({ cls := "ClockworkOrreries$Works", name := "bends", desc := "(II)I" } : Jvm.MethodName) prog_8_method_22_code (5 : Nat) (Option.some Jvm.ClassFile.FieldType.int)) ∈ lw_all := lw_g (lw_at lw_m4 145 rfl) rfl
theorem q940 : (Jvm.Cond.methodLink "ClockworkOrreries$Works" (182 : Nat) ({ cls := "ClockworkOrreries$Works", name := "isArm", desc := "(I)Z" } : Jvm.MethodName)) ∈ lw_all := lw_g (lw_at lw_m4 146 rfl) rfl
theorem q941 : (Jvm.Cond.instanceMethod ({ cls := "ClockworkOrreries$Works", name := "isArm", desc := "(I)Z" } : Jvm.MethodName)) ∈ lw_all := lw_g (lw_at lw_m4 147 rfl) rfl
theorem q942 : (Jvm.Cond.selects "ClockworkOrreries$Works" ({ cls := "ClockworkOrreries$Works", name := "isArm", desc := "(I)Z" } : Jvm.MethodName) ({ cls := "ClockworkOrreries$Works", name := "isArm", desc := "(I)Z" } : Jvm.MethodName)) ∈ lw_all := lw_g (lw_at lw_m4 148 rfl) rfl
theorem q943 : (Jvm.Cond.code ({ cls := "ClockworkOrreries$Works", name := "isArm", desc := "(I)Z" } : Jvm.MethodName) prog_8_method_6_code (2 : Nat) (Option.some Jvm.ClassFile.FieldType.boolean)) ∈ lw_all := lw_g (lw_at lw_m4 149 rfl) rfl
theorem q945 : (Jvm.Cond.instanceMethod ({ cls := "ClockworkOrreries$Works", name := "getsMoon", desc := "(II)I" } : Jvm.MethodName)) ∈ lw_all := lw_g (lw_at lw_m4 151 rfl) rfl
theorem q946 : (Jvm.Cond.selects "ClockworkOrreries$Works" ({ cls := "ClockworkOrreries$Works", name := "getsMoon", desc := "(II)I" } : Jvm.MethodName) ({ cls := "ClockworkOrreries$Works", name := "getsMoon", desc := "(II)I" } : Jvm.MethodName)) ∈ lw_all := lw_g (lw_at lw_m4 152 rfl) rfl
theorem q947 : (Jvm.Cond.code ({ cls := "ClockworkOrreries$Works", name := "getsMoon", desc := "(II)I" } : Jvm.MethodName) prog_8_method_23_code (3 : Nat) (Option.some Jvm.ClassFile.FieldType.int)) ∈ lw_all := lw_g (lw_at lw_m4 153 rfl) rfl
theorem q949 : (Jvm.Cond.methodLink "ClockworkOrreries$Works" (188 : Nat) ({ cls := "ClockworkOrreries$Moon", name := "<init>", desc := "(II)V" } : Jvm.MethodName)) ∈ lw_all := lw_g (lw_at lw_m4 155 rfl) rfl
theorem q954 : (Jvm.Cond.fieldLinkNest "ClockworkOrreries$Works" (129 : Nat) "ClockworkOrreries$Moon" "arm" "I" "ClockworkOrreries") ∈ lw_tbl := lw_at lw_m4 160 rfl
theorem q957 : (Jvm.Cond.fieldLinkNest "ClockworkOrreries$Works" (128 : Nat) "ClockworkOrreries$Moon" "axle" "I" "ClockworkOrreries") ∈ lw_tbl := lw_at lw_m4 163 rfl
theorem q965 : (Jvm.Cond.instanceMethod ({ cls := "ClockworkOrreries$Works", name := "tells", desc := "(II)I" } : Jvm.MethodName)) ∈ lw_all := lw_g (lw_at lw_m4 171 rfl) rfl
theorem q966 : (Jvm.Cond.selects "ClockworkOrreries$Works" ({ cls := "ClockworkOrreries$Works", name := "tells", desc := "(II)I" } : Jvm.MethodName) ({ cls := "ClockworkOrreries$Works", name := "tells", desc := "(II)I" } : Jvm.MethodName)) ∈ lw_all := lw_g (lw_at lw_m4 172 rfl) rfl
theorem q967 : (Jvm.Cond.code ({ cls := "ClockworkOrreries$Works", name := "tells", desc := "(II)I" } : Jvm.MethodName) prog_8_method_24_code (5 : Nat) (Option.some Jvm.ClassFile.FieldType.int)) ∈ lw_all := lw_g (lw_at lw_m4 173 rfl) rfl
theorem q968 : (Jvm.Cond.constantLong "ClockworkOrreries$Works" (189 : Nat) (100000000 : Int64)) ∈ lw_all := lw_g (lw_at lw_m4 174 rfl) rfl
theorem q970 : (Jvm.Cond.instanceMethod ({ cls := "ClockworkOrreries$Works", name := "goesOn", desc := "(I)I" } : Jvm.MethodName)) ∈ lw_all := lw_g (lw_at lw_m4 176 rfl) rfl
theorem q971 : (Jvm.Cond.selects "ClockworkOrreries$Works" ({ cls := "ClockworkOrreries$Works", name := "goesOn", desc := "(I)I" } : Jvm.MethodName) ({ cls := "ClockworkOrreries$Works", name := "goesOn", desc := "(I)I" } : Jvm.MethodName)) ∈ lw_all := lw_g (lw_at lw_m4 177 rfl) rfl
theorem q972 : (Jvm.Cond.code ({ cls := "ClockworkOrreries$Works", name := "goesOn", desc := "(I)I" } : Jvm.MethodName) prog_8_method_25_code (2 : Nat) (Option.some Jvm.ClassFile.FieldType.int)) ∈ lw_all := lw_g (lw_at lw_m4 178 rfl) rfl
theorem q973 : (Jvm.Cond.constantLong "ClockworkOrreries$Works" (191 : Nat) (9999 : Int64)) ∈ lw_all := lw_g (lw_at lw_m4 179 rfl) rfl
theorem q974 : (Jvm.Cond.constant "ClockworkOrreries$Works" (193 : Nat) (1000000 : Int32)) ∈ lw_all := lw_g (lw_at lw_m4 180 rfl) rfl
theorem q976 : (Jvm.Cond.instanceMethod ({ cls := "ClockworkOrreries$Works", name := "setsDay", desc := "(I)I" } : Jvm.MethodName)) ∈ lw_all := lw_g (lw_at lw_m4 182 rfl) rfl
theorem q977 : (Jvm.Cond.selects "ClockworkOrreries$Works" ({ cls := "ClockworkOrreries$Works", name := "setsDay", desc := "(I)I" } : Jvm.MethodName) ({ cls := "ClockworkOrreries$Works", name := "setsDay", desc := "(I)I" } : Jvm.MethodName)) ∈ lw_all := lw_g (lw_at lw_m4 183 rfl) rfl
theorem q978 : (Jvm.Cond.code ({ cls := "ClockworkOrreries$Works", name := "setsDay", desc := "(I)I" } : Jvm.MethodName) prog_8_method_26_code (3 : Nat) (Option.some Jvm.ClassFile.FieldType.int)) ∈ lw_all := lw_g (lw_at lw_m4 184 rfl) rfl
theorem q979 : (Jvm.Cond.constantLong "ClockworkOrreries$Works" (194 : Nat) (1000000 : Int64)) ∈ lw_all := lw_g (lw_at lw_m4 185 rfl) rfl
theorem q1283 : (Jvm.Cond.instanceMethod ({ cls := "ClockworkOrreries$Works", name := "armAngle", desc := "(ILClockworkOrreries$Drive;I)I" } : Jvm.MethodName)) ∈ lw_all := lw_g (lw_at lw_m6 9 rfl) rfl
theorem q1284 : (Jvm.Cond.selects "ClockworkOrreries$Works" ({ cls := "ClockworkOrreries$Works", name := "armAngle", desc := "(ILClockworkOrreries$Drive;I)I" } : Jvm.MethodName) ({ cls := "ClockworkOrreries$Works", name := "armAngle", desc := "(ILClockworkOrreries$Drive;I)I" } : Jvm.MethodName)) ∈ lw_all := lw_g (lw_at lw_m6 10 rfl) rfl
theorem q1285 : (Jvm.Cond.code ({ cls := "ClockworkOrreries$Works", name := "armAngle", desc := "(ILClockworkOrreries$Drive;I)I" } : Jvm.MethodName) prog_8_method_11_code (6 : Nat) (Option.some Jvm.ClassFile.FieldType.int)) ∈ lw_all := lw_g (lw_at lw_m6 11 rfl) rfl
theorem q1286 : (Jvm.Cond.methodLinkNest "ClockworkOrreries$Works" (111 : Nat) ({ cls := "ClockworkOrreries", name := "angle", desc := "(JJJ)I" } : Jvm.MethodName) "ClockworkOrreries") ∈ lw_tbl := lw_at lw_m6 12 rfl
theorem q1296 : (Jvm.Cond.methodLinkNest "ClockworkOrreries$Works" (118 : Nat) ({ cls := "ClockworkOrreries", name := "around", desc := "(J)I" } : Jvm.MethodName) "ClockworkOrreries") ∈ lw_tbl := lw_at lw_m6 22 rfl
theorem q1305 : (Jvm.Cond.instanceMethod ({ cls := "ClockworkOrreries$Works", name := "armAngleByTeeth", desc := "(ILClockworkOrreries$Drive;)I" } : Jvm.MethodName)) ∈ lw_all := lw_g (lw_at lw_m6 31 rfl) rfl
theorem q1306 : (Jvm.Cond.selects "ClockworkOrreries$Works" ({ cls := "ClockworkOrreries$Works", name := "armAngleByTeeth", desc := "(ILClockworkOrreries$Drive;)I" } : Jvm.MethodName) ({ cls := "ClockworkOrreries$Works", name := "armAngleByTeeth", desc := "(ILClockworkOrreries$Drive;)I" } : Jvm.MethodName)) ∈ lw_all := lw_g (lw_at lw_m6 32 rfl) rfl
theorem q1307 : (Jvm.Cond.code ({ cls := "ClockworkOrreries$Works", name := "armAngleByTeeth", desc := "(ILClockworkOrreries$Drive;)I" } : Jvm.MethodName) prog_8_method_12_code (5 : Nat) (Option.some Jvm.ClassFile.FieldType.int)) ∈ lw_all := lw_g (lw_at lw_m6 33 rfl) rfl
theorem q1321 : (Jvm.Cond.instanceMethod ({ cls := "ClockworkOrreries$Works", name := "moonAngleOf", desc := "(ILClockworkOrreries$Drive;)I" } : Jvm.MethodName)) ∈ lw_all := lw_g (lw_at lw_m6 47 rfl) rfl
theorem q1322 : (Jvm.Cond.selects "ClockworkOrreries$Works" ({ cls := "ClockworkOrreries$Works", name := "moonAngleOf", desc := "(ILClockworkOrreries$Drive;)I" } : Jvm.MethodName) ({ cls := "ClockworkOrreries$Works", name := "moonAngleOf", desc := "(ILClockworkOrreries$Drive;)I" } : Jvm.MethodName)) ∈ lw_all := lw_g (lw_at lw_m6 48 rfl) rfl
theorem q1323 : (Jvm.Cond.code ({ cls := "ClockworkOrreries$Works", name := "moonAngleOf", desc := "(ILClockworkOrreries$Drive;)I" } : Jvm.MethodName) prog_8_method_13_code (6 : Nat) (Option.some Jvm.ClassFile.FieldType.int)) ∈ lw_all := lw_g (lw_at lw_m6 49 rfl) rfl
theorem q1332 : (Jvm.Cond.instanceMethod ({ cls := "ClockworkOrreries$Works", name := "isSlower", desc := "(ILClockworkOrreries$Drive;)Z" } : Jvm.MethodName)) ∈ lw_all := lw_g (lw_at lw_m6 58 rfl) rfl
theorem q1333 : (Jvm.Cond.selects "ClockworkOrreries$Works" ({ cls := "ClockworkOrreries$Works", name := "isSlower", desc := "(ILClockworkOrreries$Drive;)Z" } : Jvm.MethodName) ({ cls := "ClockworkOrreries$Works", name := "isSlower", desc := "(ILClockworkOrreries$Drive;)Z" } : Jvm.MethodName)) ∈ lw_all := lw_g (lw_at lw_m6 59 rfl) rfl
theorem q1334 : (Jvm.Cond.code ({ cls := "ClockworkOrreries$Works", name := "isSlower", desc := "(ILClockworkOrreries$Drive;)Z" } : Jvm.MethodName) prog_8_method_14_code (5 : Nat) (Option.some Jvm.ClassFile.FieldType.boolean)) ∈ lw_all := lw_g (lw_at lw_m6 60 rfl) rfl
theorem q1335 : (Jvm.Cond.methodLink "ClockworkOrreries$Works" (132 : Nat) ({ cls := "java/lang/Math", name := "abs", desc := "(J)J" } : Jvm.MethodName)) ∈ lw_all := lw_g (lw_at lw_m6 61 rfl) rfl
theorem q1349 : (Jvm.Cond.instanceMethod ({ cls := "ClockworkOrreries$Works", name := "doMeet", desc := "(IIILClockworkOrreries$Drive;I)Z" } : Jvm.MethodName)) ∈ lw_all := lw_g (lw_at lw_m6 75 rfl) rfl
theorem q1350 : (Jvm.Cond.selects "ClockworkOrreries$Works" ({ cls := "ClockworkOrreries$Works", name := "doMeet", desc := "(IIILClockworkOrreries$Drive;I)Z" } : Jvm.MethodName) ({ cls := "ClockworkOrreries$Works", name := "doMeet", desc := "(IIILClockworkOrreries$Drive;I)Z" } : Jvm.MethodName)) ∈ lw_all := lw_g (lw_at lw_m6 76 rfl) rfl
theorem q1351 : (Jvm.Cond.code ({ cls := "ClockworkOrreries$Works", name := "doMeet", desc := "(IIILClockworkOrreries$Drive;I)Z" } : Jvm.MethodName) prog_8_method_15_code (6 : Nat) (Option.some Jvm.ClassFile.FieldType.boolean)) ∈ lw_all := lw_g (lw_at lw_m6 77 rfl) rfl
theorem q1352 : (Jvm.Cond.methodLink "ClockworkOrreries$Works" (138 : Nat) ({ cls := "ClockworkOrreries$Works", name := "armAngle", desc := "(ILClockworkOrreries$Drive;I)I" } : Jvm.MethodName)) ∈ lw_all := lw_g (lw_at lw_m6 78 rfl) rfl
theorem q1353 : (Jvm.Cond.methodLinkNest "ClockworkOrreries$Works" (142 : Nat) ({ cls := "ClockworkOrreries", name := "apart", desc := "(II)I" } : Jvm.MethodName) "ClockworkOrreries") ∈ lw_tbl := lw_at lw_m6 79 rfl
theorem q2343 : (Jvm.Cond.castable "ClockworkOrreries$Works" "java/lang/Object") ∈ lw_tbl := lw_at lw_m10 109 rfl
theorem in_X2 : ∀ w ∈ wsX20, w ∈ lw_all := lw_in wsX20 [172, 174, 176, 178, 180, 182, 184, 186, 188] (by decide +kernel) (by decide +kernel)
/-! ClockworkOrreries$Refused -/
set_option maxRecDepth 100000
def RX4 : String := "ClockworkOrreries$Refused"
def TX4 : u_T := fun k => match k with
  | 0 => ("java/lang/Throwable", "cause", "Ljava/lang/Throwable;", false)
  | 1 => ("java/lang/Throwable", "stackTrace", "[Ljava/lang/StackTraceElement;", false)
  | 2 => ("java/lang/Throwable", "suppressedExceptions", "Ljava/util/List;", false)
  | 3 => ("java/lang/Throwable", "detailMessage", "Ljava/lang/String;", false)
  | 4 => ("java/lang/Throwable", "backtrace", "Ljava/lang/Object;", false)
  | 5 => ("java/lang/Throwable", "depth", "I", false)
  | _ => ("ClockworkOrreries$Refused", "kind", "I", true)
def tyX4 : Nat → FieldType := fun k => match k with
  | 0 => .object "java/lang/Throwable"
  | 1 => .array (.object "java/lang/StackTraceElement")
  | 2 => .object "java/util/List"
  | 3 => .object "java/lang/String"
  | 4 => .object "java/lang/Object"
  | 5 => .int
  | _ => .int
abbrev wsX40 : List Cond := u_ws RX4 TX4 7
theorem nmX4 : ∀ a, a < 7 → ∀ b, b < 7 → a ≠ b → (TX4 a).2.1 ≠ (TX4 b).2.1 := by decide +kernel
theorem tyX4_ok : ∀ k, k < 7 → parseFieldDescriptor (TX4 k).2.2.1 = some (tyX4 k) := by decide +kernel
abbrev cX4_init : ByteArray := prog_6_method_1_code
def yX4_init : MethodName := ⟨RX4, "<init>", "(I)V"⟩
def dkwX4_init_0 : List UInt8 := [42, 18, 1, 183, 0, 3, 42, 27, 181, 0, 9, 177]
abbrev dktX4_init_0 : List UInt8 := dkwX4_init_0 ++ []
theorem dksX4_init_0 : cX4_init.data.toList.drop 0 = dktX4_init_0 := by decide +kernel
theorem dX4_init_0 : decode cX4_init 0 = .ok (.aload_n 0, 1) := dk_42 (dk_at dksX4_init_0 0 rfl rfl)
theorem dX4_init_1 : decode cX4_init 1 = .ok (.ldc 1, 2) := dk_18 1 (dk_at dksX4_init_0 1 rfl rfl)
theorem dX4_init_3 : decode cX4_init 3 = .ok (.invokespecial 3, 3) := dk_183 0 3 (dk_at dksX4_init_0 3 rfl rfl)
theorem dX4_init_6 : decode cX4_init 6 = .ok (.aload_n 0, 1) := dk_42 (dk_at dksX4_init_0 6 rfl rfl)
theorem dX4_init_7 : decode cX4_init 7 = .ok (.iload_n 1, 1) := dk_27 (dk_at dksX4_init_0 7 rfl rfl)
theorem dX4_init_8 : decode cX4_init 8 = .ok (.putfield 9, 3) := dk_181 0 9 (dk_at dksX4_init_0 8 rfl rfl)
theorem dX4_init_11 : decode cX4_init 11 = .ok (.return_, 1) := dk_177 (dk_at dksX4_init_0 11 rfl rfl)
theorem q94 : (Jvm.Cond.initialized "ClockworkOrreries$Refused") ∈ lw_all := lw_g (lw_at lw_m1 20 rfl) rfl
theorem q534 : (Jvm.Cond.selects "ClockworkOrreries$Refused" ({ cls := "java/lang/Throwable", name := "fillInStackTrace", desc := "()Ljava/lang/Throwable;" } : Jvm.MethodName) ({ cls := "java/lang/Throwable", name := "fillInStackTrace", desc := "()Ljava/lang/Throwable;" } : Jvm.MethodName)) ∈ lw_all := lw_g (lw_at lw_m2 220 rfl) rfl
theorem q788 : (Jvm.Cond.selects "ClockworkOrreries$Refused" ({ cls := "java/lang/Object", name := "getClass", desc := "()Ljava/lang/Class;" } : Jvm.MethodName) ({ cls := "java/lang/Object", name := "getClass", desc := "()Ljava/lang/Class;" } : Jvm.MethodName)) ∈ lw_all := lw_g (lw_at lw_m3 234 rfl) rfl
theorem q819 : (Jvm.Cond.instantiable "ClockworkOrreries$Refused" (7 : Nat)) ∈ lw_all := lw_g (lw_at lw_m4 25 rfl) rfl
theorem q820 : (Jvm.Cond.castable "ClockworkOrreries$Refused" "ClockworkOrreries$Refused") ∈ lw_tbl := lw_at lw_m4 26 rfl
theorem q821 : (Jvm.Cond.selects "ClockworkOrreries$Refused" ({ cls := "java/lang/Throwable", name := "fillInStackTrace", desc := "(I)Ljava/lang/Throwable;" } : Jvm.MethodName) ({ cls := "java/lang/Throwable", name := "fillInStackTrace", desc := "(I)Ljava/lang/Throwable;" } : Jvm.MethodName)) ∈ lw_all := lw_g (lw_at lw_m4 27 rfl) rfl
theorem q822 : (Jvm.Cond.lays "ClockworkOrreries$Refused" "java/lang/Throwable" "cause" "Ljava/lang/Throwable;") ∈ lw_all := lw_g (lw_at lw_m4 28 rfl) rfl
theorem q823 : (Jvm.Cond.lays "ClockworkOrreries$Refused" "java/lang/Throwable" "stackTrace" "[Ljava/lang/StackTraceElement;") ∈ lw_all := lw_g (lw_at lw_m4 29 rfl) rfl
theorem q824 : (Jvm.Cond.lays "ClockworkOrreries$Refused" "java/lang/Throwable" "suppressedExceptions" "Ljava/util/List;") ∈ lw_all := lw_g (lw_at lw_m4 30 rfl) rfl
theorem q825 : (Jvm.Cond.lays "ClockworkOrreries$Refused" "java/lang/Throwable" "detailMessage" "Ljava/lang/String;") ∈ lw_all := lw_g (lw_at lw_m4 31 rfl) rfl
theorem q826 : (Jvm.Cond.lays "ClockworkOrreries$Refused" "java/lang/Throwable" "backtrace" "Ljava/lang/Object;") ∈ lw_all := lw_g (lw_at lw_m4 32 rfl) rfl
theorem q828 : (Jvm.Cond.instanceMethod ({ cls := "ClockworkOrreries$Refused", name := "<init>", desc := "(I)V" } : Jvm.MethodName)) ∈ lw_all := lw_g (lw_at lw_m4 34 rfl) rfl
theorem q829 : (Jvm.Cond.code ({ cls := "ClockworkOrreries$Refused", name := "<init>", desc := "(I)V" } : Jvm.MethodName) prog_6_method_1_code (2 : Nat) (Option.none : Option Jvm.ClassFile.FieldType)) ∈ lw_all := lw_g (lw_at lw_m4 35 rfl) rfl
theorem q830 : (Jvm.Cond.stringRef "ClockworkOrreries$Refused" (1 : Nat) "refused") ∈ lw_tbl := lw_at lw_m4 36 rfl
theorem q831 : (Jvm.Cond.methodLink "ClockworkOrreries$Refused" (3 : Nat) ({ cls := "java/lang/Exception", name := "<init>", desc := "(Ljava/lang/String;)V" } : Jvm.MethodName)) ∈ lw_all := lw_g (lw_at lw_m4 37 rfl) rfl
theorem q832 : (Jvm.Cond.fieldLink "ClockworkOrreries$Refused" (9 : Nat) "ClockworkOrreries$Refused" "kind" "I") ∈ lw_all := lw_g (lw_at lw_m4 38 rfl) rfl
theorem q835 : (Jvm.Cond.laysFinal "ClockworkOrreries$Refused" "ClockworkOrreries$Refused" "kind" "I") ∈ lw_all := lw_g (lw_at lw_m4 41 rfl) rfl
theorem q836 : (Jvm.Cond.soleField "ClockworkOrreries$Refused" "kind") ∈ lw_all := lw_g (lw_at lw_m4 42 rfl) rfl
theorem q837 : (Jvm.Cond.lays "ClockworkOrreries$Refused" "java/lang/Throwable" "depth" "I") ∈ lw_all := lw_g (lw_at lw_m4 43 rfl) rfl
theorem q838 : (Jvm.Cond.superclass "ClockworkOrreries$Refused" "java/lang/Exception") ∈ lw_all := lw_g (lw_at lw_m4 44 rfl) rfl
theorem q2348 : (Jvm.Cond.castable "ClockworkOrreries$Refused" "java/lang/Object") ∈ lw_tbl := lw_at lw_m10 114 rfl
theorem in_X4 : ∀ w ∈ wsX40, w ∈ lw_all := lw_in wsX40 [822, 823, 824, 825, 826, 837, 835] (by decide +kernel) (by decide +kernel)
/-! ClockworkOrreries$Wheel -/
set_option maxRecDepth 100000
def RX5 : String := "ClockworkOrreries$Wheel"
def TX5 : u_T := fun k => match k with
  | 0 => ("ClockworkOrreries$Wheel", "axle", "I", true)
  | _ => ("ClockworkOrreries$Wheel", "teeth", "I", true)
def tyX5 : Nat → FieldType := fun k => match k with
  | 0 => .int
  | _ => .int
abbrev wsX50 : List Cond := u_ws RX5 TX5 2
theorem nmX5 : ∀ a, a < 2 → ∀ b, b < 2 → a ≠ b → (TX5 a).2.1 ≠ (TX5 b).2.1 := by decide +kernel
theorem tyX5_ok : ∀ k, k < 2 → parseFieldDescriptor (TX5 k).2.2.1 = some (tyX5 k) := by decide +kernel
abbrev cX5_init : ByteArray := prog_7_method_1_code
def yX5_init : MethodName := ⟨RX5, "<init>", "(II)V"⟩
def dkwX5_init_0 : List UInt8 := [42, 183, 0, 1, 42, 27, 181, 0, 7, 42, 28, 181, 0, 13, 177]
abbrev dktX5_init_0 : List UInt8 := dkwX5_init_0 ++ []
theorem dksX5_init_0 : cX5_init.data.toList.drop 0 = dktX5_init_0 := by decide +kernel
theorem dX5_init_0 : decode cX5_init 0 = .ok (.aload_n 0, 1) := dk_42 (dk_at dksX5_init_0 0 rfl rfl)
theorem dX5_init_1 : decode cX5_init 1 = .ok (.invokespecial 1, 3) := dk_183 0 1 (dk_at dksX5_init_0 1 rfl rfl)
theorem dX5_init_4 : decode cX5_init 4 = .ok (.aload_n 0, 1) := dk_42 (dk_at dksX5_init_0 4 rfl rfl)
theorem dX5_init_5 : decode cX5_init 5 = .ok (.iload_n 1, 1) := dk_27 (dk_at dksX5_init_0 5 rfl rfl)
theorem dX5_init_6 : decode cX5_init 6 = .ok (.putfield 7, 3) := dk_181 0 7 (dk_at dksX5_init_0 6 rfl rfl)
theorem dX5_init_9 : decode cX5_init 9 = .ok (.aload_n 0, 1) := dk_42 (dk_at dksX5_init_0 9 rfl rfl)
theorem dX5_init_10 : decode cX5_init 10 = .ok (.iload_n 2, 1) := dk_28 (dk_at dksX5_init_0 10 rfl rfl)
theorem dX5_init_11 : decode cX5_init 11 = .ok (.putfield 13, 3) := dk_181 0 13 (dk_at dksX5_init_0 11 rfl rfl)
theorem dX5_init_14 : decode cX5_init 14 = .ok (.return_, 1) := dk_177 (dk_at dksX5_init_0 14 rfl rfl)
theorem q95 : (Jvm.Cond.initialized "ClockworkOrreries$Wheel") ∈ lw_all := lw_g (lw_at lw_m1 21 rfl) rfl
theorem q789 : (Jvm.Cond.selects "ClockworkOrreries$Wheel" ({ cls := "java/lang/Object", name := "getClass", desc := "()Ljava/lang/Class;" } : Jvm.MethodName) ({ cls := "java/lang/Object", name := "getClass", desc := "()Ljava/lang/Class;" } : Jvm.MethodName)) ∈ lw_all := lw_g (lw_at lw_m3 235 rfl) rfl
theorem q852 : (Jvm.Cond.instantiable "ClockworkOrreries$Wheel" (2 : Nat)) ∈ lw_all := lw_g (lw_at lw_m4 58 rfl) rfl
theorem q854 : (Jvm.Cond.instanceMethod ({ cls := "ClockworkOrreries$Wheel", name := "<init>", desc := "(II)V" } : Jvm.MethodName)) ∈ lw_all := lw_g (lw_at lw_m4 60 rfl) rfl
theorem q855 : (Jvm.Cond.code ({ cls := "ClockworkOrreries$Wheel", name := "<init>", desc := "(II)V" } : Jvm.MethodName) prog_7_method_1_code (3 : Nat) (Option.none : Option Jvm.ClassFile.FieldType)) ∈ lw_all := lw_g (lw_at lw_m4 61 rfl) rfl
theorem q856 : (Jvm.Cond.methodLink "ClockworkOrreries$Wheel" (1 : Nat) ({ cls := "java/lang/Object", name := "<init>", desc := "()V" } : Jvm.MethodName)) ∈ lw_all := lw_g (lw_at lw_m4 62 rfl) rfl
theorem q857 : (Jvm.Cond.fieldLink "ClockworkOrreries$Wheel" (7 : Nat) "ClockworkOrreries$Wheel" "axle" "I") ∈ lw_all := lw_g (lw_at lw_m4 63 rfl) rfl
theorem q861 : (Jvm.Cond.fieldLink "ClockworkOrreries$Wheel" (13 : Nat) "ClockworkOrreries$Wheel" "teeth" "I") ∈ lw_all := lw_g (lw_at lw_m4 67 rfl) rfl
theorem q865 : (Jvm.Cond.laysFinal "ClockworkOrreries$Wheel" "ClockworkOrreries$Wheel" "axle" "I") ∈ lw_all := lw_g (lw_at lw_m4 71 rfl) rfl
theorem q866 : (Jvm.Cond.soleField "ClockworkOrreries$Wheel" "axle") ∈ lw_all := lw_g (lw_at lw_m4 72 rfl) rfl
theorem q867 : (Jvm.Cond.laysFinal "ClockworkOrreries$Wheel" "ClockworkOrreries$Wheel" "teeth" "I") ∈ lw_all := lw_g (lw_at lw_m4 73 rfl) rfl
theorem q868 : (Jvm.Cond.soleField "ClockworkOrreries$Wheel" "teeth") ∈ lw_all := lw_g (lw_at lw_m4 74 rfl) rfl
theorem q869 : (Jvm.Cond.superclass "ClockworkOrreries$Wheel" "java/lang/Object") ∈ lw_all := lw_g (lw_at lw_m4 75 rfl) rfl
theorem q2349 : (Jvm.Cond.castable "ClockworkOrreries$Wheel" "java/lang/Object") ∈ lw_tbl := lw_at lw_m10 115 rfl
theorem in_X5 : ∀ w ∈ wsX50, w ∈ lw_all := lw_in wsX50 [865, 867] (by decide +kernel) (by decide +kernel)
/-! ClockworkOrreries$Drive -/
set_option maxRecDepth 100000
def RX6 : String := "ClockworkOrreries$Drive"
def TX6 : u_T := fun k => match k with
  | 0 => ("ClockworkOrreries$Drive", "above", "[J", true)
  | 1 => ("ClockworkOrreries$Drive", "below", "[J", true)
  | 2 => ("ClockworkOrreries$Drive", "wholeAbove", "[J", true)
  | 3 => ("ClockworkOrreries$Drive", "wholeBelow", "[J", true)
  | 4 => ("ClockworkOrreries$Drive", "ways", "[I", true)
  | 5 => ("ClockworkOrreries$Drive", "queue", "[I", true)
  | 6 => ("ClockworkOrreries$Drive", "many", "I", false)
  | 7 => ("ClockworkOrreries$Drive", "isBound", "Z", false)
  | _ => ("ClockworkOrreries$Drive", "isFar", "Z", false)
def tyX6 : Nat → FieldType := fun k => match k with
  | 0 => .array .long
  | 1 => .array .long
  | 2 => .array .long
  | 3 => .array .long
  | 4 => .array .int
  | 5 => .array .int
  | 6 => .int
  | 7 => .boolean
  | _ => .boolean
abbrev wsX60 : List Cond := u_ws RX6 TX6 9
theorem nmX6 : ∀ a, a < 9 → ∀ b, b < 9 → a ≠ b → (TX6 a).2.1 ≠ (TX6 b).2.1 := by decide +kernel
theorem tyX6_ok : ∀ k, k < 9 → parseFieldDescriptor (TX6 k).2.2.1 = some (tyX6 k) := by decide +kernel
abbrev cX6_init : ByteArray := prog_3_method_1_code
def yX6_init : MethodName := ⟨RX6, "<init>", "(LClockworkOrreries$Works;)V"⟩
def dkwX6_init_8 : List UInt8 := [182, 0, 58, 132, 3, 1, 167, 255, 161, 132, 2, 1, 167, 255, 145, 177]
abbrev dktX6_init_8 : List UInt8 := dkwX6_init_8 ++ []
def dkwX6_init_7 : List UInt8 := [182, 0, 47, 192, 0, 53, 43, 180, 0, 40, 43, 180, 0, 44, 29, 46, 182, 0, 47, 192, 0, 53]
abbrev dktX6_init_7 : List UInt8 := dkwX6_init_7 ++ dktX6_init_8
def dkwX6_init_6 : List UInt8 := [192, 0, 53, 182, 0, 58, 42, 42, 180, 0, 28, 28, 46, 43, 180, 0, 40, 43, 180, 0, 55, 29, 46]
abbrev dktX6_init_6 : List UInt8 := dkwX6_init_6 ++ dktX6_init_7
def dkwX6_init_5 : List UInt8 := [180, 0, 44, 29, 46, 182, 0, 47, 192, 0, 53, 43, 180, 0, 40, 43, 180, 0, 55, 29, 46, 182, 0, 47]
abbrev dktX6_init_5 : List UInt8 := dkwX6_init_5 ++ dktX6_init_6
def dkwX6_init_4 : List UInt8 := [3, 62, 29, 43, 180, 0, 35, 162, 0, 93, 42, 42, 180, 0, 28, 28, 46, 43, 180, 0, 40, 43]
abbrev dktX6_init_4 : List UInt8 := dkwX6_init_4 ++ dktX6_init_5
def dkwX6_init_3 : List UInt8 := [42, 180, 0, 18, 3, 10, 80, 42, 180, 0, 21, 3, 10, 80, 3, 61, 28, 42, 180, 0, 31, 162, 0, 109]
abbrev dktX6_init_3 : List UInt8 := dkwX6_init_3 ++ dktX6_init_4
def dkwX6_init_2 : List UInt8 := [188, 10, 181, 0, 28, 42, 4, 181, 0, 31, 42, 180, 0, 9, 3, 10, 80, 42, 180, 0, 15, 3, 10, 80]
abbrev dktX6_init_2 : List UInt8 := dkwX6_init_2 ++ dktX6_init_3
def dkwX6_init_1 : List UInt8 := [188, 11, 181, 0, 18, 42, 16, 12, 188, 11, 181, 0, 21, 42, 16, 12, 188, 10, 181, 0, 24, 42, 16, 12]
abbrev dktX6_init_1 : List UInt8 := dkwX6_init_1 ++ dktX6_init_2
def dkwX6_init_0 : List UInt8 := [42, 183, 0, 3, 42, 16, 12, 188, 11, 181, 0, 9, 42, 16, 12, 188, 11, 181, 0, 15, 42, 16, 12]
abbrev dktX6_init_0 : List UInt8 := dkwX6_init_0 ++ dktX6_init_1
theorem dksX6_init_0 : cX6_init.data.toList.drop 0 = dktX6_init_0 := by decide +kernel
theorem dksX6_init_1 : cX6_init.data.toList.drop 23 = dktX6_init_1 := dk_seg dksX6_init_0 23 rfl rfl
theorem dksX6_init_2 : cX6_init.data.toList.drop 47 = dktX6_init_2 := dk_seg dksX6_init_1 24 rfl rfl
theorem dksX6_init_3 : cX6_init.data.toList.drop 71 = dktX6_init_3 := dk_seg dksX6_init_2 24 rfl rfl
theorem dksX6_init_4 : cX6_init.data.toList.drop 95 = dktX6_init_4 := dk_seg dksX6_init_3 24 rfl rfl
theorem dksX6_init_5 : cX6_init.data.toList.drop 117 = dktX6_init_5 := dk_seg dksX6_init_4 22 rfl rfl
theorem dksX6_init_6 : cX6_init.data.toList.drop 141 = dktX6_init_6 := dk_seg dksX6_init_5 24 rfl rfl
theorem dksX6_init_7 : cX6_init.data.toList.drop 164 = dktX6_init_7 := dk_seg dksX6_init_6 23 rfl rfl
theorem dksX6_init_8 : cX6_init.data.toList.drop 186 = dktX6_init_8 := dk_seg dksX6_init_7 22 rfl rfl
theorem dX6_init_0 : decode cX6_init 0 = .ok (.aload_n 0, 1) := dk_42 (dk_at dksX6_init_0 0 rfl rfl)
theorem dX6_init_1 : decode cX6_init 1 = .ok (.invokespecial 3, 3) := dk_183 0 3 (dk_at dksX6_init_0 1 rfl rfl)
theorem dX6_init_4 : decode cX6_init 4 = .ok (.aload_n 0, 1) := dk_42 (dk_at dksX6_init_0 4 rfl rfl)
theorem dX6_init_5 : decode cX6_init 5 = .ok (.bipush 12, 2) := dk_16 12 (dk_at dksX6_init_0 5 rfl rfl)
theorem dX6_init_7 : decode cX6_init 7 = .ok (.newarray .long, 2) := dk_188_11 (dk_at dksX6_init_0 7 rfl rfl)
theorem dX6_init_9 : decode cX6_init 9 = .ok (.putfield 9, 3) := dk_181 0 9 (dk_at dksX6_init_0 9 rfl rfl)
theorem dX6_init_12 : decode cX6_init 12 = .ok (.aload_n 0, 1) := dk_42 (dk_at dksX6_init_0 12 rfl rfl)
theorem dX6_init_13 : decode cX6_init 13 = .ok (.bipush 12, 2) := dk_16 12 (dk_at dksX6_init_0 13 rfl rfl)
theorem dX6_init_15 : decode cX6_init 15 = .ok (.newarray .long, 2) := dk_188_11 (dk_at dksX6_init_0 15 rfl rfl)
theorem dX6_init_17 : decode cX6_init 17 = .ok (.putfield 15, 3) := dk_181 0 15 (dk_at dksX6_init_0 17 rfl rfl)
theorem dX6_init_20 : decode cX6_init 20 = .ok (.aload_n 0, 1) := dk_42 (dk_at dksX6_init_0 20 rfl rfl)
theorem dX6_init_21 : decode cX6_init 21 = .ok (.bipush 12, 2) := dk_16 12 (dk_at dksX6_init_0 21 rfl rfl)
theorem dX6_init_23 : decode cX6_init 23 = .ok (.newarray .long, 2) := dk_188_11 (dk_at dksX6_init_1 0 rfl rfl)
theorem dX6_init_25 : decode cX6_init 25 = .ok (.putfield 18, 3) := dk_181 0 18 (dk_at dksX6_init_1 2 rfl rfl)
theorem dX6_init_28 : decode cX6_init 28 = .ok (.aload_n 0, 1) := dk_42 (dk_at dksX6_init_1 5 rfl rfl)
theorem dX6_init_29 : decode cX6_init 29 = .ok (.bipush 12, 2) := dk_16 12 (dk_at dksX6_init_1 6 rfl rfl)
theorem dX6_init_31 : decode cX6_init 31 = .ok (.newarray .long, 2) := dk_188_11 (dk_at dksX6_init_1 8 rfl rfl)
theorem dX6_init_33 : decode cX6_init 33 = .ok (.putfield 21, 3) := dk_181 0 21 (dk_at dksX6_init_1 10 rfl rfl)
theorem dX6_init_36 : decode cX6_init 36 = .ok (.aload_n 0, 1) := dk_42 (dk_at dksX6_init_1 13 rfl rfl)
theorem dX6_init_37 : decode cX6_init 37 = .ok (.bipush 12, 2) := dk_16 12 (dk_at dksX6_init_1 14 rfl rfl)
theorem dX6_init_39 : decode cX6_init 39 = .ok (.newarray .int, 2) := dk_188_10 (dk_at dksX6_init_1 16 rfl rfl)
theorem dX6_init_41 : decode cX6_init 41 = .ok (.putfield 24, 3) := dk_181 0 24 (dk_at dksX6_init_1 18 rfl rfl)
theorem dX6_init_44 : decode cX6_init 44 = .ok (.aload_n 0, 1) := dk_42 (dk_at dksX6_init_1 21 rfl rfl)
theorem dX6_init_45 : decode cX6_init 45 = .ok (.bipush 12, 2) := dk_16 12 (dk_at dksX6_init_1 22 rfl rfl)
theorem dX6_init_47 : decode cX6_init 47 = .ok (.newarray .int, 2) := dk_188_10 (dk_at dksX6_init_2 0 rfl rfl)
theorem dX6_init_49 : decode cX6_init 49 = .ok (.putfield 28, 3) := dk_181 0 28 (dk_at dksX6_init_2 2 rfl rfl)
theorem dX6_init_52 : decode cX6_init 52 = .ok (.aload_n 0, 1) := dk_42 (dk_at dksX6_init_2 5 rfl rfl)
theorem dX6_init_53 : decode cX6_init 53 = .ok (.iconst 1, 1) := dk_4 (dk_at dksX6_init_2 6 rfl rfl)
theorem dX6_init_54 : decode cX6_init 54 = .ok (.putfield 31, 3) := dk_181 0 31 (dk_at dksX6_init_2 7 rfl rfl)
theorem dX6_init_57 : decode cX6_init 57 = .ok (.aload_n 0, 1) := dk_42 (dk_at dksX6_init_2 10 rfl rfl)
theorem dX6_init_58 : decode cX6_init 58 = .ok (.getfield 9, 3) := dk_180 0 9 (dk_at dksX6_init_2 11 rfl rfl)
theorem dX6_init_61 : decode cX6_init 61 = .ok (.iconst 0, 1) := dk_3 (dk_at dksX6_init_2 14 rfl rfl)
theorem dX6_init_62 : decode cX6_init 62 = .ok (.lconst 1, 1) := dk_10 (dk_at dksX6_init_2 15 rfl rfl)
theorem dX6_init_63 : decode cX6_init 63 = .ok (.lastore, 1) := dk_80 (dk_at dksX6_init_2 16 rfl rfl)
theorem dX6_init_64 : decode cX6_init 64 = .ok (.aload_n 0, 1) := dk_42 (dk_at dksX6_init_2 17 rfl rfl)
theorem dX6_init_65 : decode cX6_init 65 = .ok (.getfield 15, 3) := dk_180 0 15 (dk_at dksX6_init_2 18 rfl rfl)
theorem dX6_init_68 : decode cX6_init 68 = .ok (.iconst 0, 1) := dk_3 (dk_at dksX6_init_2 21 rfl rfl)
theorem dX6_init_69 : decode cX6_init 69 = .ok (.lconst 1, 1) := dk_10 (dk_at dksX6_init_2 22 rfl rfl)
theorem dX6_init_70 : decode cX6_init 70 = .ok (.lastore, 1) := dk_80 (dk_at dksX6_init_2 23 rfl rfl)
theorem dX6_init_71 : decode cX6_init 71 = .ok (.aload_n 0, 1) := dk_42 (dk_at dksX6_init_3 0 rfl rfl)
theorem dX6_init_72 : decode cX6_init 72 = .ok (.getfield 18, 3) := dk_180 0 18 (dk_at dksX6_init_3 1 rfl rfl)
theorem dX6_init_75 : decode cX6_init 75 = .ok (.iconst 0, 1) := dk_3 (dk_at dksX6_init_3 4 rfl rfl)
theorem dX6_init_76 : decode cX6_init 76 = .ok (.lconst 1, 1) := dk_10 (dk_at dksX6_init_3 5 rfl rfl)
theorem dX6_init_77 : decode cX6_init 77 = .ok (.lastore, 1) := dk_80 (dk_at dksX6_init_3 6 rfl rfl)
theorem dX6_init_78 : decode cX6_init 78 = .ok (.aload_n 0, 1) := dk_42 (dk_at dksX6_init_3 7 rfl rfl)
theorem dX6_init_79 : decode cX6_init 79 = .ok (.getfield 21, 3) := dk_180 0 21 (dk_at dksX6_init_3 8 rfl rfl)
theorem dX6_init_82 : decode cX6_init 82 = .ok (.iconst 0, 1) := dk_3 (dk_at dksX6_init_3 11 rfl rfl)
theorem dX6_init_83 : decode cX6_init 83 = .ok (.lconst 1, 1) := dk_10 (dk_at dksX6_init_3 12 rfl rfl)
theorem dX6_init_84 : decode cX6_init 84 = .ok (.lastore, 1) := dk_80 (dk_at dksX6_init_3 13 rfl rfl)
theorem dX6_init_85 : decode cX6_init 85 = .ok (.iconst 0, 1) := dk_3 (dk_at dksX6_init_3 14 rfl rfl)
theorem dX6_init_86 : decode cX6_init 86 = .ok (.istore_n 2, 1) := dk_61 (dk_at dksX6_init_3 15 rfl rfl)
theorem dX6_init_87 : decode cX6_init 87 = .ok (.iload_n 2, 1) := dk_28 (dk_at dksX6_init_3 16 rfl rfl)
theorem dX6_init_88 : decode cX6_init 88 = .ok (.aload_n 0, 1) := dk_42 (dk_at dksX6_init_3 17 rfl rfl)
theorem dX6_init_89 : decode cX6_init 89 = .ok (.getfield 31, 3) := dk_180 0 31 (dk_at dksX6_init_3 18 rfl rfl)
theorem dX6_init_92 : decode cX6_init 92 = .ok (.if_icmp .ge 109, 3) := dk_162 0 109 (dk_at dksX6_init_3 21 rfl rfl)
theorem dX6_init_95 : decode cX6_init 95 = .ok (.iconst 0, 1) := dk_3 (dk_at dksX6_init_4 0 rfl rfl)
theorem dX6_init_96 : decode cX6_init 96 = .ok (.istore_n 3, 1) := dk_62 (dk_at dksX6_init_4 1 rfl rfl)
theorem dX6_init_97 : decode cX6_init 97 = .ok (.iload_n 3, 1) := dk_29 (dk_at dksX6_init_4 2 rfl rfl)
theorem dX6_init_98 : decode cX6_init 98 = .ok (.aload_n 1, 1) := dk_43 (dk_at dksX6_init_4 3 rfl rfl)
theorem dX6_init_99 : decode cX6_init 99 = .ok (.getfield 35, 3) := dk_180 0 35 (dk_at dksX6_init_4 4 rfl rfl)
theorem dX6_init_102 : decode cX6_init 102 = .ok (.if_icmp .ge 93, 3) := dk_162 0 93 (dk_at dksX6_init_4 7 rfl rfl)
theorem dX6_init_105 : decode cX6_init 105 = .ok (.aload_n 0, 1) := dk_42 (dk_at dksX6_init_4 10 rfl rfl)
theorem dX6_init_106 : decode cX6_init 106 = .ok (.aload_n 0, 1) := dk_42 (dk_at dksX6_init_4 11 rfl rfl)
theorem dX6_init_107 : decode cX6_init 107 = .ok (.getfield 28, 3) := dk_180 0 28 (dk_at dksX6_init_4 12 rfl rfl)
theorem dX6_init_110 : decode cX6_init 110 = .ok (.iload_n 2, 1) := dk_28 (dk_at dksX6_init_4 15 rfl rfl)
theorem dX6_init_111 : decode cX6_init 111 = .ok (.iaload, 1) := dk_46 (dk_at dksX6_init_4 16 rfl rfl)
theorem dX6_init_112 : decode cX6_init 112 = .ok (.aload_n 1, 1) := dk_43 (dk_at dksX6_init_4 17 rfl rfl)
theorem dX6_init_113 : decode cX6_init 113 = .ok (.getfield 40, 3) := dk_180 0 40 (dk_at dksX6_init_4 18 rfl rfl)
theorem dX6_init_116 : decode cX6_init 116 = .ok (.aload_n 1, 1) := dk_43 (dk_at dksX6_init_4 21 rfl rfl)
theorem dX6_init_117 : decode cX6_init 117 = .ok (.getfield 44, 3) := dk_180 0 44 (dk_at dksX6_init_5 0 rfl rfl)
theorem dX6_init_120 : decode cX6_init 120 = .ok (.iload_n 3, 1) := dk_29 (dk_at dksX6_init_5 3 rfl rfl)
theorem dX6_init_121 : decode cX6_init 121 = .ok (.iaload, 1) := dk_46 (dk_at dksX6_init_5 4 rfl rfl)
theorem dX6_init_122 : decode cX6_init 122 = .ok (.invokevirtual 47, 3) := dk_182 0 47 (dk_at dksX6_init_5 5 rfl rfl)
theorem dX6_init_125 : decode cX6_init 125 = .ok (.checkcast 53, 3) := dk_192 0 53 (dk_at dksX6_init_5 8 rfl rfl)
theorem dX6_init_128 : decode cX6_init 128 = .ok (.aload_n 1, 1) := dk_43 (dk_at dksX6_init_5 11 rfl rfl)
theorem dX6_init_129 : decode cX6_init 129 = .ok (.getfield 40, 3) := dk_180 0 40 (dk_at dksX6_init_5 12 rfl rfl)
theorem dX6_init_132 : decode cX6_init 132 = .ok (.aload_n 1, 1) := dk_43 (dk_at dksX6_init_5 15 rfl rfl)
theorem dX6_init_133 : decode cX6_init 133 = .ok (.getfield 55, 3) := dk_180 0 55 (dk_at dksX6_init_5 16 rfl rfl)
theorem dX6_init_136 : decode cX6_init 136 = .ok (.iload_n 3, 1) := dk_29 (dk_at dksX6_init_5 19 rfl rfl)
theorem dX6_init_137 : decode cX6_init 137 = .ok (.iaload, 1) := dk_46 (dk_at dksX6_init_5 20 rfl rfl)
theorem dX6_init_138 : decode cX6_init 138 = .ok (.invokevirtual 47, 3) := dk_182 0 47 (dk_at dksX6_init_5 21 rfl rfl)
theorem dX6_init_141 : decode cX6_init 141 = .ok (.checkcast 53, 3) := dk_192 0 53 (dk_at dksX6_init_6 0 rfl rfl)
theorem dX6_init_144 : decode cX6_init 144 = .ok (.invokevirtual 58, 3) := dk_182 0 58 (dk_at dksX6_init_6 3 rfl rfl)
theorem dX6_init_147 : decode cX6_init 147 = .ok (.aload_n 0, 1) := dk_42 (dk_at dksX6_init_6 6 rfl rfl)
theorem dX6_init_148 : decode cX6_init 148 = .ok (.aload_n 0, 1) := dk_42 (dk_at dksX6_init_6 7 rfl rfl)
theorem dX6_init_149 : decode cX6_init 149 = .ok (.getfield 28, 3) := dk_180 0 28 (dk_at dksX6_init_6 8 rfl rfl)
theorem dX6_init_152 : decode cX6_init 152 = .ok (.iload_n 2, 1) := dk_28 (dk_at dksX6_init_6 11 rfl rfl)
theorem dX6_init_153 : decode cX6_init 153 = .ok (.iaload, 1) := dk_46 (dk_at dksX6_init_6 12 rfl rfl)
theorem dX6_init_154 : decode cX6_init 154 = .ok (.aload_n 1, 1) := dk_43 (dk_at dksX6_init_6 13 rfl rfl)
theorem dX6_init_155 : decode cX6_init 155 = .ok (.getfield 40, 3) := dk_180 0 40 (dk_at dksX6_init_6 14 rfl rfl)
theorem dX6_init_158 : decode cX6_init 158 = .ok (.aload_n 1, 1) := dk_43 (dk_at dksX6_init_6 17 rfl rfl)
theorem dX6_init_159 : decode cX6_init 159 = .ok (.getfield 55, 3) := dk_180 0 55 (dk_at dksX6_init_6 18 rfl rfl)
theorem dX6_init_162 : decode cX6_init 162 = .ok (.iload_n 3, 1) := dk_29 (dk_at dksX6_init_6 21 rfl rfl)
theorem dX6_init_163 : decode cX6_init 163 = .ok (.iaload, 1) := dk_46 (dk_at dksX6_init_6 22 rfl rfl)
theorem dX6_init_164 : decode cX6_init 164 = .ok (.invokevirtual 47, 3) := dk_182 0 47 (dk_at dksX6_init_7 0 rfl rfl)
theorem dX6_init_167 : decode cX6_init 167 = .ok (.checkcast 53, 3) := dk_192 0 53 (dk_at dksX6_init_7 3 rfl rfl)
theorem dX6_init_170 : decode cX6_init 170 = .ok (.aload_n 1, 1) := dk_43 (dk_at dksX6_init_7 6 rfl rfl)
theorem dX6_init_171 : decode cX6_init 171 = .ok (.getfield 40, 3) := dk_180 0 40 (dk_at dksX6_init_7 7 rfl rfl)
theorem dX6_init_174 : decode cX6_init 174 = .ok (.aload_n 1, 1) := dk_43 (dk_at dksX6_init_7 10 rfl rfl)
theorem dX6_init_175 : decode cX6_init 175 = .ok (.getfield 44, 3) := dk_180 0 44 (dk_at dksX6_init_7 11 rfl rfl)
theorem dX6_init_178 : decode cX6_init 178 = .ok (.iload_n 3, 1) := dk_29 (dk_at dksX6_init_7 14 rfl rfl)
theorem dX6_init_179 : decode cX6_init 179 = .ok (.iaload, 1) := dk_46 (dk_at dksX6_init_7 15 rfl rfl)
theorem dX6_init_180 : decode cX6_init 180 = .ok (.invokevirtual 47, 3) := dk_182 0 47 (dk_at dksX6_init_7 16 rfl rfl)
theorem dX6_init_183 : decode cX6_init 183 = .ok (.checkcast 53, 3) := dk_192 0 53 (dk_at dksX6_init_7 19 rfl rfl)
theorem dX6_init_186 : decode cX6_init 186 = .ok (.invokevirtual 58, 3) := dk_182 0 58 (dk_at dksX6_init_8 0 rfl rfl)
theorem dX6_init_189 : decode cX6_init 189 = .ok (.iinc 3 1, 3) := dk_132 3 1 (dk_at dksX6_init_8 3 rfl rfl)
theorem dX6_init_192 : decode cX6_init 192 = .ok (.goto (-95), 3) := dk_167 255 161 (dk_at dksX6_init_8 6 rfl rfl)
theorem dX6_init_195 : decode cX6_init 195 = .ok (.iinc 2 1, 3) := dk_132 2 1 (dk_at dksX6_init_8 9 rfl rfl)
theorem dX6_init_198 : decode cX6_init 198 = .ok (.goto (-111), 3) := dk_167 255 145 (dk_at dksX6_init_8 12 rfl rfl)
theorem dX6_init_201 : decode cX6_init 201 = .ok (.return_, 1) := dk_177 (dk_at dksX6_init_8 15 rfl rfl)
abbrev cX6_goes : ByteArray := prog_3_method_3_code
def yX6_goes : MethodName := ⟨RX6, "goes", "(ILClockworkOrreries$Wheel;LClockworkOrreries$Wheel;)V"⟩
def dkwX6_goes_9 : List UInt8 := [180, 0, 28, 42, 180, 0, 31, 21, 4, 79, 42, 89, 180, 0, 31, 4, 96, 181, 0, 31, 177]
abbrev dktX6_goes_9 : List UInt8 := dkwX6_goes_9 ++ []
def dkwX6_goes_8 : List UInt8 := [180, 0, 65, 133, 105, 80, 42, 180, 0, 24, 21, 4, 42, 180, 0, 24, 27, 46, 4, 96, 79, 42]
abbrev dktX6_goes_8 : List UInt8 := dkwX6_goes_8 ++ dktX6_goes_9
def dkwX6_goes_7 : List UInt8 := [47, 117, 44, 180, 0, 65, 133, 105, 80, 42, 180, 0, 21, 21, 4, 42, 180, 0, 21, 27, 47, 45]
abbrev dktX6_goes_7 : List UInt8 := dkwX6_goes_7 ++ dktX6_goes_8
def dkwX6_goes_6 : List UInt8 := [80, 42, 180, 0, 15, 21, 4, 22, 7, 22, 9, 109, 80, 42, 180, 0, 18, 21, 4, 42, 180, 0, 18, 27]
abbrev dktX6_goes_6 : List UInt8 := dkwX6_goes_6 ++ dktX6_goes_7
def dkwX6_goes_5 : List UInt8 := [46, 7, 160, 0, 11, 42, 4, 181, 0, 80, 167, 0, 102, 42, 180, 0, 9, 21, 4, 22, 5, 22, 9, 109]
abbrev dktX6_goes_5 : List UInt8 := dkwX6_goes_5 ++ dktX6_goes_6
def dkwX6_goes_4 : List UInt8 := [22, 9, 109, 148, 153, 0, 7, 4, 167, 0, 4, 3, 128, 181, 0, 76, 167, 0, 120, 42, 180, 0, 24, 27]
abbrev dktX6_goes_4 : List UInt8 := dkwX6_goes_4 ++ dktX6_goes_5
def dkwX6_goes_3 : List UInt8 := [180, 0, 9, 21, 4, 47, 22, 5, 22, 9, 109, 148, 154, 0, 19, 42, 180, 0, 15, 21, 4, 47, 22, 7]
abbrev dktX6_goes_3 : List UInt8 := dkwX6_goes_3 ++ dktX6_goes_4
def dkwX6_goes_2 : List UInt8 := [22, 7, 184, 0, 68, 55, 9, 42, 21, 4, 182, 0, 72, 153, 0, 52, 42, 89, 180, 0, 76, 42]
abbrev dktX6_goes_2 : List UInt8 := dkwX6_goes_2 ++ dktX6_goes_3
def dkwX6_goes_1 : List UInt8 := [180, 0, 65, 133, 105, 55, 5, 42, 180, 0, 15, 27, 47, 45, 180, 0, 65, 133, 105, 55, 7, 22, 5]
abbrev dktX6_goes_1 : List UInt8 := dkwX6_goes_1 ++ dktX6_goes_2
def dkwX6_goes_0 : List UInt8 := [44, 180, 0, 62, 27, 159, 0, 4, 177, 45, 180, 0, 62, 54, 4, 42, 180, 0, 9, 27, 47, 117, 44]
abbrev dktX6_goes_0 : List UInt8 := dkwX6_goes_0 ++ dktX6_goes_1
theorem dksX6_goes_0 : cX6_goes.data.toList.drop 0 = dktX6_goes_0 := by decide +kernel
theorem dksX6_goes_1 : cX6_goes.data.toList.drop 23 = dktX6_goes_1 := dk_seg dksX6_goes_0 23 rfl rfl
theorem dksX6_goes_2 : cX6_goes.data.toList.drop 46 = dktX6_goes_2 := dk_seg dksX6_goes_1 23 rfl rfl
theorem dksX6_goes_3 : cX6_goes.data.toList.drop 68 = dktX6_goes_3 := dk_seg dksX6_goes_2 22 rfl rfl
theorem dksX6_goes_4 : cX6_goes.data.toList.drop 92 = dktX6_goes_4 := dk_seg dksX6_goes_3 24 rfl rfl
theorem dksX6_goes_5 : cX6_goes.data.toList.drop 116 = dktX6_goes_5 := dk_seg dksX6_goes_4 24 rfl rfl
theorem dksX6_goes_6 : cX6_goes.data.toList.drop 140 = dktX6_goes_6 := dk_seg dksX6_goes_5 24 rfl rfl
theorem dksX6_goes_7 : cX6_goes.data.toList.drop 164 = dktX6_goes_7 := dk_seg dksX6_goes_6 24 rfl rfl
theorem dksX6_goes_8 : cX6_goes.data.toList.drop 186 = dktX6_goes_8 := dk_seg dksX6_goes_7 22 rfl rfl
theorem dksX6_goes_9 : cX6_goes.data.toList.drop 208 = dktX6_goes_9 := dk_seg dksX6_goes_8 22 rfl rfl
theorem dX6_goes_0 : decode cX6_goes 0 = .ok (.aload_n 2, 1) := dk_44 (dk_at dksX6_goes_0 0 rfl rfl)
theorem dX6_goes_1 : decode cX6_goes 1 = .ok (.getfield 62, 3) := dk_180 0 62 (dk_at dksX6_goes_0 1 rfl rfl)
theorem dX6_goes_4 : decode cX6_goes 4 = .ok (.iload_n 1, 1) := dk_27 (dk_at dksX6_goes_0 4 rfl rfl)
theorem dX6_goes_5 : decode cX6_goes 5 = .ok (.if_icmp .eq 4, 3) := dk_159 0 4 (dk_at dksX6_goes_0 5 rfl rfl)
theorem dX6_goes_8 : decode cX6_goes 8 = .ok (.return_, 1) := dk_177 (dk_at dksX6_goes_0 8 rfl rfl)
theorem dX6_goes_9 : decode cX6_goes 9 = .ok (.aload_n 3, 1) := dk_45 (dk_at dksX6_goes_0 9 rfl rfl)
theorem dX6_goes_10 : decode cX6_goes 10 = .ok (.getfield 62, 3) := dk_180 0 62 (dk_at dksX6_goes_0 10 rfl rfl)
theorem dX6_goes_13 : decode cX6_goes 13 = .ok (.istore 4, 2) := dk_54 4 (dk_at dksX6_goes_0 13 rfl rfl)
theorem dX6_goes_15 : decode cX6_goes 15 = .ok (.aload_n 0, 1) := dk_42 (dk_at dksX6_goes_0 15 rfl rfl)
theorem dX6_goes_16 : decode cX6_goes 16 = .ok (.getfield 9, 3) := dk_180 0 9 (dk_at dksX6_goes_0 16 rfl rfl)
theorem dX6_goes_19 : decode cX6_goes 19 = .ok (.iload_n 1, 1) := dk_27 (dk_at dksX6_goes_0 19 rfl rfl)
theorem dX6_goes_20 : decode cX6_goes 20 = .ok (.laload, 1) := dk_47 (dk_at dksX6_goes_0 20 rfl rfl)
theorem dX6_goes_21 : decode cX6_goes 21 = .ok (.lneg, 1) := dk_117 (dk_at dksX6_goes_0 21 rfl rfl)
theorem dX6_goes_22 : decode cX6_goes 22 = .ok (.aload_n 2, 1) := dk_44 (dk_at dksX6_goes_0 22 rfl rfl)
theorem dX6_goes_23 : decode cX6_goes 23 = .ok (.getfield 65, 3) := dk_180 0 65 (dk_at dksX6_goes_1 0 rfl rfl)
theorem dX6_goes_26 : decode cX6_goes 26 = .ok (.i2l, 1) := dk_133 (dk_at dksX6_goes_1 3 rfl rfl)
theorem dX6_goes_27 : decode cX6_goes 27 = .ok (.lmul, 1) := dk_105 (dk_at dksX6_goes_1 4 rfl rfl)
theorem dX6_goes_28 : decode cX6_goes 28 = .ok (.lstore 5, 2) := dk_55 5 (dk_at dksX6_goes_1 5 rfl rfl)
theorem dX6_goes_30 : decode cX6_goes 30 = .ok (.aload_n 0, 1) := dk_42 (dk_at dksX6_goes_1 7 rfl rfl)
theorem dX6_goes_31 : decode cX6_goes 31 = .ok (.getfield 15, 3) := dk_180 0 15 (dk_at dksX6_goes_1 8 rfl rfl)
theorem dX6_goes_34 : decode cX6_goes 34 = .ok (.iload_n 1, 1) := dk_27 (dk_at dksX6_goes_1 11 rfl rfl)
theorem dX6_goes_35 : decode cX6_goes 35 = .ok (.laload, 1) := dk_47 (dk_at dksX6_goes_1 12 rfl rfl)
theorem dX6_goes_36 : decode cX6_goes 36 = .ok (.aload_n 3, 1) := dk_45 (dk_at dksX6_goes_1 13 rfl rfl)
theorem dX6_goes_37 : decode cX6_goes 37 = .ok (.getfield 65, 3) := dk_180 0 65 (dk_at dksX6_goes_1 14 rfl rfl)
theorem dX6_goes_40 : decode cX6_goes 40 = .ok (.i2l, 1) := dk_133 (dk_at dksX6_goes_1 17 rfl rfl)
theorem dX6_goes_41 : decode cX6_goes 41 = .ok (.lmul, 1) := dk_105 (dk_at dksX6_goes_1 18 rfl rfl)
theorem dX6_goes_42 : decode cX6_goes 42 = .ok (.lstore 7, 2) := dk_55 7 (dk_at dksX6_goes_1 19 rfl rfl)
theorem dX6_goes_44 : decode cX6_goes 44 = .ok (.lload 5, 2) := dk_22 5 (dk_at dksX6_goes_1 21 rfl rfl)
theorem dX6_goes_46 : decode cX6_goes 46 = .ok (.lload 7, 2) := dk_22 7 (dk_at dksX6_goes_2 0 rfl rfl)
theorem dX6_goes_48 : decode cX6_goes 48 = .ok (.invokestatic 68, 3) := dk_184 0 68 (dk_at dksX6_goes_2 2 rfl rfl)
theorem dX6_goes_51 : decode cX6_goes 51 = .ok (.lstore 9, 2) := dk_55 9 (dk_at dksX6_goes_2 5 rfl rfl)
theorem dX6_goes_53 : decode cX6_goes 53 = .ok (.aload_n 0, 1) := dk_42 (dk_at dksX6_goes_2 7 rfl rfl)
theorem dX6_goes_54 : decode cX6_goes 54 = .ok (.iload 4, 2) := dk_21 4 (dk_at dksX6_goes_2 8 rfl rfl)
theorem dX6_goes_56 : decode cX6_goes 56 = .ok (.invokevirtual 72, 3) := dk_182 0 72 (dk_at dksX6_goes_2 10 rfl rfl)
theorem dX6_goes_59 : decode cX6_goes 59 = .ok (.ifCond .eq 52, 3) := dk_153 0 52 (dk_at dksX6_goes_2 13 rfl rfl)
theorem dX6_goes_62 : decode cX6_goes 62 = .ok (.aload_n 0, 1) := dk_42 (dk_at dksX6_goes_2 16 rfl rfl)
theorem dX6_goes_63 : decode cX6_goes 63 = .ok (.dup, 1) := dk_89 (dk_at dksX6_goes_2 17 rfl rfl)
theorem dX6_goes_64 : decode cX6_goes 64 = .ok (.getfield 76, 3) := dk_180 0 76 (dk_at dksX6_goes_2 18 rfl rfl)
theorem dX6_goes_67 : decode cX6_goes 67 = .ok (.aload_n 0, 1) := dk_42 (dk_at dksX6_goes_2 21 rfl rfl)
theorem dX6_goes_68 : decode cX6_goes 68 = .ok (.getfield 9, 3) := dk_180 0 9 (dk_at dksX6_goes_3 0 rfl rfl)
theorem dX6_goes_71 : decode cX6_goes 71 = .ok (.iload 4, 2) := dk_21 4 (dk_at dksX6_goes_3 3 rfl rfl)
theorem dX6_goes_73 : decode cX6_goes 73 = .ok (.laload, 1) := dk_47 (dk_at dksX6_goes_3 5 rfl rfl)
theorem dX6_goes_74 : decode cX6_goes 74 = .ok (.lload 5, 2) := dk_22 5 (dk_at dksX6_goes_3 6 rfl rfl)
theorem dX6_goes_76 : decode cX6_goes 76 = .ok (.lload 9, 2) := dk_22 9 (dk_at dksX6_goes_3 8 rfl rfl)
theorem dX6_goes_78 : decode cX6_goes 78 = .ok (.ldiv, 1) := dk_109 (dk_at dksX6_goes_3 10 rfl rfl)
theorem dX6_goes_79 : decode cX6_goes 79 = .ok (.lcmp, 1) := dk_148 (dk_at dksX6_goes_3 11 rfl rfl)
theorem dX6_goes_80 : decode cX6_goes 80 = .ok (.ifCond .ne 19, 3) := dk_154 0 19 (dk_at dksX6_goes_3 12 rfl rfl)
theorem dX6_goes_83 : decode cX6_goes 83 = .ok (.aload_n 0, 1) := dk_42 (dk_at dksX6_goes_3 15 rfl rfl)
theorem dX6_goes_84 : decode cX6_goes 84 = .ok (.getfield 15, 3) := dk_180 0 15 (dk_at dksX6_goes_3 16 rfl rfl)
theorem dX6_goes_87 : decode cX6_goes 87 = .ok (.iload 4, 2) := dk_21 4 (dk_at dksX6_goes_3 19 rfl rfl)
theorem dX6_goes_89 : decode cX6_goes 89 = .ok (.laload, 1) := dk_47 (dk_at dksX6_goes_3 21 rfl rfl)
theorem dX6_goes_90 : decode cX6_goes 90 = .ok (.lload 7, 2) := dk_22 7 (dk_at dksX6_goes_3 22 rfl rfl)
theorem dX6_goes_92 : decode cX6_goes 92 = .ok (.lload 9, 2) := dk_22 9 (dk_at dksX6_goes_4 0 rfl rfl)
theorem dX6_goes_94 : decode cX6_goes 94 = .ok (.ldiv, 1) := dk_109 (dk_at dksX6_goes_4 2 rfl rfl)
theorem dX6_goes_95 : decode cX6_goes 95 = .ok (.lcmp, 1) := dk_148 (dk_at dksX6_goes_4 3 rfl rfl)
theorem dX6_goes_96 : decode cX6_goes 96 = .ok (.ifCond .eq 7, 3) := dk_153 0 7 (dk_at dksX6_goes_4 4 rfl rfl)
theorem dX6_goes_99 : decode cX6_goes 99 = .ok (.iconst 1, 1) := dk_4 (dk_at dksX6_goes_4 7 rfl rfl)
theorem dX6_goes_100 : decode cX6_goes 100 = .ok (.goto 4, 3) := dk_167 0 4 (dk_at dksX6_goes_4 8 rfl rfl)
theorem dX6_goes_103 : decode cX6_goes 103 = .ok (.iconst 0, 1) := dk_3 (dk_at dksX6_goes_4 11 rfl rfl)
theorem dX6_goes_104 : decode cX6_goes 104 = .ok (.ior, 1) := dk_128 (dk_at dksX6_goes_4 12 rfl rfl)
theorem dX6_goes_105 : decode cX6_goes 105 = .ok (.putfield 76, 3) := dk_181 0 76 (dk_at dksX6_goes_4 13 rfl rfl)
theorem dX6_goes_108 : decode cX6_goes 108 = .ok (.goto 120, 3) := dk_167 0 120 (dk_at dksX6_goes_4 16 rfl rfl)
theorem dX6_goes_111 : decode cX6_goes 111 = .ok (.aload_n 0, 1) := dk_42 (dk_at dksX6_goes_4 19 rfl rfl)
theorem dX6_goes_112 : decode cX6_goes 112 = .ok (.getfield 24, 3) := dk_180 0 24 (dk_at dksX6_goes_4 20 rfl rfl)
theorem dX6_goes_115 : decode cX6_goes 115 = .ok (.iload_n 1, 1) := dk_27 (dk_at dksX6_goes_4 23 rfl rfl)
theorem dX6_goes_116 : decode cX6_goes 116 = .ok (.iaload, 1) := dk_46 (dk_at dksX6_goes_5 0 rfl rfl)
theorem dX6_goes_117 : decode cX6_goes 117 = .ok (.iconst 4, 1) := dk_7 (dk_at dksX6_goes_5 1 rfl rfl)
theorem dX6_goes_118 : decode cX6_goes 118 = .ok (.if_icmp .ne 11, 3) := dk_160 0 11 (dk_at dksX6_goes_5 2 rfl rfl)
theorem dX6_goes_121 : decode cX6_goes 121 = .ok (.aload_n 0, 1) := dk_42 (dk_at dksX6_goes_5 5 rfl rfl)
theorem dX6_goes_122 : decode cX6_goes 122 = .ok (.iconst 1, 1) := dk_4 (dk_at dksX6_goes_5 6 rfl rfl)
theorem dX6_goes_123 : decode cX6_goes 123 = .ok (.putfield 80, 3) := dk_181 0 80 (dk_at dksX6_goes_5 7 rfl rfl)
theorem dX6_goes_126 : decode cX6_goes 126 = .ok (.goto 102, 3) := dk_167 0 102 (dk_at dksX6_goes_5 10 rfl rfl)
theorem dX6_goes_129 : decode cX6_goes 129 = .ok (.aload_n 0, 1) := dk_42 (dk_at dksX6_goes_5 13 rfl rfl)
theorem dX6_goes_130 : decode cX6_goes 130 = .ok (.getfield 9, 3) := dk_180 0 9 (dk_at dksX6_goes_5 14 rfl rfl)
theorem dX6_goes_133 : decode cX6_goes 133 = .ok (.iload 4, 2) := dk_21 4 (dk_at dksX6_goes_5 17 rfl rfl)
theorem dX6_goes_135 : decode cX6_goes 135 = .ok (.lload 5, 2) := dk_22 5 (dk_at dksX6_goes_5 19 rfl rfl)
theorem dX6_goes_137 : decode cX6_goes 137 = .ok (.lload 9, 2) := dk_22 9 (dk_at dksX6_goes_5 21 rfl rfl)
theorem dX6_goes_139 : decode cX6_goes 139 = .ok (.ldiv, 1) := dk_109 (dk_at dksX6_goes_5 23 rfl rfl)
theorem dX6_goes_140 : decode cX6_goes 140 = .ok (.lastore, 1) := dk_80 (dk_at dksX6_goes_6 0 rfl rfl)
theorem dX6_goes_141 : decode cX6_goes 141 = .ok (.aload_n 0, 1) := dk_42 (dk_at dksX6_goes_6 1 rfl rfl)
theorem dX6_goes_142 : decode cX6_goes 142 = .ok (.getfield 15, 3) := dk_180 0 15 (dk_at dksX6_goes_6 2 rfl rfl)
theorem dX6_goes_145 : decode cX6_goes 145 = .ok (.iload 4, 2) := dk_21 4 (dk_at dksX6_goes_6 5 rfl rfl)
theorem dX6_goes_147 : decode cX6_goes 147 = .ok (.lload 7, 2) := dk_22 7 (dk_at dksX6_goes_6 7 rfl rfl)
theorem dX6_goes_149 : decode cX6_goes 149 = .ok (.lload 9, 2) := dk_22 9 (dk_at dksX6_goes_6 9 rfl rfl)
theorem dX6_goes_151 : decode cX6_goes 151 = .ok (.ldiv, 1) := dk_109 (dk_at dksX6_goes_6 11 rfl rfl)
theorem dX6_goes_152 : decode cX6_goes 152 = .ok (.lastore, 1) := dk_80 (dk_at dksX6_goes_6 12 rfl rfl)
theorem dX6_goes_153 : decode cX6_goes 153 = .ok (.aload_n 0, 1) := dk_42 (dk_at dksX6_goes_6 13 rfl rfl)
theorem dX6_goes_154 : decode cX6_goes 154 = .ok (.getfield 18, 3) := dk_180 0 18 (dk_at dksX6_goes_6 14 rfl rfl)
theorem dX6_goes_157 : decode cX6_goes 157 = .ok (.iload 4, 2) := dk_21 4 (dk_at dksX6_goes_6 17 rfl rfl)
theorem dX6_goes_159 : decode cX6_goes 159 = .ok (.aload_n 0, 1) := dk_42 (dk_at dksX6_goes_6 19 rfl rfl)
theorem dX6_goes_160 : decode cX6_goes 160 = .ok (.getfield 18, 3) := dk_180 0 18 (dk_at dksX6_goes_6 20 rfl rfl)
theorem dX6_goes_163 : decode cX6_goes 163 = .ok (.iload_n 1, 1) := dk_27 (dk_at dksX6_goes_6 23 rfl rfl)
theorem dX6_goes_164 : decode cX6_goes 164 = .ok (.laload, 1) := dk_47 (dk_at dksX6_goes_7 0 rfl rfl)
theorem dX6_goes_165 : decode cX6_goes 165 = .ok (.lneg, 1) := dk_117 (dk_at dksX6_goes_7 1 rfl rfl)
theorem dX6_goes_166 : decode cX6_goes 166 = .ok (.aload_n 2, 1) := dk_44 (dk_at dksX6_goes_7 2 rfl rfl)
theorem dX6_goes_167 : decode cX6_goes 167 = .ok (.getfield 65, 3) := dk_180 0 65 (dk_at dksX6_goes_7 3 rfl rfl)
theorem dX6_goes_170 : decode cX6_goes 170 = .ok (.i2l, 1) := dk_133 (dk_at dksX6_goes_7 6 rfl rfl)
theorem dX6_goes_171 : decode cX6_goes 171 = .ok (.lmul, 1) := dk_105 (dk_at dksX6_goes_7 7 rfl rfl)
theorem dX6_goes_172 : decode cX6_goes 172 = .ok (.lastore, 1) := dk_80 (dk_at dksX6_goes_7 8 rfl rfl)
theorem dX6_goes_173 : decode cX6_goes 173 = .ok (.aload_n 0, 1) := dk_42 (dk_at dksX6_goes_7 9 rfl rfl)
theorem dX6_goes_174 : decode cX6_goes 174 = .ok (.getfield 21, 3) := dk_180 0 21 (dk_at dksX6_goes_7 10 rfl rfl)
theorem dX6_goes_177 : decode cX6_goes 177 = .ok (.iload 4, 2) := dk_21 4 (dk_at dksX6_goes_7 13 rfl rfl)
theorem dX6_goes_179 : decode cX6_goes 179 = .ok (.aload_n 0, 1) := dk_42 (dk_at dksX6_goes_7 15 rfl rfl)
theorem dX6_goes_180 : decode cX6_goes 180 = .ok (.getfield 21, 3) := dk_180 0 21 (dk_at dksX6_goes_7 16 rfl rfl)
theorem dX6_goes_183 : decode cX6_goes 183 = .ok (.iload_n 1, 1) := dk_27 (dk_at dksX6_goes_7 19 rfl rfl)
theorem dX6_goes_184 : decode cX6_goes 184 = .ok (.laload, 1) := dk_47 (dk_at dksX6_goes_7 20 rfl rfl)
theorem dX6_goes_185 : decode cX6_goes 185 = .ok (.aload_n 3, 1) := dk_45 (dk_at dksX6_goes_7 21 rfl rfl)
theorem dX6_goes_186 : decode cX6_goes 186 = .ok (.getfield 65, 3) := dk_180 0 65 (dk_at dksX6_goes_8 0 rfl rfl)
theorem dX6_goes_189 : decode cX6_goes 189 = .ok (.i2l, 1) := dk_133 (dk_at dksX6_goes_8 3 rfl rfl)
theorem dX6_goes_190 : decode cX6_goes 190 = .ok (.lmul, 1) := dk_105 (dk_at dksX6_goes_8 4 rfl rfl)
theorem dX6_goes_191 : decode cX6_goes 191 = .ok (.lastore, 1) := dk_80 (dk_at dksX6_goes_8 5 rfl rfl)
theorem dX6_goes_192 : decode cX6_goes 192 = .ok (.aload_n 0, 1) := dk_42 (dk_at dksX6_goes_8 6 rfl rfl)
theorem dX6_goes_193 : decode cX6_goes 193 = .ok (.getfield 24, 3) := dk_180 0 24 (dk_at dksX6_goes_8 7 rfl rfl)
theorem dX6_goes_196 : decode cX6_goes 196 = .ok (.iload 4, 2) := dk_21 4 (dk_at dksX6_goes_8 10 rfl rfl)
theorem dX6_goes_198 : decode cX6_goes 198 = .ok (.aload_n 0, 1) := dk_42 (dk_at dksX6_goes_8 12 rfl rfl)
theorem dX6_goes_199 : decode cX6_goes 199 = .ok (.getfield 24, 3) := dk_180 0 24 (dk_at dksX6_goes_8 13 rfl rfl)
theorem dX6_goes_202 : decode cX6_goes 202 = .ok (.iload_n 1, 1) := dk_27 (dk_at dksX6_goes_8 16 rfl rfl)
theorem dX6_goes_203 : decode cX6_goes 203 = .ok (.iaload, 1) := dk_46 (dk_at dksX6_goes_8 17 rfl rfl)
theorem dX6_goes_204 : decode cX6_goes 204 = .ok (.iconst 1, 1) := dk_4 (dk_at dksX6_goes_8 18 rfl rfl)
theorem dX6_goes_205 : decode cX6_goes 205 = .ok (.iadd, 1) := dk_96 (dk_at dksX6_goes_8 19 rfl rfl)
theorem dX6_goes_206 : decode cX6_goes 206 = .ok (.iastore, 1) := dk_79 (dk_at dksX6_goes_8 20 rfl rfl)
theorem dX6_goes_207 : decode cX6_goes 207 = .ok (.aload_n 0, 1) := dk_42 (dk_at dksX6_goes_8 21 rfl rfl)
theorem dX6_goes_208 : decode cX6_goes 208 = .ok (.getfield 28, 3) := dk_180 0 28 (dk_at dksX6_goes_9 0 rfl rfl)
theorem dX6_goes_211 : decode cX6_goes 211 = .ok (.aload_n 0, 1) := dk_42 (dk_at dksX6_goes_9 3 rfl rfl)
theorem dX6_goes_212 : decode cX6_goes 212 = .ok (.getfield 31, 3) := dk_180 0 31 (dk_at dksX6_goes_9 4 rfl rfl)
theorem dX6_goes_215 : decode cX6_goes 215 = .ok (.iload 4, 2) := dk_21 4 (dk_at dksX6_goes_9 7 rfl rfl)
theorem dX6_goes_217 : decode cX6_goes 217 = .ok (.iastore, 1) := dk_79 (dk_at dksX6_goes_9 9 rfl rfl)
theorem dX6_goes_218 : decode cX6_goes 218 = .ok (.aload_n 0, 1) := dk_42 (dk_at dksX6_goes_9 10 rfl rfl)
theorem dX6_goes_219 : decode cX6_goes 219 = .ok (.dup, 1) := dk_89 (dk_at dksX6_goes_9 11 rfl rfl)
theorem dX6_goes_220 : decode cX6_goes 220 = .ok (.getfield 31, 3) := dk_180 0 31 (dk_at dksX6_goes_9 12 rfl rfl)
theorem dX6_goes_223 : decode cX6_goes 223 = .ok (.iconst 1, 1) := dk_4 (dk_at dksX6_goes_9 15 rfl rfl)
theorem dX6_goes_224 : decode cX6_goes 224 = .ok (.iadd, 1) := dk_96 (dk_at dksX6_goes_9 16 rfl rfl)
theorem dX6_goes_225 : decode cX6_goes 225 = .ok (.putfield 31, 3) := dk_181 0 31 (dk_at dksX6_goes_9 17 rfl rfl)
theorem dX6_goes_228 : decode cX6_goes 228 = .ok (.return_, 1) := dk_177 (dk_at dksX6_goes_9 20 rfl rfl)
abbrev cX6_has : ByteArray := prog_3_method_2_code
def yX6_has : MethodName := ⟨RX6, "has", "(I)Z"⟩
def dkwX6_has_0 : List UInt8 := [42, 180, 0, 15, 27, 47, 9, 148, 158, 0, 7, 4, 167, 0, 4, 3, 172]
abbrev dktX6_has_0 : List UInt8 := dkwX6_has_0 ++ []
theorem dksX6_has_0 : cX6_has.data.toList.drop 0 = dktX6_has_0 := by decide +kernel
theorem dX6_has_0 : decode cX6_has 0 = .ok (.aload_n 0, 1) := dk_42 (dk_at dksX6_has_0 0 rfl rfl)
theorem dX6_has_1 : decode cX6_has 1 = .ok (.getfield 15, 3) := dk_180 0 15 (dk_at dksX6_has_0 1 rfl rfl)
theorem dX6_has_4 : decode cX6_has 4 = .ok (.iload_n 1, 1) := dk_27 (dk_at dksX6_has_0 4 rfl rfl)
theorem dX6_has_5 : decode cX6_has 5 = .ok (.laload, 1) := dk_47 (dk_at dksX6_has_0 5 rfl rfl)
theorem dX6_has_6 : decode cX6_has 6 = .ok (.lconst 0, 1) := dk_9 (dk_at dksX6_has_0 6 rfl rfl)
theorem dX6_has_7 : decode cX6_has 7 = .ok (.lcmp, 1) := dk_148 (dk_at dksX6_has_0 7 rfl rfl)
theorem dX6_has_8 : decode cX6_has 8 = .ok (.ifCond .le 7, 3) := dk_158 0 7 (dk_at dksX6_has_0 8 rfl rfl)
theorem dX6_has_11 : decode cX6_has 11 = .ok (.iconst 1, 1) := dk_4 (dk_at dksX6_has_0 11 rfl rfl)
theorem dX6_has_12 : decode cX6_has 12 = .ok (.goto 4, 3) := dk_167 0 4 (dk_at dksX6_has_0 12 rfl rfl)
theorem dX6_has_15 : decode cX6_has 15 = .ok (.iconst 0, 1) := dk_3 (dk_at dksX6_has_0 15 rfl rfl)
theorem dX6_has_16 : decode cX6_has 16 = .ok (.ireturn, 1) := dk_172 (dk_at dksX6_has_0 16 rfl rfl)
abbrev cX6_isSame : ByteArray := prog_3_method_4_code
def yX6_isSame : MethodName := ⟨RX6, "isSame", "(I)Z"⟩
def dkwX6_isSame_2 : List UInt8 := [148, 154, 0, 7, 4, 167, 0, 4, 3, 172]
abbrev dktX6_isSame_2 : List UInt8 := dkwX6_isSame_2 ++ []
def dkwX6_isSame_1 : List UInt8 := [42, 180, 0, 9, 27, 47, 148, 154, 0, 25, 42, 180, 0, 21, 27, 47, 32, 109, 42, 180, 0, 15, 27, 47]
abbrev dktX6_isSame_1 : List UInt8 := dkwX6_isSame_1 ++ dktX6_isSame_2
def dkwX6_isSame_0 : List UInt8 := [42, 180, 0, 18, 27, 47, 42, 180, 0, 21, 27, 47, 184, 0, 68, 65, 42, 180, 0, 18, 27, 47, 32, 109]
abbrev dktX6_isSame_0 : List UInt8 := dkwX6_isSame_0 ++ dktX6_isSame_1
theorem dksX6_isSame_0 : cX6_isSame.data.toList.drop 0 = dktX6_isSame_0 := by decide +kernel
theorem dksX6_isSame_1 : cX6_isSame.data.toList.drop 24 = dktX6_isSame_1 := dk_seg dksX6_isSame_0 24 rfl rfl
theorem dksX6_isSame_2 : cX6_isSame.data.toList.drop 48 = dktX6_isSame_2 := dk_seg dksX6_isSame_1 24 rfl rfl
theorem dX6_isSame_0 : decode cX6_isSame 0 = .ok (.aload_n 0, 1) := dk_42 (dk_at dksX6_isSame_0 0 rfl rfl)
theorem dX6_isSame_1 : decode cX6_isSame 1 = .ok (.getfield 18, 3) := dk_180 0 18 (dk_at dksX6_isSame_0 1 rfl rfl)
theorem dX6_isSame_4 : decode cX6_isSame 4 = .ok (.iload_n 1, 1) := dk_27 (dk_at dksX6_isSame_0 4 rfl rfl)
theorem dX6_isSame_5 : decode cX6_isSame 5 = .ok (.laload, 1) := dk_47 (dk_at dksX6_isSame_0 5 rfl rfl)
theorem dX6_isSame_6 : decode cX6_isSame 6 = .ok (.aload_n 0, 1) := dk_42 (dk_at dksX6_isSame_0 6 rfl rfl)
theorem dX6_isSame_7 : decode cX6_isSame 7 = .ok (.getfield 21, 3) := dk_180 0 21 (dk_at dksX6_isSame_0 7 rfl rfl)
theorem dX6_isSame_10 : decode cX6_isSame 10 = .ok (.iload_n 1, 1) := dk_27 (dk_at dksX6_isSame_0 10 rfl rfl)
theorem dX6_isSame_11 : decode cX6_isSame 11 = .ok (.laload, 1) := dk_47 (dk_at dksX6_isSame_0 11 rfl rfl)
theorem dX6_isSame_12 : decode cX6_isSame 12 = .ok (.invokestatic 68, 3) := dk_184 0 68 (dk_at dksX6_isSame_0 12 rfl rfl)
theorem dX6_isSame_15 : decode cX6_isSame 15 = .ok (.lstore_n 2, 1) := dk_65 (dk_at dksX6_isSame_0 15 rfl rfl)
theorem dX6_isSame_16 : decode cX6_isSame 16 = .ok (.aload_n 0, 1) := dk_42 (dk_at dksX6_isSame_0 16 rfl rfl)
theorem dX6_isSame_17 : decode cX6_isSame 17 = .ok (.getfield 18, 3) := dk_180 0 18 (dk_at dksX6_isSame_0 17 rfl rfl)
theorem dX6_isSame_20 : decode cX6_isSame 20 = .ok (.iload_n 1, 1) := dk_27 (dk_at dksX6_isSame_0 20 rfl rfl)
theorem dX6_isSame_21 : decode cX6_isSame 21 = .ok (.laload, 1) := dk_47 (dk_at dksX6_isSame_0 21 rfl rfl)
theorem dX6_isSame_22 : decode cX6_isSame 22 = .ok (.lload_n 2, 1) := dk_32 (dk_at dksX6_isSame_0 22 rfl rfl)
theorem dX6_isSame_23 : decode cX6_isSame 23 = .ok (.ldiv, 1) := dk_109 (dk_at dksX6_isSame_0 23 rfl rfl)
theorem dX6_isSame_24 : decode cX6_isSame 24 = .ok (.aload_n 0, 1) := dk_42 (dk_at dksX6_isSame_1 0 rfl rfl)
theorem dX6_isSame_25 : decode cX6_isSame 25 = .ok (.getfield 9, 3) := dk_180 0 9 (dk_at dksX6_isSame_1 1 rfl rfl)
theorem dX6_isSame_28 : decode cX6_isSame 28 = .ok (.iload_n 1, 1) := dk_27 (dk_at dksX6_isSame_1 4 rfl rfl)
theorem dX6_isSame_29 : decode cX6_isSame 29 = .ok (.laload, 1) := dk_47 (dk_at dksX6_isSame_1 5 rfl rfl)
theorem dX6_isSame_30 : decode cX6_isSame 30 = .ok (.lcmp, 1) := dk_148 (dk_at dksX6_isSame_1 6 rfl rfl)
theorem dX6_isSame_31 : decode cX6_isSame 31 = .ok (.ifCond .ne 25, 3) := dk_154 0 25 (dk_at dksX6_isSame_1 7 rfl rfl)
theorem dX6_isSame_34 : decode cX6_isSame 34 = .ok (.aload_n 0, 1) := dk_42 (dk_at dksX6_isSame_1 10 rfl rfl)
theorem dX6_isSame_35 : decode cX6_isSame 35 = .ok (.getfield 21, 3) := dk_180 0 21 (dk_at dksX6_isSame_1 11 rfl rfl)
theorem dX6_isSame_38 : decode cX6_isSame 38 = .ok (.iload_n 1, 1) := dk_27 (dk_at dksX6_isSame_1 14 rfl rfl)
theorem dX6_isSame_39 : decode cX6_isSame 39 = .ok (.laload, 1) := dk_47 (dk_at dksX6_isSame_1 15 rfl rfl)
theorem dX6_isSame_40 : decode cX6_isSame 40 = .ok (.lload_n 2, 1) := dk_32 (dk_at dksX6_isSame_1 16 rfl rfl)
theorem dX6_isSame_41 : decode cX6_isSame 41 = .ok (.ldiv, 1) := dk_109 (dk_at dksX6_isSame_1 17 rfl rfl)
theorem dX6_isSame_42 : decode cX6_isSame 42 = .ok (.aload_n 0, 1) := dk_42 (dk_at dksX6_isSame_1 18 rfl rfl)
theorem dX6_isSame_43 : decode cX6_isSame 43 = .ok (.getfield 15, 3) := dk_180 0 15 (dk_at dksX6_isSame_1 19 rfl rfl)
theorem dX6_isSame_46 : decode cX6_isSame 46 = .ok (.iload_n 1, 1) := dk_27 (dk_at dksX6_isSame_1 22 rfl rfl)
theorem dX6_isSame_47 : decode cX6_isSame 47 = .ok (.laload, 1) := dk_47 (dk_at dksX6_isSame_1 23 rfl rfl)
theorem dX6_isSame_48 : decode cX6_isSame 48 = .ok (.lcmp, 1) := dk_148 (dk_at dksX6_isSame_2 0 rfl rfl)
theorem dX6_isSame_49 : decode cX6_isSame 49 = .ok (.ifCond .ne 7, 3) := dk_154 0 7 (dk_at dksX6_isSame_2 1 rfl rfl)
theorem dX6_isSame_52 : decode cX6_isSame 52 = .ok (.iconst 1, 1) := dk_4 (dk_at dksX6_isSame_2 4 rfl rfl)
theorem dX6_isSame_53 : decode cX6_isSame 53 = .ok (.goto 4, 3) := dk_167 0 4 (dk_at dksX6_isSame_2 5 rfl rfl)
theorem dX6_isSame_56 : decode cX6_isSame 56 = .ok (.iconst 0, 1) := dk_3 (dk_at dksX6_isSame_2 8 rfl rfl)
theorem dX6_isSame_57 : decode cX6_isSame 57 = .ok (.ireturn, 1) := dk_172 (dk_at dksX6_isSame_2 9 rfl rfl)
theorem q96 : (Jvm.Cond.initialized "ClockworkOrreries$Drive") ∈ lw_all := lw_g (lw_at lw_m1 22 rfl) rfl
theorem q151 : (Jvm.Cond.fieldLinkNest "ClockworkOrreries$Drive" (40 : Nat) "ClockworkOrreries$Works" "wheels" "Ljava/util/ArrayList;" "ClockworkOrreries") ∈ lw_tbl := lw_at lw_m1 77 rfl
theorem q158 : (Jvm.Cond.fieldLinkNest "ClockworkOrreries$Drive" (44 : Nat) "ClockworkOrreries$Works" "first" "[I" "ClockworkOrreries") ∈ lw_tbl := lw_at lw_m1 84 rfl
theorem q161 : (Jvm.Cond.fieldLinkNest "ClockworkOrreries$Drive" (55 : Nat) "ClockworkOrreries$Works" "second" "[I" "ClockworkOrreries") ∈ lw_tbl := lw_at lw_m1 87 rfl
theorem q165 : (Jvm.Cond.fieldLinkNest "ClockworkOrreries$Drive" (35 : Nat) "ClockworkOrreries$Works" "meshes" "I" "ClockworkOrreries") ∈ lw_tbl := lw_at lw_m1 91 rfl
theorem q341 : (Jvm.Cond.instantiable "ClockworkOrreries$Drive" (9 : Nat)) ∈ lw_all := lw_g (lw_at lw_m2 27 rfl) rfl
theorem q343 : (Jvm.Cond.instanceMethod ({ cls := "ClockworkOrreries$Drive", name := "<init>", desc := "(LClockworkOrreries$Works;)V" } : Jvm.MethodName)) ∈ lw_all := lw_g (lw_at lw_m2 29 rfl) rfl
theorem q344 : (Jvm.Cond.code ({ cls := "ClockworkOrreries$Drive", name := "<init>", desc := "(LClockworkOrreries$Works;)V" } : Jvm.MethodName) prog_3_method_1_code (4 : Nat) (Option.none : Option Jvm.ClassFile.FieldType)) ∈ lw_all := lw_g (lw_at lw_m2 30 rfl) rfl
theorem q345 : (Jvm.Cond.methodLink "ClockworkOrreries$Drive" (3 : Nat) ({ cls := "java/lang/Object", name := "<init>", desc := "()V" } : Jvm.MethodName)) ∈ lw_all := lw_g (lw_at lw_m2 31 rfl) rfl
theorem q346 : (Jvm.Cond.methodLink "ClockworkOrreries$Drive" (47 : Nat) ({ cls := "java/util/ArrayList", name := "get", desc := "(I)Ljava/lang/Object;" } : Jvm.MethodName)) ∈ lw_all := lw_g (lw_at lw_m2 32 rfl) rfl
theorem q360 : (Jvm.Cond.classLink "ClockworkOrreries$Drive" (53 : Nat) "ClockworkOrreries$Wheel") ∈ lw_all := lw_g (lw_at lw_m2 46 rfl) rfl
theorem q361 : (Jvm.Cond.methodLink "ClockworkOrreries$Drive" (58 : Nat) ({ cls := "ClockworkOrreries$Drive", name := "goes", desc := "(ILClockworkOrreries$Wheel;LClockworkOrreries$Wheel;)V" } : Jvm.MethodName)) ∈ lw_all := lw_g (lw_at lw_m2 47 rfl) rfl
theorem q362 : (Jvm.Cond.privateMethod ({ cls := "ClockworkOrreries$Drive", name := "goes", desc := "(ILClockworkOrreries$Wheel;LClockworkOrreries$Wheel;)V" } : Jvm.MethodName)) ∈ lw_tbl := lw_at lw_m2 48 rfl
theorem q363 : (Jvm.Cond.instanceMethod ({ cls := "ClockworkOrreries$Drive", name := "goes", desc := "(ILClockworkOrreries$Wheel;LClockworkOrreries$Wheel;)V" } : Jvm.MethodName)) ∈ lw_all := lw_g (lw_at lw_m2 49 rfl) rfl
theorem q364 : (Jvm.Cond.code ({ cls := "ClockworkOrreries$Drive", name := "goes", desc := "(ILClockworkOrreries$Wheel;LClockworkOrreries$Wheel;)V" } : Jvm.MethodName) prog_3_method_3_code (11 : Nat) (Option.none : Option Jvm.ClassFile.FieldType)) ∈ lw_all := lw_g (lw_at lw_m2 50 rfl) rfl
theorem q365 : (Jvm.Cond.methodLinkNest "ClockworkOrreries$Drive" (68 : Nat) ({ cls := "ClockworkOrreries", name := "divisor", desc := "(JJ)J" } : Jvm.MethodName) "ClockworkOrreries") ∈ lw_tbl := lw_at lw_m2 51 rfl
theorem q371 : (Jvm.Cond.methodLink "ClockworkOrreries$Drive" (72 : Nat) ({ cls := "ClockworkOrreries$Drive", name := "has", desc := "(I)Z" } : Jvm.MethodName)) ∈ lw_all := lw_g (lw_at lw_m2 57 rfl) rfl
theorem q372 : (Jvm.Cond.instanceMethod ({ cls := "ClockworkOrreries$Drive", name := "has", desc := "(I)Z" } : Jvm.MethodName)) ∈ lw_all := lw_g (lw_at lw_m2 58 rfl) rfl
theorem q373 : (Jvm.Cond.selects "ClockworkOrreries$Drive" ({ cls := "ClockworkOrreries$Drive", name := "has", desc := "(I)Z" } : Jvm.MethodName) ({ cls := "ClockworkOrreries$Drive", name := "has", desc := "(I)Z" } : Jvm.MethodName)) ∈ lw_all := lw_g (lw_at lw_m2 59 rfl) rfl
theorem q374 : (Jvm.Cond.code ({ cls := "ClockworkOrreries$Drive", name := "has", desc := "(I)Z" } : Jvm.MethodName) prog_3_method_2_code (2 : Nat) (Option.some Jvm.ClassFile.FieldType.boolean)) ∈ lw_all := lw_g (lw_at lw_m2 60 rfl) rfl
theorem q375 : (Jvm.Cond.fieldLink "ClockworkOrreries$Drive" (9 : Nat) "ClockworkOrreries$Drive" "above" "[J") ∈ lw_all := lw_g (lw_at lw_m2 61 rfl) rfl
theorem q378 : (Jvm.Cond.fieldLink "ClockworkOrreries$Drive" (15 : Nat) "ClockworkOrreries$Drive" "below" "[J") ∈ lw_all := lw_g (lw_at lw_m2 64 rfl) rfl
theorem q381 : (Jvm.Cond.fieldLink "ClockworkOrreries$Drive" (18 : Nat) "ClockworkOrreries$Drive" "wholeAbove" "[J") ∈ lw_all := lw_g (lw_at lw_m2 67 rfl) rfl
theorem q383 : (Jvm.Cond.fieldLink "ClockworkOrreries$Drive" (21 : Nat) "ClockworkOrreries$Drive" "wholeBelow" "[J") ∈ lw_all := lw_g (lw_at lw_m2 69 rfl) rfl
theorem q385 : (Jvm.Cond.fieldLink "ClockworkOrreries$Drive" (24 : Nat) "ClockworkOrreries$Drive" "ways" "[I") ∈ lw_all := lw_g (lw_at lw_m2 71 rfl) rfl
theorem q387 : (Jvm.Cond.fieldLink "ClockworkOrreries$Drive" (28 : Nat) "ClockworkOrreries$Drive" "queue" "[I") ∈ lw_all := lw_g (lw_at lw_m2 73 rfl) rfl
theorem q388 : (Jvm.Cond.fieldLink "ClockworkOrreries$Drive" (31 : Nat) "ClockworkOrreries$Drive" "many" "I") ∈ lw_all := lw_g (lw_at lw_m2 74 rfl) rfl
theorem q391 : (Jvm.Cond.fieldLink "ClockworkOrreries$Drive" (76 : Nat) "ClockworkOrreries$Drive" "isBound" "Z") ∈ lw_all := lw_g (lw_at lw_m2 77 rfl) rfl
theorem q393 : (Jvm.Cond.fieldLink "ClockworkOrreries$Drive" (80 : Nat) "ClockworkOrreries$Drive" "isFar" "Z") ∈ lw_all := lw_g (lw_at lw_m2 79 rfl) rfl
theorem q395 : (Jvm.Cond.laysFinal "ClockworkOrreries$Drive" "ClockworkOrreries$Drive" "above" "[J") ∈ lw_all := lw_g (lw_at lw_m2 81 rfl) rfl
theorem q396 : (Jvm.Cond.soleField "ClockworkOrreries$Drive" "above") ∈ lw_all := lw_g (lw_at lw_m2 82 rfl) rfl
theorem q397 : (Jvm.Cond.laysFinal "ClockworkOrreries$Drive" "ClockworkOrreries$Drive" "below" "[J") ∈ lw_all := lw_g (lw_at lw_m2 83 rfl) rfl
theorem q398 : (Jvm.Cond.soleField "ClockworkOrreries$Drive" "below") ∈ lw_all := lw_g (lw_at lw_m2 84 rfl) rfl
theorem q399 : (Jvm.Cond.laysFinal "ClockworkOrreries$Drive" "ClockworkOrreries$Drive" "wholeAbove" "[J") ∈ lw_all := lw_g (lw_at lw_m2 85 rfl) rfl
theorem q400 : (Jvm.Cond.soleField "ClockworkOrreries$Drive" "wholeAbove") ∈ lw_all := lw_g (lw_at lw_m2 86 rfl) rfl
theorem q401 : (Jvm.Cond.laysFinal "ClockworkOrreries$Drive" "ClockworkOrreries$Drive" "wholeBelow" "[J") ∈ lw_all := lw_g (lw_at lw_m2 87 rfl) rfl
theorem q402 : (Jvm.Cond.soleField "ClockworkOrreries$Drive" "wholeBelow") ∈ lw_all := lw_g (lw_at lw_m2 88 rfl) rfl
theorem q403 : (Jvm.Cond.laysFinal "ClockworkOrreries$Drive" "ClockworkOrreries$Drive" "ways" "[I") ∈ lw_all := lw_g (lw_at lw_m2 89 rfl) rfl
theorem q404 : (Jvm.Cond.soleField "ClockworkOrreries$Drive" "ways") ∈ lw_all := lw_g (lw_at lw_m2 90 rfl) rfl
theorem q405 : (Jvm.Cond.laysFinal "ClockworkOrreries$Drive" "ClockworkOrreries$Drive" "queue" "[I") ∈ lw_all := lw_g (lw_at lw_m2 91 rfl) rfl
theorem q406 : (Jvm.Cond.soleField "ClockworkOrreries$Drive" "queue") ∈ lw_all := lw_g (lw_at lw_m2 92 rfl) rfl
theorem q407 : (Jvm.Cond.lays "ClockworkOrreries$Drive" "ClockworkOrreries$Drive" "many" "I") ∈ lw_all := lw_g (lw_at lw_m2 93 rfl) rfl
theorem q408 : (Jvm.Cond.soleField "ClockworkOrreries$Drive" "many") ∈ lw_all := lw_g (lw_at lw_m2 94 rfl) rfl
theorem q409 : (Jvm.Cond.lays "ClockworkOrreries$Drive" "ClockworkOrreries$Drive" "isBound" "Z") ∈ lw_all := lw_g (lw_at lw_m2 95 rfl) rfl
theorem q410 : (Jvm.Cond.soleField "ClockworkOrreries$Drive" "isBound") ∈ lw_all := lw_g (lw_at lw_m2 96 rfl) rfl
theorem q411 : (Jvm.Cond.lays "ClockworkOrreries$Drive" "ClockworkOrreries$Drive" "isFar" "Z") ∈ lw_all := lw_g (lw_at lw_m2 97 rfl) rfl
theorem q412 : (Jvm.Cond.soleField "ClockworkOrreries$Drive" "isFar") ∈ lw_all := lw_g (lw_at lw_m2 98 rfl) rfl
theorem q413 : (Jvm.Cond.superclass "ClockworkOrreries$Drive" "java/lang/Object") ∈ lw_all := lw_g (lw_at lw_m2 99 rfl) rfl
theorem q785 : (Jvm.Cond.selects "ClockworkOrreries$Drive" ({ cls := "java/lang/Object", name := "getClass", desc := "()Ljava/lang/Class;" } : Jvm.MethodName) ({ cls := "java/lang/Object", name := "getClass", desc := "()Ljava/lang/Class;" } : Jvm.MethodName)) ∈ lw_all := lw_g (lw_at lw_m3 231 rfl) rfl
theorem q858 : (Jvm.Cond.fieldLinkNest "ClockworkOrreries$Drive" (62 : Nat) "ClockworkOrreries$Wheel" "axle" "I" "ClockworkOrreries") ∈ lw_tbl := lw_at lw_m4 64 rfl
theorem q862 : (Jvm.Cond.fieldLinkNest "ClockworkOrreries$Drive" (65 : Nat) "ClockworkOrreries$Wheel" "teeth" "I" "ClockworkOrreries") ∈ lw_tbl := lw_at lw_m4 68 rfl
theorem q1211 : (Jvm.Cond.instanceMethod ({ cls := "ClockworkOrreries$Drive", name := "isSame", desc := "(I)Z" } : Jvm.MethodName)) ∈ lw_all := lw_g (lw_at lw_m5 177 rfl) rfl
theorem q1212 : (Jvm.Cond.selects "ClockworkOrreries$Drive" ({ cls := "ClockworkOrreries$Drive", name := "isSame", desc := "(I)Z" } : Jvm.MethodName) ({ cls := "ClockworkOrreries$Drive", name := "isSame", desc := "(I)Z" } : Jvm.MethodName)) ∈ lw_all := lw_g (lw_at lw_m5 178 rfl) rfl
theorem q1213 : (Jvm.Cond.code ({ cls := "ClockworkOrreries$Drive", name := "isSame", desc := "(I)Z" } : Jvm.MethodName) prog_3_method_4_code (4 : Nat) (Option.some Jvm.ClassFile.FieldType.boolean)) ∈ lw_all := lw_g (lw_at lw_m5 179 rfl) rfl
theorem q2350 : (Jvm.Cond.castable "ClockworkOrreries$Drive" "java/lang/Object") ∈ lw_tbl := lw_at lw_m10 116 rfl
theorem in_X6 : ∀ w ∈ wsX60, w ∈ lw_all := lw_in wsX60 [395, 397, 399, 401, 403, 405, 407, 409, 411] (by decide +kernel) (by decide +kernel)
/-! ClockworkOrreries$Arm -/
set_option maxRecDepth 100000
def RX7 : String := "ClockworkOrreries$Arm"
def TX7 : u_T := fun k => match k with
  | 0 => ("ClockworkOrreries$Arm", "axle", "I", true)
  | 1 => ("ClockworkOrreries$Arm", "bend", "I", true)
  | _ => ("ClockworkOrreries$Arm", "period", "I", true)
def tyX7 : Nat → FieldType := fun k => match k with
  | 0 => .int
  | 1 => .int
  | _ => .int
abbrev wsX70 : List Cond := u_ws RX7 TX7 3
theorem nmX7 : ∀ a, a < 3 → ∀ b, b < 3 → a ≠ b → (TX7 a).2.1 ≠ (TX7 b).2.1 := by decide +kernel
theorem tyX7_ok : ∀ k, k < 3 → parseFieldDescriptor (TX7 k).2.2.1 = some (tyX7 k) := by decide +kernel
abbrev cX7_init : ByteArray := prog_2_method_1_code
def yX7_init : MethodName := ⟨RX7, "<init>", "(III)V"⟩
def dkwX7_init_0 : List UInt8 := [42, 183, 0, 1, 42, 27, 181, 0, 7, 42, 28, 181, 0, 13, 42, 29, 181, 0, 16, 177]
abbrev dktX7_init_0 : List UInt8 := dkwX7_init_0 ++ []
theorem dksX7_init_0 : cX7_init.data.toList.drop 0 = dktX7_init_0 := by decide +kernel
theorem dX7_init_0 : decode cX7_init 0 = .ok (.aload_n 0, 1) := dk_42 (dk_at dksX7_init_0 0 rfl rfl)
theorem dX7_init_1 : decode cX7_init 1 = .ok (.invokespecial 1, 3) := dk_183 0 1 (dk_at dksX7_init_0 1 rfl rfl)
theorem dX7_init_4 : decode cX7_init 4 = .ok (.aload_n 0, 1) := dk_42 (dk_at dksX7_init_0 4 rfl rfl)
theorem dX7_init_5 : decode cX7_init 5 = .ok (.iload_n 1, 1) := dk_27 (dk_at dksX7_init_0 5 rfl rfl)
theorem dX7_init_6 : decode cX7_init 6 = .ok (.putfield 7, 3) := dk_181 0 7 (dk_at dksX7_init_0 6 rfl rfl)
theorem dX7_init_9 : decode cX7_init 9 = .ok (.aload_n 0, 1) := dk_42 (dk_at dksX7_init_0 9 rfl rfl)
theorem dX7_init_10 : decode cX7_init 10 = .ok (.iload_n 2, 1) := dk_28 (dk_at dksX7_init_0 10 rfl rfl)
theorem dX7_init_11 : decode cX7_init 11 = .ok (.putfield 13, 3) := dk_181 0 13 (dk_at dksX7_init_0 11 rfl rfl)
theorem dX7_init_14 : decode cX7_init 14 = .ok (.aload_n 0, 1) := dk_42 (dk_at dksX7_init_0 14 rfl rfl)
theorem dX7_init_15 : decode cX7_init 15 = .ok (.iload_n 3, 1) := dk_29 (dk_at dksX7_init_0 15 rfl rfl)
theorem dX7_init_16 : decode cX7_init 16 = .ok (.putfield 16, 3) := dk_181 0 16 (dk_at dksX7_init_0 16 rfl rfl)
theorem dX7_init_19 : decode cX7_init 19 = .ok (.return_, 1) := dk_177 (dk_at dksX7_init_0 19 rfl rfl)
theorem q97 : (Jvm.Cond.initialized "ClockworkOrreries$Arm") ∈ lw_all := lw_g (lw_at lw_m1 23 rfl) rfl
theorem q784 : (Jvm.Cond.selects "ClockworkOrreries$Arm" ({ cls := "java/lang/Object", name := "getClass", desc := "()Ljava/lang/Class;" } : Jvm.MethodName) ({ cls := "java/lang/Object", name := "getClass", desc := "()Ljava/lang/Class;" } : Jvm.MethodName)) ∈ lw_all := lw_g (lw_at lw_m3 230 rfl) rfl
theorem q915 : (Jvm.Cond.instantiable "ClockworkOrreries$Arm" (3 : Nat)) ∈ lw_all := lw_g (lw_at lw_m4 121 rfl) rfl
theorem q917 : (Jvm.Cond.instanceMethod ({ cls := "ClockworkOrreries$Arm", name := "<init>", desc := "(III)V" } : Jvm.MethodName)) ∈ lw_all := lw_g (lw_at lw_m4 123 rfl) rfl
theorem q918 : (Jvm.Cond.code ({ cls := "ClockworkOrreries$Arm", name := "<init>", desc := "(III)V" } : Jvm.MethodName) prog_2_method_1_code (4 : Nat) (Option.none : Option Jvm.ClassFile.FieldType)) ∈ lw_all := lw_g (lw_at lw_m4 124 rfl) rfl
theorem q919 : (Jvm.Cond.methodLink "ClockworkOrreries$Arm" (1 : Nat) ({ cls := "java/lang/Object", name := "<init>", desc := "()V" } : Jvm.MethodName)) ∈ lw_all := lw_g (lw_at lw_m4 125 rfl) rfl
theorem q920 : (Jvm.Cond.fieldLink "ClockworkOrreries$Arm" (7 : Nat) "ClockworkOrreries$Arm" "axle" "I") ∈ lw_all := lw_g (lw_at lw_m4 126 rfl) rfl
theorem q923 : (Jvm.Cond.fieldLink "ClockworkOrreries$Arm" (13 : Nat) "ClockworkOrreries$Arm" "bend" "I") ∈ lw_all := lw_g (lw_at lw_m4 129 rfl) rfl
theorem q926 : (Jvm.Cond.fieldLink "ClockworkOrreries$Arm" (16 : Nat) "ClockworkOrreries$Arm" "period" "I") ∈ lw_all := lw_g (lw_at lw_m4 132 rfl) rfl
theorem q929 : (Jvm.Cond.laysFinal "ClockworkOrreries$Arm" "ClockworkOrreries$Arm" "axle" "I") ∈ lw_all := lw_g (lw_at lw_m4 135 rfl) rfl
theorem q930 : (Jvm.Cond.soleField "ClockworkOrreries$Arm" "axle") ∈ lw_all := lw_g (lw_at lw_m4 136 rfl) rfl
theorem q931 : (Jvm.Cond.laysFinal "ClockworkOrreries$Arm" "ClockworkOrreries$Arm" "bend" "I") ∈ lw_all := lw_g (lw_at lw_m4 137 rfl) rfl
theorem q932 : (Jvm.Cond.soleField "ClockworkOrreries$Arm" "bend") ∈ lw_all := lw_g (lw_at lw_m4 138 rfl) rfl
theorem q933 : (Jvm.Cond.laysFinal "ClockworkOrreries$Arm" "ClockworkOrreries$Arm" "period" "I") ∈ lw_all := lw_g (lw_at lw_m4 139 rfl) rfl
theorem q934 : (Jvm.Cond.soleField "ClockworkOrreries$Arm" "period") ∈ lw_all := lw_g (lw_at lw_m4 140 rfl) rfl
theorem q935 : (Jvm.Cond.superclass "ClockworkOrreries$Arm" "java/lang/Object") ∈ lw_all := lw_g (lw_at lw_m4 141 rfl) rfl
theorem q2351 : (Jvm.Cond.castable "ClockworkOrreries$Arm" "java/lang/Object") ∈ lw_tbl := lw_at lw_m10 117 rfl
theorem in_X7 : ∀ w ∈ wsX70, w ∈ lw_all := lw_in wsX70 [929, 931, 933] (by decide +kernel) (by decide +kernel)
/-! ClockworkOrreries$Moon -/
set_option maxRecDepth 100000
def RX8 : String := "ClockworkOrreries$Moon"
def TX8 : u_T := fun k => match k with
  | 0 => ("ClockworkOrreries$Moon", "arm", "I", true)
  | _ => ("ClockworkOrreries$Moon", "axle", "I", true)
def tyX8 : Nat → FieldType := fun k => match k with
  | 0 => .int
  | _ => .int
abbrev wsX80 : List Cond := u_ws RX8 TX8 2
theorem nmX8 : ∀ a, a < 2 → ∀ b, b < 2 → a ≠ b → (TX8 a).2.1 ≠ (TX8 b).2.1 := by decide +kernel
theorem tyX8_ok : ∀ k, k < 2 → parseFieldDescriptor (TX8 k).2.2.1 = some (tyX8 k) := by decide +kernel
abbrev cX8_init : ByteArray := prog_4_method_1_code
def yX8_init : MethodName := ⟨RX8, "<init>", "(II)V"⟩
def dkwX8_init_0 : List UInt8 := [42, 183, 0, 1, 42, 27, 181, 0, 7, 42, 28, 181, 0, 13, 177]
abbrev dktX8_init_0 : List UInt8 := dkwX8_init_0 ++ []
theorem dksX8_init_0 : cX8_init.data.toList.drop 0 = dktX8_init_0 := by decide +kernel
theorem dX8_init_0 : decode cX8_init 0 = .ok (.aload_n 0, 1) := dk_42 (dk_at dksX8_init_0 0 rfl rfl)
theorem dX8_init_1 : decode cX8_init 1 = .ok (.invokespecial 1, 3) := dk_183 0 1 (dk_at dksX8_init_0 1 rfl rfl)
theorem dX8_init_4 : decode cX8_init 4 = .ok (.aload_n 0, 1) := dk_42 (dk_at dksX8_init_0 4 rfl rfl)
theorem dX8_init_5 : decode cX8_init 5 = .ok (.iload_n 1, 1) := dk_27 (dk_at dksX8_init_0 5 rfl rfl)
theorem dX8_init_6 : decode cX8_init 6 = .ok (.putfield 7, 3) := dk_181 0 7 (dk_at dksX8_init_0 6 rfl rfl)
theorem dX8_init_9 : decode cX8_init 9 = .ok (.aload_n 0, 1) := dk_42 (dk_at dksX8_init_0 9 rfl rfl)
theorem dX8_init_10 : decode cX8_init 10 = .ok (.iload_n 2, 1) := dk_28 (dk_at dksX8_init_0 10 rfl rfl)
theorem dX8_init_11 : decode cX8_init 11 = .ok (.putfield 13, 3) := dk_181 0 13 (dk_at dksX8_init_0 11 rfl rfl)
theorem dX8_init_14 : decode cX8_init 14 = .ok (.return_, 1) := dk_177 (dk_at dksX8_init_0 14 rfl rfl)
theorem q98 : (Jvm.Cond.initialized "ClockworkOrreries$Moon") ∈ lw_all := lw_g (lw_at lw_m1 24 rfl) rfl
theorem q786 : (Jvm.Cond.selects "ClockworkOrreries$Moon" ({ cls := "java/lang/Object", name := "getClass", desc := "()Ljava/lang/Class;" } : Jvm.MethodName) ({ cls := "java/lang/Object", name := "getClass", desc := "()Ljava/lang/Class;" } : Jvm.MethodName)) ∈ lw_all := lw_g (lw_at lw_m3 232 rfl) rfl
theorem q948 : (Jvm.Cond.instantiable "ClockworkOrreries$Moon" (2 : Nat)) ∈ lw_all := lw_g (lw_at lw_m4 154 rfl) rfl
theorem q950 : (Jvm.Cond.instanceMethod ({ cls := "ClockworkOrreries$Moon", name := "<init>", desc := "(II)V" } : Jvm.MethodName)) ∈ lw_all := lw_g (lw_at lw_m4 156 rfl) rfl
theorem q951 : (Jvm.Cond.code ({ cls := "ClockworkOrreries$Moon", name := "<init>", desc := "(II)V" } : Jvm.MethodName) prog_4_method_1_code (3 : Nat) (Option.none : Option Jvm.ClassFile.FieldType)) ∈ lw_all := lw_g (lw_at lw_m4 157 rfl) rfl
theorem q952 : (Jvm.Cond.methodLink "ClockworkOrreries$Moon" (1 : Nat) ({ cls := "java/lang/Object", name := "<init>", desc := "()V" } : Jvm.MethodName)) ∈ lw_all := lw_g (lw_at lw_m4 158 rfl) rfl
theorem q953 : (Jvm.Cond.fieldLink "ClockworkOrreries$Moon" (7 : Nat) "ClockworkOrreries$Moon" "arm" "I") ∈ lw_all := lw_g (lw_at lw_m4 159 rfl) rfl
theorem q956 : (Jvm.Cond.fieldLink "ClockworkOrreries$Moon" (13 : Nat) "ClockworkOrreries$Moon" "axle" "I") ∈ lw_all := lw_g (lw_at lw_m4 162 rfl) rfl
theorem q959 : (Jvm.Cond.laysFinal "ClockworkOrreries$Moon" "ClockworkOrreries$Moon" "arm" "I") ∈ lw_all := lw_g (lw_at lw_m4 165 rfl) rfl
theorem q960 : (Jvm.Cond.soleField "ClockworkOrreries$Moon" "arm") ∈ lw_all := lw_g (lw_at lw_m4 166 rfl) rfl
theorem q961 : (Jvm.Cond.laysFinal "ClockworkOrreries$Moon" "ClockworkOrreries$Moon" "axle" "I") ∈ lw_all := lw_g (lw_at lw_m4 167 rfl) rfl
theorem q962 : (Jvm.Cond.soleField "ClockworkOrreries$Moon" "axle") ∈ lw_all := lw_g (lw_at lw_m4 168 rfl) rfl
theorem q963 : (Jvm.Cond.superclass "ClockworkOrreries$Moon" "java/lang/Object") ∈ lw_all := lw_g (lw_at lw_m4 169 rfl) rfl
theorem q2352 : (Jvm.Cond.castable "ClockworkOrreries$Moon" "java/lang/Object") ∈ lw_tbl := lw_at lw_m10 118 rfl
theorem in_X8 : ∀ w ∈ wsX80, w ∈ lw_all := lw_in wsX80 [959, 961] (by decide +kernel) (by decide +kernel)
/-! ClockworkOrreries$Reader -/
set_option maxRecDepth 100000
def RX9 : String := "ClockworkOrreries$Reader"
def TX9 : u_T := fun k => match k with
  | 0 => ("ClockworkOrreries$Reader", "trial", "LClockworkOrreries$Works;", false)
  | 1 => ("ClockworkOrreries$Reader", "numbers", "[I", true)
  | 2 => ("ClockworkOrreries$Reader", "at", "I", false)
  | 3 => ("ClockworkOrreries$Reader", "begins", "I", false)
  | 4 => ("ClockworkOrreries$Reader", "reason", "I", false)
  | 5 => ("ClockworkOrreries$Reader", "cause", "I", false)
  | 6 => ("ClockworkOrreries$Reader", "many", "I", false)
  | _ => ("ClockworkOrreries$Reader", "this$0", "LClockworkOrreries;", true)
def tyX9 : Nat → FieldType := fun k => match k with
  | 0 => .object "ClockworkOrreries$Works"
  | 1 => .array .int
  | 2 => .int
  | 3 => .int
  | 4 => .int
  | 5 => .int
  | 6 => .int
  | _ => .object "ClockworkOrreries"
abbrev wsX90 : List Cond := u_ws RX9 TX9 8
theorem nmX9 : ∀ a, a < 8 → ∀ b, b < 8 → a ≠ b → (TX9 a).2.1 ≠ (TX9 b).2.1 := by decide +kernel
theorem tyX9_ok : ∀ k, k < 8 → parseFieldDescriptor (TX9 k).2.2.1 = some (tyX9 k) := by decide +kernel
abbrev cX9_init : ByteArray := prog_5_method_1_code
def yX9_init : MethodName := ⟨RX9, "<init>", "(LClockworkOrreries;)V"⟩
def dkwX9_init_1 : List UInt8 := [181, 0, 22, 177]
abbrev dktX9_init_1 : List UInt8 := dkwX9_init_1 ++ []
def dkwX9_init_0 : List UInt8 := [42, 43, 181, 0, 3, 42, 183, 0, 9, 42, 42, 180, 0, 3, 180, 0, 15, 181, 0, 19, 42, 5, 188, 10]
abbrev dktX9_init_0 : List UInt8 := dkwX9_init_0 ++ dktX9_init_1
theorem dksX9_init_0 : cX9_init.data.toList.drop 0 = dktX9_init_0 := by decide +kernel
theorem dksX9_init_1 : cX9_init.data.toList.drop 24 = dktX9_init_1 := dk_seg dksX9_init_0 24 rfl rfl
theorem dX9_init_0 : decode cX9_init 0 = .ok (.aload_n 0, 1) := dk_42 (dk_at dksX9_init_0 0 rfl rfl)
theorem dX9_init_1 : decode cX9_init 1 = .ok (.aload_n 1, 1) := dk_43 (dk_at dksX9_init_0 1 rfl rfl)
theorem dX9_init_2 : decode cX9_init 2 = .ok (.putfield 3, 3) := dk_181 0 3 (dk_at dksX9_init_0 2 rfl rfl)
theorem dX9_init_5 : decode cX9_init 5 = .ok (.aload_n 0, 1) := dk_42 (dk_at dksX9_init_0 5 rfl rfl)
theorem dX9_init_6 : decode cX9_init 6 = .ok (.invokespecial 9, 3) := dk_183 0 9 (dk_at dksX9_init_0 6 rfl rfl)
theorem dX9_init_9 : decode cX9_init 9 = .ok (.aload_n 0, 1) := dk_42 (dk_at dksX9_init_0 9 rfl rfl)
theorem dX9_init_10 : decode cX9_init 10 = .ok (.aload_n 0, 1) := dk_42 (dk_at dksX9_init_0 10 rfl rfl)
theorem dX9_init_11 : decode cX9_init 11 = .ok (.getfield 3, 3) := dk_180 0 3 (dk_at dksX9_init_0 11 rfl rfl)
theorem dX9_init_14 : decode cX9_init 14 = .ok (.getfield 15, 3) := dk_180 0 15 (dk_at dksX9_init_0 14 rfl rfl)
theorem dX9_init_17 : decode cX9_init 17 = .ok (.putfield 19, 3) := dk_181 0 19 (dk_at dksX9_init_0 17 rfl rfl)
theorem dX9_init_20 : decode cX9_init 20 = .ok (.aload_n 0, 1) := dk_42 (dk_at dksX9_init_0 20 rfl rfl)
theorem dX9_init_21 : decode cX9_init 21 = .ok (.iconst 2, 1) := dk_5 (dk_at dksX9_init_0 21 rfl rfl)
theorem dX9_init_22 : decode cX9_init 22 = .ok (.newarray .int, 2) := dk_188_10 (dk_at dksX9_init_0 22 rfl rfl)
theorem dX9_init_24 : decode cX9_init 24 = .ok (.putfield 22, 3) := dk_181 0 22 (dk_at dksX9_init_1 0 rfl rfl)
theorem dX9_init_27 : decode cX9_init 27 = .ok (.return_, 1) := dk_177 (dk_at dksX9_init_1 3 rfl rfl)
abbrev cX9_isWell : ByteArray := prog_5_method_6_code
def yX9_isWell : MethodName := ⟨RX9, "isWell", "()Z"⟩
def dkwX9_isWell_2 : List UInt8 := [167, 0, 4, 3, 172]
abbrev dktX9_isWell_2 : List UInt8 := dkwX9_isWell_2 ++ []
def dkwX9_isWell_1 : List UInt8 := [42, 42, 180, 0, 26, 181, 0, 76, 42, 182, 0, 99, 167, 255, 220, 42, 180, 0, 73, 154, 0, 7, 4]
abbrev dktX9_isWell_1 : List UInt8 := dkwX9_isWell_1 ++ dktX9_isWell_2
def dkwX9_isWell_0 : List UInt8 := [42, 180, 0, 73, 154, 0, 35, 42, 180, 0, 26, 42, 180, 0, 3, 180, 0, 30, 182, 0, 34, 162, 0, 18]
abbrev dktX9_isWell_0 : List UInt8 := dkwX9_isWell_0 ++ dktX9_isWell_1
theorem dksX9_isWell_0 : cX9_isWell.data.toList.drop 0 = dktX9_isWell_0 := by decide +kernel
theorem dksX9_isWell_1 : cX9_isWell.data.toList.drop 24 = dktX9_isWell_1 := dk_seg dksX9_isWell_0 24 rfl rfl
theorem dksX9_isWell_2 : cX9_isWell.data.toList.drop 47 = dktX9_isWell_2 := dk_seg dksX9_isWell_1 23 rfl rfl
theorem dX9_isWell_0 : decode cX9_isWell 0 = .ok (.aload_n 0, 1) := dk_42 (dk_at dksX9_isWell_0 0 rfl rfl)
theorem dX9_isWell_1 : decode cX9_isWell 1 = .ok (.getfield 73, 3) := dk_180 0 73 (dk_at dksX9_isWell_0 1 rfl rfl)
theorem dX9_isWell_4 : decode cX9_isWell 4 = .ok (.ifCond .ne 35, 3) := dk_154 0 35 (dk_at dksX9_isWell_0 4 rfl rfl)
theorem dX9_isWell_7 : decode cX9_isWell 7 = .ok (.aload_n 0, 1) := dk_42 (dk_at dksX9_isWell_0 7 rfl rfl)
theorem dX9_isWell_8 : decode cX9_isWell 8 = .ok (.getfield 26, 3) := dk_180 0 26 (dk_at dksX9_isWell_0 8 rfl rfl)
theorem dX9_isWell_11 : decode cX9_isWell 11 = .ok (.aload_n 0, 1) := dk_42 (dk_at dksX9_isWell_0 11 rfl rfl)
theorem dX9_isWell_12 : decode cX9_isWell 12 = .ok (.getfield 3, 3) := dk_180 0 3 (dk_at dksX9_isWell_0 12 rfl rfl)
theorem dX9_isWell_15 : decode cX9_isWell 15 = .ok (.getfield 30, 3) := dk_180 0 30 (dk_at dksX9_isWell_0 15 rfl rfl)
theorem dX9_isWell_18 : decode cX9_isWell 18 = .ok (.invokevirtual 34, 3) := dk_182 0 34 (dk_at dksX9_isWell_0 18 rfl rfl)
theorem dX9_isWell_21 : decode cX9_isWell 21 = .ok (.if_icmp .ge 18, 3) := dk_162 0 18 (dk_at dksX9_isWell_0 21 rfl rfl)
theorem dX9_isWell_24 : decode cX9_isWell 24 = .ok (.aload_n 0, 1) := dk_42 (dk_at dksX9_isWell_1 0 rfl rfl)
theorem dX9_isWell_25 : decode cX9_isWell 25 = .ok (.aload_n 0, 1) := dk_42 (dk_at dksX9_isWell_1 1 rfl rfl)
theorem dX9_isWell_26 : decode cX9_isWell 26 = .ok (.getfield 26, 3) := dk_180 0 26 (dk_at dksX9_isWell_1 2 rfl rfl)
theorem dX9_isWell_29 : decode cX9_isWell 29 = .ok (.putfield 76, 3) := dk_181 0 76 (dk_at dksX9_isWell_1 5 rfl rfl)
theorem dX9_isWell_32 : decode cX9_isWell 32 = .ok (.aload_n 0, 1) := dk_42 (dk_at dksX9_isWell_1 8 rfl rfl)
theorem dX9_isWell_33 : decode cX9_isWell 33 = .ok (.invokevirtual 99, 3) := dk_182 0 99 (dk_at dksX9_isWell_1 9 rfl rfl)
theorem dX9_isWell_36 : decode cX9_isWell 36 = .ok (.goto (-36), 3) := dk_167 255 220 (dk_at dksX9_isWell_1 12 rfl rfl)
theorem dX9_isWell_39 : decode cX9_isWell 39 = .ok (.aload_n 0, 1) := dk_42 (dk_at dksX9_isWell_1 15 rfl rfl)
theorem dX9_isWell_40 : decode cX9_isWell 40 = .ok (.getfield 73, 3) := dk_180 0 73 (dk_at dksX9_isWell_1 16 rfl rfl)
theorem dX9_isWell_43 : decode cX9_isWell 43 = .ok (.ifCond .ne 7, 3) := dk_154 0 7 (dk_at dksX9_isWell_1 19 rfl rfl)
theorem dX9_isWell_46 : decode cX9_isWell 46 = .ok (.iconst 1, 1) := dk_4 (dk_at dksX9_isWell_1 22 rfl rfl)
theorem dX9_isWell_47 : decode cX9_isWell 47 = .ok (.goto 4, 3) := dk_167 0 4 (dk_at dksX9_isWell_2 0 rfl rfl)
theorem dX9_isWell_50 : decode cX9_isWell 50 = .ok (.iconst 0, 1) := dk_3 (dk_at dksX9_isWell_2 3 rfl rfl)
theorem dX9_isWell_51 : decode cX9_isWell 51 = .ok (.ireturn, 1) := dk_172 (dk_at dksX9_isWell_2 4 rfl rfl)
abbrev cX9_one : ByteArray := prog_5_method_5_code
def yX9_one : MethodName := ⟨RX9, "one", "()V"⟩
def dkwX9_one_7 : List UInt8 := [181, 0, 73, 42, 45, 180, 0, 96, 181, 0, 79, 177]
abbrev dktX9_one_7 : List UInt8 := dkwX9_one_7 ++ []
def dkwX9_one_6 : List UInt8 := [54, 4, 42, 45, 181, 0, 19, 42, 89, 180, 0, 91, 4, 96, 181, 0, 91, 167, 0, 17, 78, 42, 5]
abbrev dktX9_one_6 : List UInt8 := dkwX9_one_6 ++ dktX9_one_7
def dkwX9_one_5 : List UInt8 := [46, 79, 187, 0, 82, 89, 42, 180, 0, 19, 183, 0, 84, 78, 45, 27, 42, 180, 0, 22, 184, 0, 87]
abbrev dktX9_one_5 : List UInt8 := dkwX9_one_5 ++ dktX9_one_6
def dkwX9_one_4 : List UInt8 := [181, 0, 79, 177, 42, 180, 0, 22, 4, 27, 16, 97, 160, 0, 7, 3, 167, 0, 9, 42, 180, 0, 22, 4]
abbrev dktX9_one_4 : List UInt8 := dkwX9_one_4 ++ dktX9_one_5
def dkwX9_one_3 : List UInt8 := [28, 182, 0, 70, 154, 0, 22, 42, 4, 181, 0, 73, 42, 42, 180, 0, 26, 42, 180, 0, 76, 100]
abbrev dktX9_one_3 : List UInt8 := dkwX9_one_3 ++ dktX9_one_4
def dkwX9_one_2 : List UInt8 := [167, 0, 4, 2, 61, 42, 89, 180, 0, 26, 28, 156, 0, 7, 3, 167, 0, 4, 4, 96, 181, 0, 26, 42]
abbrev dktX9_one_2 : List UInt8 := dkwX9_one_2 ++ dktX9_one_3
def dkwX9_one_1 : List UInt8 := [5, 167, 0, 27, 18, 68, 27, 182, 0, 62, 155, 0, 7, 4, 167, 0, 14, 27, 16, 120, 160, 0, 7, 3]
abbrev dktX9_one_1 : List UInt8 := dkwX9_one_1 ++ dktX9_one_2
def dkwX9_one_0 : List UInt8 := [42, 180, 0, 3, 180, 0, 30, 42, 180, 0, 26, 182, 0, 40, 60, 18, 60, 27, 182, 0, 62, 155, 0, 7]
abbrev dktX9_one_0 : List UInt8 := dkwX9_one_0 ++ dktX9_one_1
theorem dksX9_one_0 : cX9_one.data.toList.drop 0 = dktX9_one_0 := by decide +kernel
theorem dksX9_one_1 : cX9_one.data.toList.drop 24 = dktX9_one_1 := dk_seg dksX9_one_0 24 rfl rfl
theorem dksX9_one_2 : cX9_one.data.toList.drop 48 = dktX9_one_2 := dk_seg dksX9_one_1 24 rfl rfl
theorem dksX9_one_3 : cX9_one.data.toList.drop 72 = dktX9_one_3 := dk_seg dksX9_one_2 24 rfl rfl
theorem dksX9_one_4 : cX9_one.data.toList.drop 94 = dktX9_one_4 := dk_seg dksX9_one_3 22 rfl rfl
theorem dksX9_one_5 : cX9_one.data.toList.drop 118 = dktX9_one_5 := dk_seg dksX9_one_4 24 rfl rfl
theorem dksX9_one_6 : cX9_one.data.toList.drop 141 = dktX9_one_6 := dk_seg dksX9_one_5 23 rfl rfl
theorem dksX9_one_7 : cX9_one.data.toList.drop 164 = dktX9_one_7 := dk_seg dksX9_one_6 23 rfl rfl
theorem dX9_one_0 : decode cX9_one 0 = .ok (.aload_n 0, 1) := dk_42 (dk_at dksX9_one_0 0 rfl rfl)
theorem dX9_one_1 : decode cX9_one 1 = .ok (.getfield 3, 3) := dk_180 0 3 (dk_at dksX9_one_0 1 rfl rfl)
theorem dX9_one_4 : decode cX9_one 4 = .ok (.getfield 30, 3) := dk_180 0 30 (dk_at dksX9_one_0 4 rfl rfl)
theorem dX9_one_7 : decode cX9_one 7 = .ok (.aload_n 0, 1) := dk_42 (dk_at dksX9_one_0 7 rfl rfl)
theorem dX9_one_8 : decode cX9_one 8 = .ok (.getfield 26, 3) := dk_180 0 26 (dk_at dksX9_one_0 8 rfl rfl)
theorem dX9_one_11 : decode cX9_one 11 = .ok (.invokevirtual 40, 3) := dk_182 0 40 (dk_at dksX9_one_0 11 rfl rfl)
theorem dX9_one_14 : decode cX9_one 14 = .ok (.istore_n 1, 1) := dk_60 (dk_at dksX9_one_0 14 rfl rfl)
theorem dX9_one_15 : decode cX9_one 15 = .ok (.ldc 60, 2) := dk_18 60 (dk_at dksX9_one_0 15 rfl rfl)
theorem dX9_one_17 : decode cX9_one 17 = .ok (.iload_n 1, 1) := dk_27 (dk_at dksX9_one_0 17 rfl rfl)
theorem dX9_one_18 : decode cX9_one 18 = .ok (.invokevirtual 62, 3) := dk_182 0 62 (dk_at dksX9_one_0 18 rfl rfl)
theorem dX9_one_21 : decode cX9_one 21 = .ok (.ifCond .lt 7, 3) := dk_155 0 7 (dk_at dksX9_one_0 21 rfl rfl)
theorem dX9_one_24 : decode cX9_one 24 = .ok (.iconst 2, 1) := dk_5 (dk_at dksX9_one_1 0 rfl rfl)
theorem dX9_one_25 : decode cX9_one 25 = .ok (.goto 27, 3) := dk_167 0 27 (dk_at dksX9_one_1 1 rfl rfl)
theorem dX9_one_28 : decode cX9_one 28 = .ok (.ldc 68, 2) := dk_18 68 (dk_at dksX9_one_1 4 rfl rfl)
theorem dX9_one_30 : decode cX9_one 30 = .ok (.iload_n 1, 1) := dk_27 (dk_at dksX9_one_1 6 rfl rfl)
theorem dX9_one_31 : decode cX9_one 31 = .ok (.invokevirtual 62, 3) := dk_182 0 62 (dk_at dksX9_one_1 7 rfl rfl)
theorem dX9_one_34 : decode cX9_one 34 = .ok (.ifCond .lt 7, 3) := dk_155 0 7 (dk_at dksX9_one_1 10 rfl rfl)
theorem dX9_one_37 : decode cX9_one 37 = .ok (.iconst 1, 1) := dk_4 (dk_at dksX9_one_1 13 rfl rfl)
theorem dX9_one_38 : decode cX9_one 38 = .ok (.goto 14, 3) := dk_167 0 14 (dk_at dksX9_one_1 14 rfl rfl)
theorem dX9_one_41 : decode cX9_one 41 = .ok (.iload_n 1, 1) := dk_27 (dk_at dksX9_one_1 17 rfl rfl)
theorem dX9_one_42 : decode cX9_one 42 = .ok (.bipush 120, 2) := dk_16 120 (dk_at dksX9_one_1 18 rfl rfl)
theorem dX9_one_44 : decode cX9_one 44 = .ok (.if_icmp .ne 7, 3) := dk_160 0 7 (dk_at dksX9_one_1 20 rfl rfl)
theorem dX9_one_47 : decode cX9_one 47 = .ok (.iconst 0, 1) := dk_3 (dk_at dksX9_one_1 23 rfl rfl)
theorem dX9_one_48 : decode cX9_one 48 = .ok (.goto 4, 3) := dk_167 0 4 (dk_at dksX9_one_2 0 rfl rfl)
theorem dX9_one_51 : decode cX9_one 51 = .ok (.iconst (-1), 1) := dk_2 (dk_at dksX9_one_2 3 rfl rfl)
theorem dX9_one_52 : decode cX9_one 52 = .ok (.istore_n 2, 1) := dk_61 (dk_at dksX9_one_2 4 rfl rfl)
theorem dX9_one_53 : decode cX9_one 53 = .ok (.aload_n 0, 1) := dk_42 (dk_at dksX9_one_2 5 rfl rfl)
theorem dX9_one_54 : decode cX9_one 54 = .ok (.dup, 1) := dk_89 (dk_at dksX9_one_2 6 rfl rfl)
theorem dX9_one_55 : decode cX9_one 55 = .ok (.getfield 26, 3) := dk_180 0 26 (dk_at dksX9_one_2 7 rfl rfl)
theorem dX9_one_58 : decode cX9_one 58 = .ok (.iload_n 2, 1) := dk_28 (dk_at dksX9_one_2 10 rfl rfl)
theorem dX9_one_59 : decode cX9_one 59 = .ok (.ifCond .ge 7, 3) := dk_156 0 7 (dk_at dksX9_one_2 11 rfl rfl)
theorem dX9_one_62 : decode cX9_one 62 = .ok (.iconst 0, 1) := dk_3 (dk_at dksX9_one_2 14 rfl rfl)
theorem dX9_one_63 : decode cX9_one 63 = .ok (.goto 4, 3) := dk_167 0 4 (dk_at dksX9_one_2 15 rfl rfl)
theorem dX9_one_66 : decode cX9_one 66 = .ok (.iconst 1, 1) := dk_4 (dk_at dksX9_one_2 18 rfl rfl)
theorem dX9_one_67 : decode cX9_one 67 = .ok (.iadd, 1) := dk_96 (dk_at dksX9_one_2 19 rfl rfl)
theorem dX9_one_68 : decode cX9_one 68 = .ok (.putfield 26, 3) := dk_181 0 26 (dk_at dksX9_one_2 20 rfl rfl)
theorem dX9_one_71 : decode cX9_one 71 = .ok (.aload_n 0, 1) := dk_42 (dk_at dksX9_one_2 23 rfl rfl)
theorem dX9_one_72 : decode cX9_one 72 = .ok (.iload_n 2, 1) := dk_28 (dk_at dksX9_one_3 0 rfl rfl)
theorem dX9_one_73 : decode cX9_one 73 = .ok (.invokevirtual 70, 3) := dk_182 0 70 (dk_at dksX9_one_3 1 rfl rfl)
theorem dX9_one_76 : decode cX9_one 76 = .ok (.ifCond .ne 22, 3) := dk_154 0 22 (dk_at dksX9_one_3 4 rfl rfl)
theorem dX9_one_79 : decode cX9_one 79 = .ok (.aload_n 0, 1) := dk_42 (dk_at dksX9_one_3 7 rfl rfl)
theorem dX9_one_80 : decode cX9_one 80 = .ok (.iconst 1, 1) := dk_4 (dk_at dksX9_one_3 8 rfl rfl)
theorem dX9_one_81 : decode cX9_one 81 = .ok (.putfield 73, 3) := dk_181 0 73 (dk_at dksX9_one_3 9 rfl rfl)
theorem dX9_one_84 : decode cX9_one 84 = .ok (.aload_n 0, 1) := dk_42 (dk_at dksX9_one_3 12 rfl rfl)
theorem dX9_one_85 : decode cX9_one 85 = .ok (.aload_n 0, 1) := dk_42 (dk_at dksX9_one_3 13 rfl rfl)
theorem dX9_one_86 : decode cX9_one 86 = .ok (.getfield 26, 3) := dk_180 0 26 (dk_at dksX9_one_3 14 rfl rfl)
theorem dX9_one_89 : decode cX9_one 89 = .ok (.aload_n 0, 1) := dk_42 (dk_at dksX9_one_3 17 rfl rfl)
theorem dX9_one_90 : decode cX9_one 90 = .ok (.getfield 76, 3) := dk_180 0 76 (dk_at dksX9_one_3 18 rfl rfl)
theorem dX9_one_93 : decode cX9_one 93 = .ok (.isub, 1) := dk_100 (dk_at dksX9_one_3 21 rfl rfl)
theorem dX9_one_94 : decode cX9_one 94 = .ok (.putfield 79, 3) := dk_181 0 79 (dk_at dksX9_one_4 0 rfl rfl)
theorem dX9_one_97 : decode cX9_one 97 = .ok (.return_, 1) := dk_177 (dk_at dksX9_one_4 3 rfl rfl)
theorem dX9_one_98 : decode cX9_one 98 = .ok (.aload_n 0, 1) := dk_42 (dk_at dksX9_one_4 4 rfl rfl)
theorem dX9_one_99 : decode cX9_one 99 = .ok (.getfield 22, 3) := dk_180 0 22 (dk_at dksX9_one_4 5 rfl rfl)
theorem dX9_one_102 : decode cX9_one 102 = .ok (.iconst 1, 1) := dk_4 (dk_at dksX9_one_4 8 rfl rfl)
theorem dX9_one_103 : decode cX9_one 103 = .ok (.iload_n 1, 1) := dk_27 (dk_at dksX9_one_4 9 rfl rfl)
theorem dX9_one_104 : decode cX9_one 104 = .ok (.bipush 97, 2) := dk_16 97 (dk_at dksX9_one_4 10 rfl rfl)
theorem dX9_one_106 : decode cX9_one 106 = .ok (.if_icmp .ne 7, 3) := dk_160 0 7 (dk_at dksX9_one_4 12 rfl rfl)
theorem dX9_one_109 : decode cX9_one 109 = .ok (.iconst 0, 1) := dk_3 (dk_at dksX9_one_4 15 rfl rfl)
theorem dX9_one_110 : decode cX9_one 110 = .ok (.goto 9, 3) := dk_167 0 9 (dk_at dksX9_one_4 16 rfl rfl)
theorem dX9_one_113 : decode cX9_one 113 = .ok (.aload_n 0, 1) := dk_42 (dk_at dksX9_one_4 19 rfl rfl)
theorem dX9_one_114 : decode cX9_one 114 = .ok (.getfield 22, 3) := dk_180 0 22 (dk_at dksX9_one_4 20 rfl rfl)
theorem dX9_one_117 : decode cX9_one 117 = .ok (.iconst 1, 1) := dk_4 (dk_at dksX9_one_4 23 rfl rfl)
theorem dX9_one_118 : decode cX9_one 118 = .ok (.iaload, 1) := dk_46 (dk_at dksX9_one_5 0 rfl rfl)
theorem dX9_one_119 : decode cX9_one 119 = .ok (.iastore, 1) := dk_79 (dk_at dksX9_one_5 1 rfl rfl)
theorem dX9_one_120 : decode cX9_one 120 = .ok (.new 82, 3) := dk_187 0 82 (dk_at dksX9_one_5 2 rfl rfl)
theorem dX9_one_123 : decode cX9_one 123 = .ok (.dup, 1) := dk_89 (dk_at dksX9_one_5 5 rfl rfl)
theorem dX9_one_124 : decode cX9_one 124 = .ok (.aload_n 0, 1) := dk_42 (dk_at dksX9_one_5 6 rfl rfl)
theorem dX9_one_125 : decode cX9_one 125 = .ok (.getfield 19, 3) := dk_180 0 19 (dk_at dksX9_one_5 7 rfl rfl)
theorem dX9_one_128 : decode cX9_one 128 = .ok (.invokespecial 84, 3) := dk_183 0 84 (dk_at dksX9_one_5 10 rfl rfl)
theorem dX9_one_131 : decode cX9_one 131 = .ok (.astore_n 3, 1) := dk_78 (dk_at dksX9_one_5 13 rfl rfl)
theorem dX9_one_132 : decode cX9_one 132 = .ok (.aload_n 3, 1) := dk_45 (dk_at dksX9_one_5 14 rfl rfl)
theorem dX9_one_133 : decode cX9_one 133 = .ok (.iload_n 1, 1) := dk_27 (dk_at dksX9_one_5 15 rfl rfl)
theorem dX9_one_134 : decode cX9_one 134 = .ok (.aload_n 0, 1) := dk_42 (dk_at dksX9_one_5 16 rfl rfl)
theorem dX9_one_135 : decode cX9_one 135 = .ok (.getfield 22, 3) := dk_180 0 22 (dk_at dksX9_one_5 17 rfl rfl)
theorem dX9_one_138 : decode cX9_one 138 = .ok (.invokestatic 87, 3) := dk_184 0 87 (dk_at dksX9_one_5 20 rfl rfl)
theorem dX9_one_141 : decode cX9_one 141 = .ok (.istore 4, 2) := dk_54 4 (dk_at dksX9_one_6 0 rfl rfl)
theorem dX9_one_143 : decode cX9_one 143 = .ok (.aload_n 0, 1) := dk_42 (dk_at dksX9_one_6 2 rfl rfl)
theorem dX9_one_144 : decode cX9_one 144 = .ok (.aload_n 3, 1) := dk_45 (dk_at dksX9_one_6 3 rfl rfl)
theorem dX9_one_145 : decode cX9_one 145 = .ok (.putfield 19, 3) := dk_181 0 19 (dk_at dksX9_one_6 4 rfl rfl)
theorem dX9_one_148 : decode cX9_one 148 = .ok (.aload_n 0, 1) := dk_42 (dk_at dksX9_one_6 7 rfl rfl)
theorem dX9_one_149 : decode cX9_one 149 = .ok (.dup, 1) := dk_89 (dk_at dksX9_one_6 8 rfl rfl)
theorem dX9_one_150 : decode cX9_one 150 = .ok (.getfield 91, 3) := dk_180 0 91 (dk_at dksX9_one_6 9 rfl rfl)
theorem dX9_one_153 : decode cX9_one 153 = .ok (.iconst 1, 1) := dk_4 (dk_at dksX9_one_6 12 rfl rfl)
theorem dX9_one_154 : decode cX9_one 154 = .ok (.iadd, 1) := dk_96 (dk_at dksX9_one_6 13 rfl rfl)
theorem dX9_one_155 : decode cX9_one 155 = .ok (.putfield 91, 3) := dk_181 0 91 (dk_at dksX9_one_6 14 rfl rfl)
theorem dX9_one_158 : decode cX9_one 158 = .ok (.goto 17, 3) := dk_167 0 17 (dk_at dksX9_one_6 17 rfl rfl)
theorem dX9_one_161 : decode cX9_one 161 = .ok (.astore_n 3, 1) := dk_78 (dk_at dksX9_one_6 20 rfl rfl)
theorem dX9_one_162 : decode cX9_one 162 = .ok (.aload_n 0, 1) := dk_42 (dk_at dksX9_one_6 21 rfl rfl)
theorem dX9_one_163 : decode cX9_one 163 = .ok (.iconst 2, 1) := dk_5 (dk_at dksX9_one_6 22 rfl rfl)
theorem dX9_one_164 : decode cX9_one 164 = .ok (.putfield 73, 3) := dk_181 0 73 (dk_at dksX9_one_7 0 rfl rfl)
theorem dX9_one_167 : decode cX9_one 167 = .ok (.aload_n 0, 1) := dk_42 (dk_at dksX9_one_7 3 rfl rfl)
theorem dX9_one_168 : decode cX9_one 168 = .ok (.aload_n 3, 1) := dk_45 (dk_at dksX9_one_7 4 rfl rfl)
theorem dX9_one_169 : decode cX9_one 169 = .ok (.getfield 96, 3) := dk_180 0 96 (dk_at dksX9_one_7 5 rfl rfl)
theorem dX9_one_172 : decode cX9_one 172 = .ok (.putfield 79, 3) := dk_181 0 79 (dk_at dksX9_one_7 8 rfl rfl)
theorem dX9_one_175 : decode cX9_one 175 = .ok (.return_, 1) := dk_177 (dk_at dksX9_one_7 11 rfl rfl)
abbrev cX9_isOfForm : ByteArray := prog_5_method_4_code
def yX9_isOfForm : MethodName := ⟨RX9, "isOfForm", "(I)Z"⟩
def dkwX9_isOfForm_3 : List UInt8 := [167, 0, 4, 3, 172]
abbrev dktX9_isOfForm_3 : List UInt8 := dkwX9_isOfForm_3 ++ []
def dkwX9_isOfForm_2 : List UInt8 := [3, 61, 132, 3, 1, 167, 255, 217, 28, 153, 0, 16, 42, 16, 59, 182, 0, 52, 153, 0, 7, 4]
abbrev dktX9_isOfForm_2 : List UInt8 := dkwX9_isOfForm_2 ++ dktX9_isOfForm_3
def dkwX9_isOfForm_1 : List UInt8 := [153, 0, 12, 42, 16, 44, 182, 0, 52, 153, 0, 15, 42, 29, 182, 0, 56, 153, 0, 7, 4, 167, 0, 4]
abbrev dktX9_isOfForm_1 : List UInt8 := dkwX9_isOfForm_1 ++ dktX9_isOfForm_2
def dkwX9_isOfForm_0 : List UInt8 := [27, 155, 0, 7, 4, 167, 0, 4, 3, 61, 3, 62, 29, 27, 162, 0, 40, 28, 153, 0, 36, 29]
abbrev dktX9_isOfForm_0 : List UInt8 := dkwX9_isOfForm_0 ++ dktX9_isOfForm_1
theorem dksX9_isOfForm_0 : cX9_isOfForm.data.toList.drop 0 = dktX9_isOfForm_0 := by decide +kernel
theorem dksX9_isOfForm_1 : cX9_isOfForm.data.toList.drop 22 = dktX9_isOfForm_1 := dk_seg dksX9_isOfForm_0 22 rfl rfl
theorem dksX9_isOfForm_2 : cX9_isOfForm.data.toList.drop 46 = dktX9_isOfForm_2 := dk_seg dksX9_isOfForm_1 24 rfl rfl
theorem dksX9_isOfForm_3 : cX9_isOfForm.data.toList.drop 68 = dktX9_isOfForm_3 := dk_seg dksX9_isOfForm_2 22 rfl rfl
theorem dX9_isOfForm_0 : decode cX9_isOfForm 0 = .ok (.iload_n 1, 1) := dk_27 (dk_at dksX9_isOfForm_0 0 rfl rfl)
theorem dX9_isOfForm_1 : decode cX9_isOfForm 1 = .ok (.ifCond .lt 7, 3) := dk_155 0 7 (dk_at dksX9_isOfForm_0 1 rfl rfl)
theorem dX9_isOfForm_4 : decode cX9_isOfForm 4 = .ok (.iconst 1, 1) := dk_4 (dk_at dksX9_isOfForm_0 4 rfl rfl)
theorem dX9_isOfForm_5 : decode cX9_isOfForm 5 = .ok (.goto 4, 3) := dk_167 0 4 (dk_at dksX9_isOfForm_0 5 rfl rfl)
theorem dX9_isOfForm_8 : decode cX9_isOfForm 8 = .ok (.iconst 0, 1) := dk_3 (dk_at dksX9_isOfForm_0 8 rfl rfl)
theorem dX9_isOfForm_9 : decode cX9_isOfForm 9 = .ok (.istore_n 2, 1) := dk_61 (dk_at dksX9_isOfForm_0 9 rfl rfl)
theorem dX9_isOfForm_10 : decode cX9_isOfForm 10 = .ok (.iconst 0, 1) := dk_3 (dk_at dksX9_isOfForm_0 10 rfl rfl)
theorem dX9_isOfForm_11 : decode cX9_isOfForm 11 = .ok (.istore_n 3, 1) := dk_62 (dk_at dksX9_isOfForm_0 11 rfl rfl)
theorem dX9_isOfForm_12 : decode cX9_isOfForm 12 = .ok (.iload_n 3, 1) := dk_29 (dk_at dksX9_isOfForm_0 12 rfl rfl)
theorem dX9_isOfForm_13 : decode cX9_isOfForm 13 = .ok (.iload_n 1, 1) := dk_27 (dk_at dksX9_isOfForm_0 13 rfl rfl)
theorem dX9_isOfForm_14 : decode cX9_isOfForm 14 = .ok (.if_icmp .ge 40, 3) := dk_162 0 40 (dk_at dksX9_isOfForm_0 14 rfl rfl)
theorem dX9_isOfForm_17 : decode cX9_isOfForm 17 = .ok (.iload_n 2, 1) := dk_28 (dk_at dksX9_isOfForm_0 17 rfl rfl)
theorem dX9_isOfForm_18 : decode cX9_isOfForm 18 = .ok (.ifCond .eq 36, 3) := dk_153 0 36 (dk_at dksX9_isOfForm_0 18 rfl rfl)
theorem dX9_isOfForm_21 : decode cX9_isOfForm 21 = .ok (.iload_n 3, 1) := dk_29 (dk_at dksX9_isOfForm_0 21 rfl rfl)
theorem dX9_isOfForm_22 : decode cX9_isOfForm 22 = .ok (.ifCond .eq 12, 3) := dk_153 0 12 (dk_at dksX9_isOfForm_1 0 rfl rfl)
theorem dX9_isOfForm_25 : decode cX9_isOfForm 25 = .ok (.aload_n 0, 1) := dk_42 (dk_at dksX9_isOfForm_1 3 rfl rfl)
theorem dX9_isOfForm_26 : decode cX9_isOfForm 26 = .ok (.bipush 44, 2) := dk_16 44 (dk_at dksX9_isOfForm_1 4 rfl rfl)
theorem dX9_isOfForm_28 : decode cX9_isOfForm 28 = .ok (.invokevirtual 52, 3) := dk_182 0 52 (dk_at dksX9_isOfForm_1 6 rfl rfl)
theorem dX9_isOfForm_31 : decode cX9_isOfForm 31 = .ok (.ifCond .eq 15, 3) := dk_153 0 15 (dk_at dksX9_isOfForm_1 9 rfl rfl)
theorem dX9_isOfForm_34 : decode cX9_isOfForm 34 = .ok (.aload_n 0, 1) := dk_42 (dk_at dksX9_isOfForm_1 12 rfl rfl)
theorem dX9_isOfForm_35 : decode cX9_isOfForm 35 = .ok (.iload_n 3, 1) := dk_29 (dk_at dksX9_isOfForm_1 13 rfl rfl)
theorem dX9_isOfForm_36 : decode cX9_isOfForm 36 = .ok (.invokevirtual 56, 3) := dk_182 0 56 (dk_at dksX9_isOfForm_1 14 rfl rfl)
theorem dX9_isOfForm_39 : decode cX9_isOfForm 39 = .ok (.ifCond .eq 7, 3) := dk_153 0 7 (dk_at dksX9_isOfForm_1 17 rfl rfl)
theorem dX9_isOfForm_42 : decode cX9_isOfForm 42 = .ok (.iconst 1, 1) := dk_4 (dk_at dksX9_isOfForm_1 20 rfl rfl)
theorem dX9_isOfForm_43 : decode cX9_isOfForm 43 = .ok (.goto 4, 3) := dk_167 0 4 (dk_at dksX9_isOfForm_1 21 rfl rfl)
theorem dX9_isOfForm_46 : decode cX9_isOfForm 46 = .ok (.iconst 0, 1) := dk_3 (dk_at dksX9_isOfForm_2 0 rfl rfl)
theorem dX9_isOfForm_47 : decode cX9_isOfForm 47 = .ok (.istore_n 2, 1) := dk_61 (dk_at dksX9_isOfForm_2 1 rfl rfl)
theorem dX9_isOfForm_48 : decode cX9_isOfForm 48 = .ok (.iinc 3 1, 3) := dk_132 3 1 (dk_at dksX9_isOfForm_2 2 rfl rfl)
theorem dX9_isOfForm_51 : decode cX9_isOfForm 51 = .ok (.goto (-39), 3) := dk_167 255 217 (dk_at dksX9_isOfForm_2 5 rfl rfl)
theorem dX9_isOfForm_54 : decode cX9_isOfForm 54 = .ok (.iload_n 2, 1) := dk_28 (dk_at dksX9_isOfForm_2 8 rfl rfl)
theorem dX9_isOfForm_55 : decode cX9_isOfForm 55 = .ok (.ifCond .eq 16, 3) := dk_153 0 16 (dk_at dksX9_isOfForm_2 9 rfl rfl)
theorem dX9_isOfForm_58 : decode cX9_isOfForm 58 = .ok (.aload_n 0, 1) := dk_42 (dk_at dksX9_isOfForm_2 12 rfl rfl)
theorem dX9_isOfForm_59 : decode cX9_isOfForm 59 = .ok (.bipush 59, 2) := dk_16 59 (dk_at dksX9_isOfForm_2 13 rfl rfl)
theorem dX9_isOfForm_61 : decode cX9_isOfForm 61 = .ok (.invokevirtual 52, 3) := dk_182 0 52 (dk_at dksX9_isOfForm_2 15 rfl rfl)
theorem dX9_isOfForm_64 : decode cX9_isOfForm 64 = .ok (.ifCond .eq 7, 3) := dk_153 0 7 (dk_at dksX9_isOfForm_2 18 rfl rfl)
theorem dX9_isOfForm_67 : decode cX9_isOfForm 67 = .ok (.iconst 1, 1) := dk_4 (dk_at dksX9_isOfForm_2 21 rfl rfl)
theorem dX9_isOfForm_68 : decode cX9_isOfForm 68 = .ok (.goto 4, 3) := dk_167 0 4 (dk_at dksX9_isOfForm_3 0 rfl rfl)
theorem dX9_isOfForm_71 : decode cX9_isOfForm 71 = .ok (.iconst 0, 1) := dk_3 (dk_at dksX9_isOfForm_3 3 rfl rfl)
theorem dX9_isOfForm_72 : decode cX9_isOfForm 72 = .ok (.ireturn, 1) := dk_172 (dk_at dksX9_isOfForm_3 4 rfl rfl)
abbrev cX9_accepts : ByteArray := prog_5_method_2_code
def yX9_accepts : MethodName := ⟨RX9, "accepts", "(C)Z"⟩
def dkwX9_accepts_2 : List UInt8 := [153, 0, 7, 4, 167, 0, 4, 3, 96, 181, 0, 26, 28, 172]
abbrev dktX9_accepts_2 : List UInt8 := dkwX9_accepts_2 ++ []
def dkwX9_accepts_1 : List UInt8 := [42, 180, 0, 26, 182, 0, 40, 27, 160, 0, 7, 4, 167, 0, 4, 3, 61, 42, 89, 180, 0, 26, 28]
abbrev dktX9_accepts_1 : List UInt8 := dkwX9_accepts_1 ++ dktX9_accepts_2
def dkwX9_accepts_0 : List UInt8 := [42, 180, 0, 26, 42, 180, 0, 3, 180, 0, 30, 182, 0, 34, 162, 0, 25, 42, 180, 0, 3, 180, 0, 30]
abbrev dktX9_accepts_0 : List UInt8 := dkwX9_accepts_0 ++ dktX9_accepts_1
theorem dksX9_accepts_0 : cX9_accepts.data.toList.drop 0 = dktX9_accepts_0 := by decide +kernel
theorem dksX9_accepts_1 : cX9_accepts.data.toList.drop 24 = dktX9_accepts_1 := dk_seg dksX9_accepts_0 24 rfl rfl
theorem dksX9_accepts_2 : cX9_accepts.data.toList.drop 47 = dktX9_accepts_2 := dk_seg dksX9_accepts_1 23 rfl rfl
theorem dX9_accepts_0 : decode cX9_accepts 0 = .ok (.aload_n 0, 1) := dk_42 (dk_at dksX9_accepts_0 0 rfl rfl)
theorem dX9_accepts_1 : decode cX9_accepts 1 = .ok (.getfield 26, 3) := dk_180 0 26 (dk_at dksX9_accepts_0 1 rfl rfl)
theorem dX9_accepts_4 : decode cX9_accepts 4 = .ok (.aload_n 0, 1) := dk_42 (dk_at dksX9_accepts_0 4 rfl rfl)
theorem dX9_accepts_5 : decode cX9_accepts 5 = .ok (.getfield 3, 3) := dk_180 0 3 (dk_at dksX9_accepts_0 5 rfl rfl)
theorem dX9_accepts_8 : decode cX9_accepts 8 = .ok (.getfield 30, 3) := dk_180 0 30 (dk_at dksX9_accepts_0 8 rfl rfl)
theorem dX9_accepts_11 : decode cX9_accepts 11 = .ok (.invokevirtual 34, 3) := dk_182 0 34 (dk_at dksX9_accepts_0 11 rfl rfl)
theorem dX9_accepts_14 : decode cX9_accepts 14 = .ok (.if_icmp .ge 25, 3) := dk_162 0 25 (dk_at dksX9_accepts_0 14 rfl rfl)
theorem dX9_accepts_17 : decode cX9_accepts 17 = .ok (.aload_n 0, 1) := dk_42 (dk_at dksX9_accepts_0 17 rfl rfl)
theorem dX9_accepts_18 : decode cX9_accepts 18 = .ok (.getfield 3, 3) := dk_180 0 3 (dk_at dksX9_accepts_0 18 rfl rfl)
theorem dX9_accepts_21 : decode cX9_accepts 21 = .ok (.getfield 30, 3) := dk_180 0 30 (dk_at dksX9_accepts_0 21 rfl rfl)
theorem dX9_accepts_24 : decode cX9_accepts 24 = .ok (.aload_n 0, 1) := dk_42 (dk_at dksX9_accepts_1 0 rfl rfl)
theorem dX9_accepts_25 : decode cX9_accepts 25 = .ok (.getfield 26, 3) := dk_180 0 26 (dk_at dksX9_accepts_1 1 rfl rfl)
theorem dX9_accepts_28 : decode cX9_accepts 28 = .ok (.invokevirtual 40, 3) := dk_182 0 40 (dk_at dksX9_accepts_1 4 rfl rfl)
theorem dX9_accepts_31 : decode cX9_accepts 31 = .ok (.iload_n 1, 1) := dk_27 (dk_at dksX9_accepts_1 7 rfl rfl)
theorem dX9_accepts_32 : decode cX9_accepts 32 = .ok (.if_icmp .ne 7, 3) := dk_160 0 7 (dk_at dksX9_accepts_1 8 rfl rfl)
theorem dX9_accepts_35 : decode cX9_accepts 35 = .ok (.iconst 1, 1) := dk_4 (dk_at dksX9_accepts_1 11 rfl rfl)
theorem dX9_accepts_36 : decode cX9_accepts 36 = .ok (.goto 4, 3) := dk_167 0 4 (dk_at dksX9_accepts_1 12 rfl rfl)
theorem dX9_accepts_39 : decode cX9_accepts 39 = .ok (.iconst 0, 1) := dk_3 (dk_at dksX9_accepts_1 15 rfl rfl)
theorem dX9_accepts_40 : decode cX9_accepts 40 = .ok (.istore_n 2, 1) := dk_61 (dk_at dksX9_accepts_1 16 rfl rfl)
theorem dX9_accepts_41 : decode cX9_accepts 41 = .ok (.aload_n 0, 1) := dk_42 (dk_at dksX9_accepts_1 17 rfl rfl)
theorem dX9_accepts_42 : decode cX9_accepts 42 = .ok (.dup, 1) := dk_89 (dk_at dksX9_accepts_1 18 rfl rfl)
theorem dX9_accepts_43 : decode cX9_accepts 43 = .ok (.getfield 26, 3) := dk_180 0 26 (dk_at dksX9_accepts_1 19 rfl rfl)
theorem dX9_accepts_46 : decode cX9_accepts 46 = .ok (.iload_n 2, 1) := dk_28 (dk_at dksX9_accepts_1 22 rfl rfl)
theorem dX9_accepts_47 : decode cX9_accepts 47 = .ok (.ifCond .eq 7, 3) := dk_153 0 7 (dk_at dksX9_accepts_2 0 rfl rfl)
theorem dX9_accepts_50 : decode cX9_accepts 50 = .ok (.iconst 1, 1) := dk_4 (dk_at dksX9_accepts_2 3 rfl rfl)
theorem dX9_accepts_51 : decode cX9_accepts 51 = .ok (.goto 4, 3) := dk_167 0 4 (dk_at dksX9_accepts_2 4 rfl rfl)
theorem dX9_accepts_54 : decode cX9_accepts 54 = .ok (.iconst 0, 1) := dk_3 (dk_at dksX9_accepts_2 7 rfl rfl)
theorem dX9_accepts_55 : decode cX9_accepts 55 = .ok (.iadd, 1) := dk_96 (dk_at dksX9_accepts_2 8 rfl rfl)
theorem dX9_accepts_56 : decode cX9_accepts 56 = .ok (.putfield 26, 3) := dk_181 0 26 (dk_at dksX9_accepts_2 9 rfl rfl)
theorem dX9_accepts_59 : decode cX9_accepts 59 = .ok (.iload_n 2, 1) := dk_28 (dk_at dksX9_accepts_2 12 rfl rfl)
theorem dX9_accepts_60 : decode cX9_accepts 60 = .ok (.ireturn, 1) := dk_172 (dk_at dksX9_accepts_2 13 rfl rfl)
abbrev cX9_reads : ByteArray := prog_5_method_3_code
def yX9_reads : MethodName := ⟨RX9, "reads", "(I)Z"⟩
def dkwX9_reads_4 : List UInt8 := [42, 89, 180, 0, 26, 4, 96, 181, 0, 26, 167, 255, 161, 28, 158, 0, 7, 4, 167, 0, 4, 3, 172]
abbrev dktX9_reads_4 : List UInt8 := dkwX9_reads_4 ++ []
def dkwX9_reads_3 : List UInt8 := [46, 104, 42, 180, 0, 3, 180, 0, 30, 42, 180, 0, 26, 182, 0, 40, 96, 16, 48, 100, 79, 132, 2, 1]
abbrev dktX9_reads_3 : List UInt8 := dkwX9_reads_3 ++ dktX9_reads_4
def dkwX9_reads_2 : List UInt8 := [20, 0, 44, 20, 0, 46, 184, 0, 48, 153, 0, 52, 42, 180, 0, 22, 27, 16, 10, 42, 180, 0, 22, 27]
abbrev dktX9_reads_2 : List UInt8 := dkwX9_reads_2 ++ dktX9_reads_3
def dkwX9_reads_1 : List UInt8 := [180, 0, 30, 182, 0, 34, 162, 0, 79, 42, 180, 0, 3, 180, 0, 30, 42, 180, 0, 26, 182, 0, 40, 133]
abbrev dktX9_reads_1 : List UInt8 := dkwX9_reads_1 ++ dktX9_reads_2
def dkwX9_reads_0 : List UInt8 := [3, 61, 42, 180, 0, 22, 27, 3, 79, 28, 7, 162, 0, 96, 42, 180, 0, 26, 42, 180, 0, 3]
abbrev dktX9_reads_0 : List UInt8 := dkwX9_reads_0 ++ dktX9_reads_1
theorem dksX9_reads_0 : cX9_reads.data.toList.drop 0 = dktX9_reads_0 := by decide +kernel
theorem dksX9_reads_1 : cX9_reads.data.toList.drop 22 = dktX9_reads_1 := dk_seg dksX9_reads_0 22 rfl rfl
theorem dksX9_reads_2 : cX9_reads.data.toList.drop 46 = dktX9_reads_2 := dk_seg dksX9_reads_1 24 rfl rfl
theorem dksX9_reads_3 : cX9_reads.data.toList.drop 70 = dktX9_reads_3 := dk_seg dksX9_reads_2 24 rfl rfl
theorem dksX9_reads_4 : cX9_reads.data.toList.drop 94 = dktX9_reads_4 := dk_seg dksX9_reads_3 24 rfl rfl
theorem dX9_reads_0 : decode cX9_reads 0 = .ok (.iconst 0, 1) := dk_3 (dk_at dksX9_reads_0 0 rfl rfl)
theorem dX9_reads_1 : decode cX9_reads 1 = .ok (.istore_n 2, 1) := dk_61 (dk_at dksX9_reads_0 1 rfl rfl)
theorem dX9_reads_2 : decode cX9_reads 2 = .ok (.aload_n 0, 1) := dk_42 (dk_at dksX9_reads_0 2 rfl rfl)
theorem dX9_reads_3 : decode cX9_reads 3 = .ok (.getfield 22, 3) := dk_180 0 22 (dk_at dksX9_reads_0 3 rfl rfl)
theorem dX9_reads_6 : decode cX9_reads 6 = .ok (.iload_n 1, 1) := dk_27 (dk_at dksX9_reads_0 6 rfl rfl)
theorem dX9_reads_7 : decode cX9_reads 7 = .ok (.iconst 0, 1) := dk_3 (dk_at dksX9_reads_0 7 rfl rfl)
theorem dX9_reads_8 : decode cX9_reads 8 = .ok (.iastore, 1) := dk_79 (dk_at dksX9_reads_0 8 rfl rfl)
theorem dX9_reads_9 : decode cX9_reads 9 = .ok (.iload_n 2, 1) := dk_28 (dk_at dksX9_reads_0 9 rfl rfl)
theorem dX9_reads_10 : decode cX9_reads 10 = .ok (.iconst 4, 1) := dk_7 (dk_at dksX9_reads_0 10 rfl rfl)
theorem dX9_reads_11 : decode cX9_reads 11 = .ok (.if_icmp .ge 96, 3) := dk_162 0 96 (dk_at dksX9_reads_0 11 rfl rfl)
theorem dX9_reads_14 : decode cX9_reads 14 = .ok (.aload_n 0, 1) := dk_42 (dk_at dksX9_reads_0 14 rfl rfl)
theorem dX9_reads_15 : decode cX9_reads 15 = .ok (.getfield 26, 3) := dk_180 0 26 (dk_at dksX9_reads_0 15 rfl rfl)
theorem dX9_reads_18 : decode cX9_reads 18 = .ok (.aload_n 0, 1) := dk_42 (dk_at dksX9_reads_0 18 rfl rfl)
theorem dX9_reads_19 : decode cX9_reads 19 = .ok (.getfield 3, 3) := dk_180 0 3 (dk_at dksX9_reads_0 19 rfl rfl)
theorem dX9_reads_22 : decode cX9_reads 22 = .ok (.getfield 30, 3) := dk_180 0 30 (dk_at dksX9_reads_1 0 rfl rfl)
theorem dX9_reads_25 : decode cX9_reads 25 = .ok (.invokevirtual 34, 3) := dk_182 0 34 (dk_at dksX9_reads_1 3 rfl rfl)
theorem dX9_reads_28 : decode cX9_reads 28 = .ok (.if_icmp .ge 79, 3) := dk_162 0 79 (dk_at dksX9_reads_1 6 rfl rfl)
theorem dX9_reads_31 : decode cX9_reads 31 = .ok (.aload_n 0, 1) := dk_42 (dk_at dksX9_reads_1 9 rfl rfl)
theorem dX9_reads_32 : decode cX9_reads 32 = .ok (.getfield 3, 3) := dk_180 0 3 (dk_at dksX9_reads_1 10 rfl rfl)
theorem dX9_reads_35 : decode cX9_reads 35 = .ok (.getfield 30, 3) := dk_180 0 30 (dk_at dksX9_reads_1 13 rfl rfl)
theorem dX9_reads_38 : decode cX9_reads 38 = .ok (.aload_n 0, 1) := dk_42 (dk_at dksX9_reads_1 16 rfl rfl)
theorem dX9_reads_39 : decode cX9_reads 39 = .ok (.getfield 26, 3) := dk_180 0 26 (dk_at dksX9_reads_1 17 rfl rfl)
theorem dX9_reads_42 : decode cX9_reads 42 = .ok (.invokevirtual 40, 3) := dk_182 0 40 (dk_at dksX9_reads_1 20 rfl rfl)
theorem dX9_reads_45 : decode cX9_reads 45 = .ok (.i2l, 1) := dk_133 (dk_at dksX9_reads_1 23 rfl rfl)
theorem dX9_reads_46 : decode cX9_reads 46 = .ok (.ldc2_w 44, 3) := dk_20 0 44 (dk_at dksX9_reads_2 0 rfl rfl)
theorem dX9_reads_49 : decode cX9_reads 49 = .ok (.ldc2_w 46, 3) := dk_20 0 46 (dk_at dksX9_reads_2 3 rfl rfl)
theorem dX9_reads_52 : decode cX9_reads 52 = .ok (.invokestatic 48, 3) := dk_184 0 48 (dk_at dksX9_reads_2 6 rfl rfl)
theorem dX9_reads_55 : decode cX9_reads 55 = .ok (.ifCond .eq 52, 3) := dk_153 0 52 (dk_at dksX9_reads_2 9 rfl rfl)
theorem dX9_reads_58 : decode cX9_reads 58 = .ok (.aload_n 0, 1) := dk_42 (dk_at dksX9_reads_2 12 rfl rfl)
theorem dX9_reads_59 : decode cX9_reads 59 = .ok (.getfield 22, 3) := dk_180 0 22 (dk_at dksX9_reads_2 13 rfl rfl)
theorem dX9_reads_62 : decode cX9_reads 62 = .ok (.iload_n 1, 1) := dk_27 (dk_at dksX9_reads_2 16 rfl rfl)
theorem dX9_reads_63 : decode cX9_reads 63 = .ok (.bipush 10, 2) := dk_16 10 (dk_at dksX9_reads_2 17 rfl rfl)
theorem dX9_reads_65 : decode cX9_reads 65 = .ok (.aload_n 0, 1) := dk_42 (dk_at dksX9_reads_2 19 rfl rfl)
theorem dX9_reads_66 : decode cX9_reads 66 = .ok (.getfield 22, 3) := dk_180 0 22 (dk_at dksX9_reads_2 20 rfl rfl)
theorem dX9_reads_69 : decode cX9_reads 69 = .ok (.iload_n 1, 1) := dk_27 (dk_at dksX9_reads_2 23 rfl rfl)
theorem dX9_reads_70 : decode cX9_reads 70 = .ok (.iaload, 1) := dk_46 (dk_at dksX9_reads_3 0 rfl rfl)
theorem dX9_reads_71 : decode cX9_reads 71 = .ok (.imul, 1) := dk_104 (dk_at dksX9_reads_3 1 rfl rfl)
theorem dX9_reads_72 : decode cX9_reads 72 = .ok (.aload_n 0, 1) := dk_42 (dk_at dksX9_reads_3 2 rfl rfl)
theorem dX9_reads_73 : decode cX9_reads 73 = .ok (.getfield 3, 3) := dk_180 0 3 (dk_at dksX9_reads_3 3 rfl rfl)
theorem dX9_reads_76 : decode cX9_reads 76 = .ok (.getfield 30, 3) := dk_180 0 30 (dk_at dksX9_reads_3 6 rfl rfl)
theorem dX9_reads_79 : decode cX9_reads 79 = .ok (.aload_n 0, 1) := dk_42 (dk_at dksX9_reads_3 9 rfl rfl)
theorem dX9_reads_80 : decode cX9_reads 80 = .ok (.getfield 26, 3) := dk_180 0 26 (dk_at dksX9_reads_3 10 rfl rfl)
theorem dX9_reads_83 : decode cX9_reads 83 = .ok (.invokevirtual 40, 3) := dk_182 0 40 (dk_at dksX9_reads_3 13 rfl rfl)
theorem dX9_reads_86 : decode cX9_reads 86 = .ok (.iadd, 1) := dk_96 (dk_at dksX9_reads_3 16 rfl rfl)
theorem dX9_reads_87 : decode cX9_reads 87 = .ok (.bipush 48, 2) := dk_16 48 (dk_at dksX9_reads_3 17 rfl rfl)
theorem dX9_reads_89 : decode cX9_reads 89 = .ok (.isub, 1) := dk_100 (dk_at dksX9_reads_3 19 rfl rfl)
theorem dX9_reads_90 : decode cX9_reads 90 = .ok (.iastore, 1) := dk_79 (dk_at dksX9_reads_3 20 rfl rfl)
theorem dX9_reads_91 : decode cX9_reads 91 = .ok (.iinc 2 1, 3) := dk_132 2 1 (dk_at dksX9_reads_3 21 rfl rfl)
theorem dX9_reads_94 : decode cX9_reads 94 = .ok (.aload_n 0, 1) := dk_42 (dk_at dksX9_reads_4 0 rfl rfl)
theorem dX9_reads_95 : decode cX9_reads 95 = .ok (.dup, 1) := dk_89 (dk_at dksX9_reads_4 1 rfl rfl)
theorem dX9_reads_96 : decode cX9_reads 96 = .ok (.getfield 26, 3) := dk_180 0 26 (dk_at dksX9_reads_4 2 rfl rfl)
theorem dX9_reads_99 : decode cX9_reads 99 = .ok (.iconst 1, 1) := dk_4 (dk_at dksX9_reads_4 5 rfl rfl)
theorem dX9_reads_100 : decode cX9_reads 100 = .ok (.iadd, 1) := dk_96 (dk_at dksX9_reads_4 6 rfl rfl)
theorem dX9_reads_101 : decode cX9_reads 101 = .ok (.putfield 26, 3) := dk_181 0 26 (dk_at dksX9_reads_4 7 rfl rfl)
theorem dX9_reads_104 : decode cX9_reads 104 = .ok (.goto (-95), 3) := dk_167 255 161 (dk_at dksX9_reads_4 10 rfl rfl)
theorem dX9_reads_107 : decode cX9_reads 107 = .ok (.iload_n 2, 1) := dk_28 (dk_at dksX9_reads_4 13 rfl rfl)
theorem dX9_reads_108 : decode cX9_reads 108 = .ok (.ifCond .le 7, 3) := dk_158 0 7 (dk_at dksX9_reads_4 14 rfl rfl)
theorem dX9_reads_111 : decode cX9_reads 111 = .ok (.iconst 1, 1) := dk_4 (dk_at dksX9_reads_4 17 rfl rfl)
theorem dX9_reads_112 : decode cX9_reads 112 = .ok (.goto 4, 3) := dk_167 0 4 (dk_at dksX9_reads_4 18 rfl rfl)
theorem dX9_reads_115 : decode cX9_reads 115 = .ok (.iconst 0, 1) := dk_3 (dk_at dksX9_reads_4 21 rfl rfl)
theorem dX9_reads_116 : decode cX9_reads 116 = .ok (.ireturn, 1) := dk_172 (dk_at dksX9_reads_4 22 rfl rfl)
theorem q108 : (Jvm.Cond.initialized "ClockworkOrreries$Reader") ∈ lw_all := lw_g (lw_at lw_m1 34 rfl) rfl
theorem q243 : (Jvm.Cond.fieldLinkNest "ClockworkOrreries$Reader" (15 : Nat) "ClockworkOrreries" "works" "LClockworkOrreries$Works;" "ClockworkOrreries") ∈ lw_tbl := lw_at lw_m1 169 rfl
theorem q247 : (Jvm.Cond.fieldLinkNest "ClockworkOrreries$Reader" (30 : Nat) "ClockworkOrreries" "text" "Ljava/lang/StringBuilder;" "ClockworkOrreries") ∈ lw_tbl := lw_at lw_m1 173 rfl
theorem q787 : (Jvm.Cond.selects "ClockworkOrreries$Reader" ({ cls := "java/lang/Object", name := "getClass", desc := "()Ljava/lang/Class;" } : Jvm.MethodName) ({ cls := "java/lang/Object", name := "getClass", desc := "()Ljava/lang/Class;" } : Jvm.MethodName)) ∈ lw_all := lw_g (lw_at lw_m3 233 rfl) rfl
theorem q833 : (Jvm.Cond.fieldLinkNest "ClockworkOrreries$Reader" (96 : Nat) "ClockworkOrreries$Refused" "kind" "I" "ClockworkOrreries") ∈ lw_tbl := lw_at lw_m4 39 rfl
theorem q1576 : (Jvm.Cond.instantiable "ClockworkOrreries$Reader" (8 : Nat)) ∈ lw_all := lw_g (lw_at lw_m7 62 rfl) rfl
theorem q1578 : (Jvm.Cond.instanceMethod ({ cls := "ClockworkOrreries$Reader", name := "<init>", desc := "(LClockworkOrreries;)V" } : Jvm.MethodName)) ∈ lw_all := lw_g (lw_at lw_m7 64 rfl) rfl
theorem q1579 : (Jvm.Cond.code ({ cls := "ClockworkOrreries$Reader", name := "<init>", desc := "(LClockworkOrreries;)V" } : Jvm.MethodName) prog_5_method_1_code (2 : Nat) (Option.none : Option Jvm.ClassFile.FieldType)) ∈ lw_all := lw_g (lw_at lw_m7 65 rfl) rfl
theorem q1580 : (Jvm.Cond.methodLink "ClockworkOrreries$Reader" (9 : Nat) ({ cls := "java/lang/Object", name := "<init>", desc := "()V" } : Jvm.MethodName)) ∈ lw_all := lw_g (lw_at lw_m7 66 rfl) rfl
theorem q1581 : (Jvm.Cond.fieldLink "ClockworkOrreries$Reader" (19 : Nat) "ClockworkOrreries$Reader" "trial" "LClockworkOrreries$Works;") ∈ lw_all := lw_g (lw_at lw_m7 67 rfl) rfl
theorem q1583 : (Jvm.Cond.fieldLink "ClockworkOrreries$Reader" (22 : Nat) "ClockworkOrreries$Reader" "numbers" "[I") ∈ lw_all := lw_g (lw_at lw_m7 69 rfl) rfl
theorem q1584 : (Jvm.Cond.fieldLink "ClockworkOrreries$Reader" (26 : Nat) "ClockworkOrreries$Reader" "at" "I") ∈ lw_all := lw_g (lw_at lw_m7 70 rfl) rfl
theorem q1585 : (Jvm.Cond.fieldLink "ClockworkOrreries$Reader" (76 : Nat) "ClockworkOrreries$Reader" "begins" "I") ∈ lw_all := lw_g (lw_at lw_m7 71 rfl) rfl
theorem q1587 : (Jvm.Cond.fieldLink "ClockworkOrreries$Reader" (73 : Nat) "ClockworkOrreries$Reader" "reason" "I") ∈ lw_all := lw_g (lw_at lw_m7 73 rfl) rfl
theorem q1589 : (Jvm.Cond.fieldLink "ClockworkOrreries$Reader" (79 : Nat) "ClockworkOrreries$Reader" "cause" "I") ∈ lw_all := lw_g (lw_at lw_m7 75 rfl) rfl
theorem q1591 : (Jvm.Cond.fieldLink "ClockworkOrreries$Reader" (91 : Nat) "ClockworkOrreries$Reader" "many" "I") ∈ lw_all := lw_g (lw_at lw_m7 77 rfl) rfl
theorem q1593 : (Jvm.Cond.fieldLink "ClockworkOrreries$Reader" (3 : Nat) "ClockworkOrreries$Reader" "this$0" "LClockworkOrreries;") ∈ lw_all := lw_g (lw_at lw_m7 79 rfl) rfl
theorem q1594 : (Jvm.Cond.lays "ClockworkOrreries$Reader" "ClockworkOrreries$Reader" "trial" "LClockworkOrreries$Works;") ∈ lw_all := lw_g (lw_at lw_m7 80 rfl) rfl
theorem q1595 : (Jvm.Cond.soleField "ClockworkOrreries$Reader" "trial") ∈ lw_all := lw_g (lw_at lw_m7 81 rfl) rfl
theorem q1596 : (Jvm.Cond.laysFinal "ClockworkOrreries$Reader" "ClockworkOrreries$Reader" "numbers" "[I") ∈ lw_all := lw_g (lw_at lw_m7 82 rfl) rfl
theorem q1597 : (Jvm.Cond.soleField "ClockworkOrreries$Reader" "numbers") ∈ lw_all := lw_g (lw_at lw_m7 83 rfl) rfl
theorem q1598 : (Jvm.Cond.lays "ClockworkOrreries$Reader" "ClockworkOrreries$Reader" "at" "I") ∈ lw_all := lw_g (lw_at lw_m7 84 rfl) rfl
theorem q1599 : (Jvm.Cond.soleField "ClockworkOrreries$Reader" "at") ∈ lw_all := lw_g (lw_at lw_m7 85 rfl) rfl
theorem q1600 : (Jvm.Cond.lays "ClockworkOrreries$Reader" "ClockworkOrreries$Reader" "begins" "I") ∈ lw_all := lw_g (lw_at lw_m7 86 rfl) rfl
theorem q1601 : (Jvm.Cond.soleField "ClockworkOrreries$Reader" "begins") ∈ lw_all := lw_g (lw_at lw_m7 87 rfl) rfl
theorem q1602 : (Jvm.Cond.lays "ClockworkOrreries$Reader" "ClockworkOrreries$Reader" "reason" "I") ∈ lw_all := lw_g (lw_at lw_m7 88 rfl) rfl
theorem q1603 : (Jvm.Cond.soleField "ClockworkOrreries$Reader" "reason") ∈ lw_all := lw_g (lw_at lw_m7 89 rfl) rfl
theorem q1604 : (Jvm.Cond.lays "ClockworkOrreries$Reader" "ClockworkOrreries$Reader" "cause" "I") ∈ lw_all := lw_g (lw_at lw_m7 90 rfl) rfl
theorem q1605 : (Jvm.Cond.soleField "ClockworkOrreries$Reader" "cause") ∈ lw_all := lw_g (lw_at lw_m7 91 rfl) rfl
theorem q1606 : (Jvm.Cond.lays "ClockworkOrreries$Reader" "ClockworkOrreries$Reader" "many" "I") ∈ lw_all := lw_g (lw_at lw_m7 92 rfl) rfl
theorem q1607 : (Jvm.Cond.soleField "ClockworkOrreries$Reader" "many") ∈ lw_all := lw_g (lw_at lw_m7 93 rfl) rfl
theorem q1608 : (Jvm.Cond.laysFinal "ClockworkOrreries$Reader" "ClockworkOrreries$Reader" "this$0" "LClockworkOrreries;") ∈ lw_all := lw_g (lw_at lw_m7 94 rfl) rfl
theorem q1609 : (Jvm.Cond.soleField "ClockworkOrreries$Reader" "this$0") ∈ lw_all := lw_g (lw_at lw_m7 95 rfl) rfl
theorem q1610 : (Jvm.Cond.superclass "ClockworkOrreries$Reader" "java/lang/Object") ∈ lw_all := lw_g (lw_at lw_m7 96 rfl) rfl
theorem q1612 : (Jvm.Cond.instanceMethod ({ cls := "ClockworkOrreries$Reader", name := "isWell", desc := "()Z" } : Jvm.MethodName)) ∈ lw_all := lw_g (lw_at lw_m7 98 rfl) rfl
theorem q1613 : (Jvm.Cond.selects "ClockworkOrreries$Reader" ({ cls := "ClockworkOrreries$Reader", name := "isWell", desc := "()Z" } : Jvm.MethodName) ({ cls := "ClockworkOrreries$Reader", name := "isWell", desc := "()Z" } : Jvm.MethodName)) ∈ lw_all := lw_g (lw_at lw_m7 99 rfl) rfl
theorem q1614 : (Jvm.Cond.code ({ cls := "ClockworkOrreries$Reader", name := "isWell", desc := "()Z" } : Jvm.MethodName) prog_5_method_6_code (1 : Nat) (Option.some Jvm.ClassFile.FieldType.boolean)) ∈ lw_all := lw_g (lw_at lw_m7 100 rfl) rfl
theorem q1615 : (Jvm.Cond.methodLink "ClockworkOrreries$Reader" (34 : Nat) ({ cls := "java/lang/StringBuilder", name := "length", desc := "()I" } : Jvm.MethodName)) ∈ lw_all := lw_g (lw_at lw_m7 101 rfl) rfl
theorem q1616 : (Jvm.Cond.methodLink "ClockworkOrreries$Reader" (99 : Nat) ({ cls := "ClockworkOrreries$Reader", name := "one", desc := "()V" } : Jvm.MethodName)) ∈ lw_all := lw_g (lw_at lw_m7 102 rfl) rfl
theorem q1617 : (Jvm.Cond.privateMethod ({ cls := "ClockworkOrreries$Reader", name := "one", desc := "()V" } : Jvm.MethodName)) ∈ lw_tbl := lw_at lw_m7 103 rfl
theorem q1618 : (Jvm.Cond.instanceMethod ({ cls := "ClockworkOrreries$Reader", name := "one", desc := "()V" } : Jvm.MethodName)) ∈ lw_all := lw_g (lw_at lw_m7 104 rfl) rfl
theorem q1619 : (Jvm.Cond.codeWith ({ cls := "ClockworkOrreries$Reader", name := "one", desc := "()V" } : Jvm.MethodName) prog_5_method_5_code (5 : Nat) (Option.none : Option Jvm.ClassFile.FieldType) [((120 : Nat), (158 : Nat), (161 : Nat), (94 : Nat))]) ∈ lw_all := lw_g (lw_at lw_m7 105 rfl) rfl
theorem q1620 : (Jvm.Cond.classLink "ClockworkOrreries$Reader" (94 : Nat) "ClockworkOrreries$Refused") ∈ lw_all := lw_g (lw_at lw_m7 106 rfl) rfl
theorem q1621 : (Jvm.Cond.methodLink "ClockworkOrreries$Reader" (40 : Nat) ({ cls := "java/lang/StringBuilder", name := "charAt", desc := "(I)C" } : Jvm.MethodName)) ∈ lw_all := lw_g (lw_at lw_m7 107 rfl) rfl
theorem q1631 : (Jvm.Cond.stringRef "ClockworkOrreries$Reader" (60 : Nat) "wmt") ∈ lw_tbl := lw_at lw_m7 117 rfl
theorem q1632 : (Jvm.Cond.methodLink "ClockworkOrreries$Reader" (62 : Nat) ({ cls := "java/lang/String", name := "indexOf", desc := "(I)I" } : Jvm.MethodName)) ∈ lw_all := lw_g (lw_at lw_m7 118 rfl) rfl
theorem q1682 : (Jvm.Cond.stringRef "ClockworkOrreries$Reader" (68 : Nat) "ad") ∈ lw_tbl := lw_at lw_m7 168 rfl
theorem q1683 : (Jvm.Cond.methodLink "ClockworkOrreries$Reader" (70 : Nat) ({ cls := "ClockworkOrreries$Reader", name := "isOfForm", desc := "(I)Z" } : Jvm.MethodName)) ∈ lw_all := lw_g (lw_at lw_m7 169 rfl) rfl
theorem q1684 : (Jvm.Cond.privateMethod ({ cls := "ClockworkOrreries$Reader", name := "isOfForm", desc := "(I)Z" } : Jvm.MethodName)) ∈ lw_tbl := lw_at lw_m7 170 rfl
theorem q1685 : (Jvm.Cond.instanceMethod ({ cls := "ClockworkOrreries$Reader", name := "isOfForm", desc := "(I)Z" } : Jvm.MethodName)) ∈ lw_all := lw_g (lw_at lw_m7 171 rfl) rfl
theorem q1686 : (Jvm.Cond.code ({ cls := "ClockworkOrreries$Reader", name := "isOfForm", desc := "(I)Z" } : Jvm.MethodName) prog_5_method_4_code (4 : Nat) (Option.some Jvm.ClassFile.FieldType.boolean)) ∈ lw_all := lw_g (lw_at lw_m7 172 rfl) rfl
theorem q1687 : (Jvm.Cond.methodLink "ClockworkOrreries$Reader" (52 : Nat) ({ cls := "ClockworkOrreries$Reader", name := "accepts", desc := "(C)Z" } : Jvm.MethodName)) ∈ lw_all := lw_g (lw_at lw_m7 173 rfl) rfl
theorem q1688 : (Jvm.Cond.privateMethod ({ cls := "ClockworkOrreries$Reader", name := "accepts", desc := "(C)Z" } : Jvm.MethodName)) ∈ lw_tbl := lw_at lw_m7 174 rfl
theorem q1689 : (Jvm.Cond.instanceMethod ({ cls := "ClockworkOrreries$Reader", name := "accepts", desc := "(C)Z" } : Jvm.MethodName)) ∈ lw_all := lw_g (lw_at lw_m7 175 rfl) rfl
theorem q1690 : (Jvm.Cond.code ({ cls := "ClockworkOrreries$Reader", name := "accepts", desc := "(C)Z" } : Jvm.MethodName) prog_5_method_2_code (3 : Nat) (Option.some Jvm.ClassFile.FieldType.boolean)) ∈ lw_all := lw_g (lw_at lw_m7 176 rfl) rfl
theorem q1691 : (Jvm.Cond.methodLink "ClockworkOrreries$Reader" (56 : Nat) ({ cls := "ClockworkOrreries$Reader", name := "reads", desc := "(I)Z" } : Jvm.MethodName)) ∈ lw_all := lw_g (lw_at lw_m7 177 rfl) rfl
theorem q1692 : (Jvm.Cond.privateMethod ({ cls := "ClockworkOrreries$Reader", name := "reads", desc := "(I)Z" } : Jvm.MethodName)) ∈ lw_tbl := lw_at lw_m7 178 rfl
theorem q1693 : (Jvm.Cond.instanceMethod ({ cls := "ClockworkOrreries$Reader", name := "reads", desc := "(I)Z" } : Jvm.MethodName)) ∈ lw_all := lw_g (lw_at lw_m7 179 rfl) rfl
theorem q1694 : (Jvm.Cond.code ({ cls := "ClockworkOrreries$Reader", name := "reads", desc := "(I)Z" } : Jvm.MethodName) prog_5_method_3_code (3 : Nat) (Option.some Jvm.ClassFile.FieldType.boolean)) ∈ lw_all := lw_g (lw_at lw_m7 180 rfl) rfl
theorem q1695 : (Jvm.Cond.constantLong "ClockworkOrreries$Reader" (44 : Nat) (48 : Int64)) ∈ lw_all := lw_g (lw_at lw_m7 181 rfl) rfl
theorem q1696 : (Jvm.Cond.constantLong "ClockworkOrreries$Reader" (46 : Nat) (57 : Int64)) ∈ lw_all := lw_g (lw_at lw_m7 182 rfl) rfl
theorem q1697 : (Jvm.Cond.methodLinkNest "ClockworkOrreries$Reader" (48 : Nat) ({ cls := "ClockworkOrreries", name := "isBetween", desc := "(JJJ)Z" } : Jvm.MethodName) "ClockworkOrreries") ∈ lw_tbl := lw_at lw_m7 183 rfl
theorem q1698 : (Jvm.Cond.classLink "ClockworkOrreries$Reader" (82 : Nat) "ClockworkOrreries$Works") ∈ lw_all := lw_g (lw_at lw_m7 184 rfl) rfl
theorem q1699 : (Jvm.Cond.methodLink "ClockworkOrreries$Reader" (84 : Nat) ({ cls := "ClockworkOrreries$Works", name := "<init>", desc := "(LClockworkOrreries$Works;)V" } : Jvm.MethodName)) ∈ lw_all := lw_g (lw_at lw_m7 185 rfl) rfl
theorem q1700 : (Jvm.Cond.methodLinkNest "ClockworkOrreries$Reader" (87 : Nat) ({ cls := "ClockworkOrreries", name := "done", desc := "(LClockworkOrreries$Works;C[I)I" } : Jvm.MethodName) "ClockworkOrreries") ∈ lw_tbl := lw_at lw_m7 186 rfl
theorem q2357 : (Jvm.Cond.castable "ClockworkOrreries$Reader" "java/lang/Object") ∈ lw_tbl := lw_at lw_m10 123 rfl
theorem in_X9 : ∀ w ∈ wsX90, w ∈ lw_all := lw_in wsX90 [1594, 1596, 1598, 1600, 1602, 1604, 1606, 1608] (by decide +kernel) (by decide +kernel)

/-! ClockworkOrreries -/
set_option maxRecDepth 100000
def RX1 : String := "ClockworkOrreries"
def TX1 : u_T := fun k => match k with
  | 0 => ("ClockworkOrreries", "works", "LClockworkOrreries$Works;", false)
  | 1 => ("ClockworkOrreries", "kept", "LClockworkOrreries$Works;", false)
  | 2 => ("ClockworkOrreries", "history", "Ljava/util/ArrayDeque;", true)
  | _ => ("ClockworkOrreries", "text", "Ljava/lang/StringBuilder;", true)
def tyX1 : Nat → FieldType := fun k => match k with
  | 0 => .object "ClockworkOrreries$Works"
  | 1 => .object "ClockworkOrreries$Works"
  | 2 => .object "java/util/ArrayDeque"
  | _ => .object "java/lang/StringBuilder"
abbrev wsX10 : List Cond := u_ws RX1 TX1 4
theorem nmX1 : ∀ a, a < 4 → ∀ b, b < 4 → a ≠ b → (TX1 a).2.1 ≠ (TX1 b).2.1 := by decide +kernel
theorem tyX1_ok : ∀ k, k < 4 → parseFieldDescriptor (TX1 k).2.2.1 = some (tyX1 k) := by decide +kernel
abbrev cX1_init : ByteArray := prog_1_method_15_code
def yX1_init : MethodName := ⟨RX1, "<init>", "()V"⟩
def dkwX1_init_1 : List UInt8 := [181, 0, 63, 42, 187, 0, 67, 89, 183, 0, 69, 181, 0, 70, 177]
abbrev dktX1_init_1 : List UInt8 := dkwX1_init_1 ++ []
def dkwX1_init_0 : List UInt8 := [42, 183, 0, 48, 42, 187, 0, 53, 89, 183, 0, 55, 181, 0, 56, 42, 187, 0, 60, 89, 183, 0, 62]
abbrev dktX1_init_0 : List UInt8 := dkwX1_init_0 ++ dktX1_init_1
theorem dksX1_init_0 : cX1_init.data.toList.drop 0 = dktX1_init_0 := by decide +kernel
theorem dksX1_init_1 : cX1_init.data.toList.drop 23 = dktX1_init_1 := dk_seg dksX1_init_0 23 rfl rfl
theorem dX1_init_0 : decode cX1_init 0 = .ok (.aload_n 0, 1) := dk_42 (dk_at dksX1_init_0 0 rfl rfl)
theorem dX1_init_1 : decode cX1_init 1 = .ok (.invokespecial 48, 3) := dk_183 0 48 (dk_at dksX1_init_0 1 rfl rfl)
theorem dX1_init_4 : decode cX1_init 4 = .ok (.aload_n 0, 1) := dk_42 (dk_at dksX1_init_0 4 rfl rfl)
theorem dX1_init_5 : decode cX1_init 5 = .ok (.new 53, 3) := dk_187 0 53 (dk_at dksX1_init_0 5 rfl rfl)
theorem dX1_init_8 : decode cX1_init 8 = .ok (.dup, 1) := dk_89 (dk_at dksX1_init_0 8 rfl rfl)
theorem dX1_init_9 : decode cX1_init 9 = .ok (.invokespecial 55, 3) := dk_183 0 55 (dk_at dksX1_init_0 9 rfl rfl)
theorem dX1_init_12 : decode cX1_init 12 = .ok (.putfield 56, 3) := dk_181 0 56 (dk_at dksX1_init_0 12 rfl rfl)
theorem dX1_init_15 : decode cX1_init 15 = .ok (.aload_n 0, 1) := dk_42 (dk_at dksX1_init_0 15 rfl rfl)
theorem dX1_init_16 : decode cX1_init 16 = .ok (.new 60, 3) := dk_187 0 60 (dk_at dksX1_init_0 16 rfl rfl)
theorem dX1_init_19 : decode cX1_init 19 = .ok (.dup, 1) := dk_89 (dk_at dksX1_init_0 19 rfl rfl)
theorem dX1_init_20 : decode cX1_init 20 = .ok (.invokespecial 62, 3) := dk_183 0 62 (dk_at dksX1_init_0 20 rfl rfl)
theorem dX1_init_23 : decode cX1_init 23 = .ok (.putfield 63, 3) := dk_181 0 63 (dk_at dksX1_init_1 0 rfl rfl)
theorem dX1_init_26 : decode cX1_init 26 = .ok (.aload_n 0, 1) := dk_42 (dk_at dksX1_init_1 3 rfl rfl)
theorem dX1_init_27 : decode cX1_init 27 = .ok (.new 67, 3) := dk_187 0 67 (dk_at dksX1_init_1 4 rfl rfl)
theorem dX1_init_30 : decode cX1_init 30 = .ok (.dup, 1) := dk_89 (dk_at dksX1_init_1 7 rfl rfl)
theorem dX1_init_31 : decode cX1_init 31 = .ok (.invokespecial 69, 3) := dk_183 0 69 (dk_at dksX1_init_1 8 rfl rfl)
theorem dX1_init_34 : decode cX1_init 34 = .ok (.putfield 70, 3) := dk_181 0 70 (dk_at dksX1_init_1 11 rfl rfl)
theorem dX1_init_37 : decode cX1_init 37 = .ok (.return_, 1) := dk_177 (dk_at dksX1_init_1 14 rfl rfl)
abbrev cX1_axles : ByteArray := prog_1_method_38_code
def yX1_axles : MethodName := ⟨RX1, "axles", "()I"⟩
def dkwX1_axles_0 : List UInt8 := [42, 180, 0, 56, 180, 0, 214, 172]
abbrev dktX1_axles_0 : List UInt8 := dkwX1_axles_0 ++ []
theorem dksX1_axles_0 : cX1_axles.data.toList.drop 0 = dktX1_axles_0 := by decide +kernel
theorem dX1_axles_0 : decode cX1_axles 0 = .ok (.aload_n 0, 1) := dk_42 (dk_at dksX1_axles_0 0 rfl rfl)
theorem dX1_axles_1 : decode cX1_axles 1 = .ok (.getfield 56, 3) := dk_180 0 56 (dk_at dksX1_axles_0 1 rfl rfl)
theorem dX1_axles_4 : decode cX1_axles 4 = .ok (.getfield 214, 3) := dk_180 0 214 (dk_at dksX1_axles_0 4 rfl rfl)
theorem dX1_axles_7 : decode cX1_axles 7 = .ok (.ireturn, 1) := dk_172 (dk_at dksX1_axles_0 7 rfl rfl)
abbrev cX1_wheels : ByteArray := prog_1_method_39_code
def yX1_wheels : MethodName := ⟨RX1, "wheels", "()I"⟩
def dkwX1_wheels_0 : List UInt8 := [42, 180, 0, 56, 180, 0, 162, 182, 0, 203, 172]
abbrev dktX1_wheels_0 : List UInt8 := dkwX1_wheels_0 ++ []
theorem dksX1_wheels_0 : cX1_wheels.data.toList.drop 0 = dktX1_wheels_0 := by decide +kernel
theorem dX1_wheels_0 : decode cX1_wheels 0 = .ok (.aload_n 0, 1) := dk_42 (dk_at dksX1_wheels_0 0 rfl rfl)
theorem dX1_wheels_1 : decode cX1_wheels 1 = .ok (.getfield 56, 3) := dk_180 0 56 (dk_at dksX1_wheels_0 1 rfl rfl)
theorem dX1_wheels_4 : decode cX1_wheels 4 = .ok (.getfield 162, 3) := dk_180 0 162 (dk_at dksX1_wheels_0 4 rfl rfl)
theorem dX1_wheels_7 : decode cX1_wheels 7 = .ok (.invokevirtual 203, 3) := dk_182 0 203 (dk_at dksX1_wheels_0 7 rfl rfl)
theorem dX1_wheels_10 : decode cX1_wheels 10 = .ok (.ireturn, 1) := dk_172 (dk_at dksX1_wheels_0 10 rfl rfl)
abbrev cX1_pairs : ByteArray := prog_1_method_40_code
def yX1_pairs : MethodName := ⟨RX1, "pairs", "()I"⟩
def dkwX1_pairs_0 : List UInt8 := [42, 180, 0, 56, 180, 0, 217, 172]
abbrev dktX1_pairs_0 : List UInt8 := dkwX1_pairs_0 ++ []
theorem dksX1_pairs_0 : cX1_pairs.data.toList.drop 0 = dktX1_pairs_0 := by decide +kernel
theorem dX1_pairs_0 : decode cX1_pairs 0 = .ok (.aload_n 0, 1) := dk_42 (dk_at dksX1_pairs_0 0 rfl rfl)
theorem dX1_pairs_1 : decode cX1_pairs 1 = .ok (.getfield 56, 3) := dk_180 0 56 (dk_at dksX1_pairs_0 1 rfl rfl)
theorem dX1_pairs_4 : decode cX1_pairs 4 = .ok (.getfield 217, 3) := dk_180 0 217 (dk_at dksX1_pairs_0 4 rfl rfl)
theorem dX1_pairs_7 : decode cX1_pairs 7 = .ok (.ireturn, 1) := dk_172 (dk_at dksX1_pairs_0 7 rfl rfl)
abbrev cX1_arms : ByteArray := prog_1_method_56_code
def yX1_arms : MethodName := ⟨RX1, "arms", "()I"⟩
def dkwX1_arms_0 : List UInt8 := [42, 180, 0, 56, 180, 0, 177, 182, 0, 203, 172]
abbrev dktX1_arms_0 : List UInt8 := dkwX1_arms_0 ++ []
theorem dksX1_arms_0 : cX1_arms.data.toList.drop 0 = dktX1_arms_0 := by decide +kernel
theorem dX1_arms_0 : decode cX1_arms 0 = .ok (.aload_n 0, 1) := dk_42 (dk_at dksX1_arms_0 0 rfl rfl)
theorem dX1_arms_1 : decode cX1_arms 1 = .ok (.getfield 56, 3) := dk_180 0 56 (dk_at dksX1_arms_0 1 rfl rfl)
theorem dX1_arms_4 : decode cX1_arms 4 = .ok (.getfield 177, 3) := dk_180 0 177 (dk_at dksX1_arms_0 4 rfl rfl)
theorem dX1_arms_7 : decode cX1_arms 7 = .ok (.invokevirtual 203, 3) := dk_182 0 203 (dk_at dksX1_arms_0 7 rfl rfl)
theorem dX1_arms_10 : decode cX1_arms 10 = .ok (.ireturn, 1) := dk_172 (dk_at dksX1_arms_0 10 rfl rfl)
abbrev cX1_moons : ByteArray := prog_1_method_57_code
def yX1_moons : MethodName := ⟨RX1, "moons", "()I"⟩
def dkwX1_moons_0 : List UInt8 := [42, 180, 0, 56, 180, 0, 200, 182, 0, 203, 172]
abbrev dktX1_moons_0 : List UInt8 := dkwX1_moons_0 ++ []
theorem dksX1_moons_0 : cX1_moons.data.toList.drop 0 = dktX1_moons_0 := by decide +kernel
theorem dX1_moons_0 : decode cX1_moons 0 = .ok (.aload_n 0, 1) := dk_42 (dk_at dksX1_moons_0 0 rfl rfl)
theorem dX1_moons_1 : decode cX1_moons 1 = .ok (.getfield 56, 3) := dk_180 0 56 (dk_at dksX1_moons_0 1 rfl rfl)
theorem dX1_moons_4 : decode cX1_moons 4 = .ok (.getfield 200, 3) := dk_180 0 200 (dk_at dksX1_moons_0 4 rfl rfl)
theorem dX1_moons_7 : decode cX1_moons 7 = .ok (.invokevirtual 203, 3) := dk_182 0 203 (dk_at dksX1_moons_0 7 rfl rfl)
theorem dX1_moons_10 : decode cX1_moons 10 = .ok (.ireturn, 1) := dk_172 (dk_at dksX1_moons_0 10 rfl rfl)
abbrev cX1_day : ByteArray := prog_1_method_71_code
def yX1_day : MethodName := ⟨RX1, "day", "()I"⟩
def dkwX1_day_0 : List UInt8 := [42, 180, 0, 56, 180, 0, 253, 172]
abbrev dktX1_day_0 : List UInt8 := dkwX1_day_0 ++ []
theorem dksX1_day_0 : cX1_day.data.toList.drop 0 = dktX1_day_0 := by decide +kernel
theorem dX1_day_0 : decode cX1_day 0 = .ok (.aload_n 0, 1) := dk_42 (dk_at dksX1_day_0 0 rfl rfl)
theorem dX1_day_1 : decode cX1_day 1 = .ok (.getfield 56, 3) := dk_180 0 56 (dk_at dksX1_day_0 1 rfl rfl)
theorem dX1_day_4 : decode cX1_day 4 = .ok (.getfield 253, 3) := dk_180 0 253 (dk_at dksX1_day_0 4 rfl rfl)
theorem dX1_day_7 : decode cX1_day 7 = .ok (.ireturn, 1) := dk_172 (dk_at dksX1_day_0 7 rfl rfl)
abbrev cX1_date : ByteArray := prog_1_method_72_code
def yX1_date : MethodName := ⟨RX1, "date", "()I"⟩
def dkwX1_date_0 : List UInt8 := [42, 180, 0, 56, 180, 0, 253, 184, 1, 60, 172]
abbrev dktX1_date_0 : List UInt8 := dkwX1_date_0 ++ []
theorem dksX1_date_0 : cX1_date.data.toList.drop 0 = dktX1_date_0 := by decide +kernel
theorem dX1_date_0 : decode cX1_date 0 = .ok (.aload_n 0, 1) := dk_42 (dk_at dksX1_date_0 0 rfl rfl)
theorem dX1_date_1 : decode cX1_date 1 = .ok (.getfield 56, 3) := dk_180 0 56 (dk_at dksX1_date_0 1 rfl rfl)
theorem dX1_date_4 : decode cX1_date 4 = .ok (.getfield 253, 3) := dk_180 0 253 (dk_at dksX1_date_0 4 rfl rfl)
theorem dX1_date_7 : decode cX1_date 7 = .ok (.invokestatic 316, 3) := dk_184 1 60 (dk_at dksX1_date_0 7 rfl rfl)
theorem dX1_date_10 : decode cX1_date 10 = .ok (.ireturn, 1) := dk_172 (dk_at dksX1_date_0 10 rfl rfl)
abbrev cX1_counted : ByteArray := prog_1_method_10_code
def yX1_counted : MethodName := ⟨RX1, "counted", "(I)I"⟩
def dkwX1_counted_3 : List UInt8 := [132, 3, 1, 167, 255, 236, 28, 29, 27, 4, 96, 184, 0, 33, 172]
abbrev dktX1_counted_3 : List UInt8 := dkwX1_counted_3 ++ []
def dkwX1_counted_2 : List UInt8 := [167, 255, 214, 4, 62, 27, 28, 29, 184, 0, 30, 161, 0, 17, 27, 28, 29, 184, 0, 30, 100, 60]
abbrev dktX1_counted_2 : List UInt8 := dkwX1_counted_2 ++ dktX1_counted_3
def dkwX1_counted_1 : List UInt8 := [27, 28, 184, 0, 26, 153, 0, 9, 17, 1, 110, 167, 0, 6, 17, 1, 109, 100, 60, 132, 2, 1]
abbrev dktX1_counted_1 : List UInt8 := dkwX1_counted_1 ++ dktX1_counted_2
def dkwX1_counted_0 : List UInt8 := [26, 60, 4, 61, 27, 28, 184, 0, 26, 153, 0, 9, 17, 1, 110, 167, 0, 6, 17, 1, 109, 161, 0, 28]
abbrev dktX1_counted_0 : List UInt8 := dkwX1_counted_0 ++ dktX1_counted_1
theorem dksX1_counted_0 : cX1_counted.data.toList.drop 0 = dktX1_counted_0 := by decide +kernel
theorem dksX1_counted_1 : cX1_counted.data.toList.drop 24 = dktX1_counted_1 := dk_seg dksX1_counted_0 24 rfl rfl
theorem dksX1_counted_2 : cX1_counted.data.toList.drop 46 = dktX1_counted_2 := dk_seg dksX1_counted_1 22 rfl rfl
theorem dksX1_counted_3 : cX1_counted.data.toList.drop 68 = dktX1_counted_3 := dk_seg dksX1_counted_2 22 rfl rfl
theorem dX1_counted_0 : decode cX1_counted 0 = .ok (.iload_n 0, 1) := dk_26 (dk_at dksX1_counted_0 0 rfl rfl)
theorem dX1_counted_1 : decode cX1_counted 1 = .ok (.istore_n 1, 1) := dk_60 (dk_at dksX1_counted_0 1 rfl rfl)
theorem dX1_counted_2 : decode cX1_counted 2 = .ok (.iconst 1, 1) := dk_4 (dk_at dksX1_counted_0 2 rfl rfl)
theorem dX1_counted_3 : decode cX1_counted 3 = .ok (.istore_n 2, 1) := dk_61 (dk_at dksX1_counted_0 3 rfl rfl)
theorem dX1_counted_4 : decode cX1_counted 4 = .ok (.iload_n 1, 1) := dk_27 (dk_at dksX1_counted_0 4 rfl rfl)
theorem dX1_counted_5 : decode cX1_counted 5 = .ok (.iload_n 2, 1) := dk_28 (dk_at dksX1_counted_0 5 rfl rfl)
theorem dX1_counted_6 : decode cX1_counted 6 = .ok (.invokestatic 26, 3) := dk_184 0 26 (dk_at dksX1_counted_0 6 rfl rfl)
theorem dX1_counted_9 : decode cX1_counted 9 = .ok (.ifCond .eq 9, 3) := dk_153 0 9 (dk_at dksX1_counted_0 9 rfl rfl)
theorem dX1_counted_12 : decode cX1_counted 12 = .ok (.sipush 366, 3) := dk_17 1 110 (dk_at dksX1_counted_0 12 rfl rfl)
theorem dX1_counted_15 : decode cX1_counted 15 = .ok (.goto 6, 3) := dk_167 0 6 (dk_at dksX1_counted_0 15 rfl rfl)
theorem dX1_counted_18 : decode cX1_counted 18 = .ok (.sipush 365, 3) := dk_17 1 109 (dk_at dksX1_counted_0 18 rfl rfl)
theorem dX1_counted_21 : decode cX1_counted 21 = .ok (.if_icmp .lt 28, 3) := dk_161 0 28 (dk_at dksX1_counted_0 21 rfl rfl)
theorem dX1_counted_24 : decode cX1_counted 24 = .ok (.iload_n 1, 1) := dk_27 (dk_at dksX1_counted_1 0 rfl rfl)
theorem dX1_counted_25 : decode cX1_counted 25 = .ok (.iload_n 2, 1) := dk_28 (dk_at dksX1_counted_1 1 rfl rfl)
theorem dX1_counted_26 : decode cX1_counted 26 = .ok (.invokestatic 26, 3) := dk_184 0 26 (dk_at dksX1_counted_1 2 rfl rfl)
theorem dX1_counted_29 : decode cX1_counted 29 = .ok (.ifCond .eq 9, 3) := dk_153 0 9 (dk_at dksX1_counted_1 5 rfl rfl)
theorem dX1_counted_32 : decode cX1_counted 32 = .ok (.sipush 366, 3) := dk_17 1 110 (dk_at dksX1_counted_1 8 rfl rfl)
theorem dX1_counted_35 : decode cX1_counted 35 = .ok (.goto 6, 3) := dk_167 0 6 (dk_at dksX1_counted_1 11 rfl rfl)
theorem dX1_counted_38 : decode cX1_counted 38 = .ok (.sipush 365, 3) := dk_17 1 109 (dk_at dksX1_counted_1 14 rfl rfl)
theorem dX1_counted_41 : decode cX1_counted 41 = .ok (.isub, 1) := dk_100 (dk_at dksX1_counted_1 17 rfl rfl)
theorem dX1_counted_42 : decode cX1_counted 42 = .ok (.istore_n 1, 1) := dk_60 (dk_at dksX1_counted_1 18 rfl rfl)
theorem dX1_counted_43 : decode cX1_counted 43 = .ok (.iinc 2 1, 3) := dk_132 2 1 (dk_at dksX1_counted_1 19 rfl rfl)
theorem dX1_counted_46 : decode cX1_counted 46 = .ok (.goto (-42), 3) := dk_167 255 214 (dk_at dksX1_counted_2 0 rfl rfl)
theorem dX1_counted_49 : decode cX1_counted 49 = .ok (.iconst 1, 1) := dk_4 (dk_at dksX1_counted_2 3 rfl rfl)
theorem dX1_counted_50 : decode cX1_counted 50 = .ok (.istore_n 3, 1) := dk_62 (dk_at dksX1_counted_2 4 rfl rfl)
theorem dX1_counted_51 : decode cX1_counted 51 = .ok (.iload_n 1, 1) := dk_27 (dk_at dksX1_counted_2 5 rfl rfl)
theorem dX1_counted_52 : decode cX1_counted 52 = .ok (.iload_n 2, 1) := dk_28 (dk_at dksX1_counted_2 6 rfl rfl)
theorem dX1_counted_53 : decode cX1_counted 53 = .ok (.iload_n 3, 1) := dk_29 (dk_at dksX1_counted_2 7 rfl rfl)
theorem dX1_counted_54 : decode cX1_counted 54 = .ok (.invokestatic 30, 3) := dk_184 0 30 (dk_at dksX1_counted_2 8 rfl rfl)
theorem dX1_counted_57 : decode cX1_counted 57 = .ok (.if_icmp .lt 17, 3) := dk_161 0 17 (dk_at dksX1_counted_2 11 rfl rfl)
theorem dX1_counted_60 : decode cX1_counted 60 = .ok (.iload_n 1, 1) := dk_27 (dk_at dksX1_counted_2 14 rfl rfl)
theorem dX1_counted_61 : decode cX1_counted 61 = .ok (.iload_n 2, 1) := dk_28 (dk_at dksX1_counted_2 15 rfl rfl)
theorem dX1_counted_62 : decode cX1_counted 62 = .ok (.iload_n 3, 1) := dk_29 (dk_at dksX1_counted_2 16 rfl rfl)
theorem dX1_counted_63 : decode cX1_counted 63 = .ok (.invokestatic 30, 3) := dk_184 0 30 (dk_at dksX1_counted_2 17 rfl rfl)
theorem dX1_counted_66 : decode cX1_counted 66 = .ok (.isub, 1) := dk_100 (dk_at dksX1_counted_2 20 rfl rfl)
theorem dX1_counted_67 : decode cX1_counted 67 = .ok (.istore_n 1, 1) := dk_60 (dk_at dksX1_counted_2 21 rfl rfl)
theorem dX1_counted_68 : decode cX1_counted 68 = .ok (.iinc 3 1, 3) := dk_132 3 1 (dk_at dksX1_counted_3 0 rfl rfl)
theorem dX1_counted_71 : decode cX1_counted 71 = .ok (.goto (-20), 3) := dk_167 255 236 (dk_at dksX1_counted_3 3 rfl rfl)
theorem dX1_counted_74 : decode cX1_counted 74 = .ok (.iload_n 2, 1) := dk_28 (dk_at dksX1_counted_3 6 rfl rfl)
theorem dX1_counted_75 : decode cX1_counted 75 = .ok (.iload_n 3, 1) := dk_29 (dk_at dksX1_counted_3 7 rfl rfl)
theorem dX1_counted_76 : decode cX1_counted 76 = .ok (.iload_n 1, 1) := dk_27 (dk_at dksX1_counted_3 8 rfl rfl)
theorem dX1_counted_77 : decode cX1_counted 77 = .ok (.iconst 1, 1) := dk_4 (dk_at dksX1_counted_3 9 rfl rfl)
theorem dX1_counted_78 : decode cX1_counted 78 = .ok (.iadd, 1) := dk_96 (dk_at dksX1_counted_3 10 rfl rfl)
theorem dX1_counted_79 : decode cX1_counted 79 = .ok (.invokestatic 33, 3) := dk_184 0 33 (dk_at dksX1_counted_3 11 rfl rfl)
theorem dX1_counted_82 : decode cX1_counted 82 = .ok (.ireturn, 1) := dk_172 (dk_at dksX1_counted_3 14 rfl rfl)
abbrev cX1_isLong : ByteArray := prog_1_method_7_code
def yX1_isLong : MethodName := ⟨RX1, "isLong", "(I)Z"⟩
def dkwX1_isLong_1 : List UInt8 := [167, 0, 4, 3, 172]
abbrev dktX1_isLong_1 : List UInt8 := dkwX1_isLong_1 ++ []
def dkwX1_isLong_0 : List UInt8 := [26, 7, 112, 154, 0, 10, 26, 16, 100, 112, 154, 0, 11, 26, 17, 1, 144, 112, 154, 0, 7, 4]
abbrev dktX1_isLong_0 : List UInt8 := dkwX1_isLong_0 ++ dktX1_isLong_1
theorem dksX1_isLong_0 : cX1_isLong.data.toList.drop 0 = dktX1_isLong_0 := by decide +kernel
theorem dksX1_isLong_1 : cX1_isLong.data.toList.drop 22 = dktX1_isLong_1 := dk_seg dksX1_isLong_0 22 rfl rfl
theorem dX1_isLong_0 : decode cX1_isLong 0 = .ok (.iload_n 0, 1) := dk_26 (dk_at dksX1_isLong_0 0 rfl rfl)
theorem dX1_isLong_1 : decode cX1_isLong 1 = .ok (.iconst 4, 1) := dk_7 (dk_at dksX1_isLong_0 1 rfl rfl)
theorem dX1_isLong_2 : decode cX1_isLong 2 = .ok (.irem, 1) := dk_112 (dk_at dksX1_isLong_0 2 rfl rfl)
theorem dX1_isLong_3 : decode cX1_isLong 3 = .ok (.ifCond .ne 10, 3) := dk_154 0 10 (dk_at dksX1_isLong_0 3 rfl rfl)
theorem dX1_isLong_6 : decode cX1_isLong 6 = .ok (.iload_n 0, 1) := dk_26 (dk_at dksX1_isLong_0 6 rfl rfl)
theorem dX1_isLong_7 : decode cX1_isLong 7 = .ok (.bipush 100, 2) := dk_16 100 (dk_at dksX1_isLong_0 7 rfl rfl)
theorem dX1_isLong_9 : decode cX1_isLong 9 = .ok (.irem, 1) := dk_112 (dk_at dksX1_isLong_0 9 rfl rfl)
theorem dX1_isLong_10 : decode cX1_isLong 10 = .ok (.ifCond .ne 11, 3) := dk_154 0 11 (dk_at dksX1_isLong_0 10 rfl rfl)
theorem dX1_isLong_13 : decode cX1_isLong 13 = .ok (.iload_n 0, 1) := dk_26 (dk_at dksX1_isLong_0 13 rfl rfl)
theorem dX1_isLong_14 : decode cX1_isLong 14 = .ok (.sipush 400, 3) := dk_17 1 144 (dk_at dksX1_isLong_0 14 rfl rfl)
theorem dX1_isLong_17 : decode cX1_isLong 17 = .ok (.irem, 1) := dk_112 (dk_at dksX1_isLong_0 17 rfl rfl)
theorem dX1_isLong_18 : decode cX1_isLong 18 = .ok (.ifCond .ne 7, 3) := dk_154 0 7 (dk_at dksX1_isLong_0 18 rfl rfl)
theorem dX1_isLong_21 : decode cX1_isLong 21 = .ok (.iconst 1, 1) := dk_4 (dk_at dksX1_isLong_0 21 rfl rfl)
theorem dX1_isLong_22 : decode cX1_isLong 22 = .ok (.goto 4, 3) := dk_167 0 4 (dk_at dksX1_isLong_1 0 rfl rfl)
theorem dX1_isLong_25 : decode cX1_isLong 25 = .ok (.iconst 0, 1) := dk_3 (dk_at dksX1_isLong_1 3 rfl rfl)
theorem dX1_isLong_26 : decode cX1_isLong 26 = .ok (.ireturn, 1) := dk_172 (dk_at dksX1_isLong_1 4 rfl rfl)
abbrev cX1_daysOf : ByteArray := prog_1_method_8_code
def yX1_daysOf : MethodName := ⟨RX1, "daysOf", "(II)I"⟩
def dkwX1_daysOf_2 : List UInt8 := [167, 0, 5, 16, 31, 172]
abbrev dktX1_daysOf_2 : List UInt8 := dkwX1_daysOf_2 ++ []
def dkwX1_daysOf_1 : List UInt8 := [159, 0, 21, 27, 16, 6, 159, 0, 15, 27, 16, 9, 159, 0, 9, 27, 16, 11, 160, 0, 8, 16, 30]
abbrev dktX1_daysOf_1 : List UInt8 := dkwX1_daysOf_1 ++ dktX1_daysOf_2
def dkwX1_daysOf_0 : List UInt8 := [27, 5, 160, 0, 20, 26, 184, 0, 26, 153, 0, 8, 16, 29, 167, 0, 38, 16, 28, 167, 0, 33, 27, 7]
abbrev dktX1_daysOf_0 : List UInt8 := dkwX1_daysOf_0 ++ dktX1_daysOf_1
theorem dksX1_daysOf_0 : cX1_daysOf.data.toList.drop 0 = dktX1_daysOf_0 := by decide +kernel
theorem dksX1_daysOf_1 : cX1_daysOf.data.toList.drop 24 = dktX1_daysOf_1 := dk_seg dksX1_daysOf_0 24 rfl rfl
theorem dksX1_daysOf_2 : cX1_daysOf.data.toList.drop 47 = dktX1_daysOf_2 := dk_seg dksX1_daysOf_1 23 rfl rfl
theorem dX1_daysOf_0 : decode cX1_daysOf 0 = .ok (.iload_n 1, 1) := dk_27 (dk_at dksX1_daysOf_0 0 rfl rfl)
theorem dX1_daysOf_1 : decode cX1_daysOf 1 = .ok (.iconst 2, 1) := dk_5 (dk_at dksX1_daysOf_0 1 rfl rfl)
theorem dX1_daysOf_2 : decode cX1_daysOf 2 = .ok (.if_icmp .ne 20, 3) := dk_160 0 20 (dk_at dksX1_daysOf_0 2 rfl rfl)
theorem dX1_daysOf_5 : decode cX1_daysOf 5 = .ok (.iload_n 0, 1) := dk_26 (dk_at dksX1_daysOf_0 5 rfl rfl)
theorem dX1_daysOf_6 : decode cX1_daysOf 6 = .ok (.invokestatic 26, 3) := dk_184 0 26 (dk_at dksX1_daysOf_0 6 rfl rfl)
theorem dX1_daysOf_9 : decode cX1_daysOf 9 = .ok (.ifCond .eq 8, 3) := dk_153 0 8 (dk_at dksX1_daysOf_0 9 rfl rfl)
theorem dX1_daysOf_12 : decode cX1_daysOf 12 = .ok (.bipush 29, 2) := dk_16 29 (dk_at dksX1_daysOf_0 12 rfl rfl)
theorem dX1_daysOf_14 : decode cX1_daysOf 14 = .ok (.goto 38, 3) := dk_167 0 38 (dk_at dksX1_daysOf_0 14 rfl rfl)
theorem dX1_daysOf_17 : decode cX1_daysOf 17 = .ok (.bipush 28, 2) := dk_16 28 (dk_at dksX1_daysOf_0 17 rfl rfl)
theorem dX1_daysOf_19 : decode cX1_daysOf 19 = .ok (.goto 33, 3) := dk_167 0 33 (dk_at dksX1_daysOf_0 19 rfl rfl)
theorem dX1_daysOf_22 : decode cX1_daysOf 22 = .ok (.iload_n 1, 1) := dk_27 (dk_at dksX1_daysOf_0 22 rfl rfl)
theorem dX1_daysOf_23 : decode cX1_daysOf 23 = .ok (.iconst 4, 1) := dk_7 (dk_at dksX1_daysOf_0 23 rfl rfl)
theorem dX1_daysOf_24 : decode cX1_daysOf 24 = .ok (.if_icmp .eq 21, 3) := dk_159 0 21 (dk_at dksX1_daysOf_1 0 rfl rfl)
theorem dX1_daysOf_27 : decode cX1_daysOf 27 = .ok (.iload_n 1, 1) := dk_27 (dk_at dksX1_daysOf_1 3 rfl rfl)
theorem dX1_daysOf_28 : decode cX1_daysOf 28 = .ok (.bipush 6, 2) := dk_16 6 (dk_at dksX1_daysOf_1 4 rfl rfl)
theorem dX1_daysOf_30 : decode cX1_daysOf 30 = .ok (.if_icmp .eq 15, 3) := dk_159 0 15 (dk_at dksX1_daysOf_1 6 rfl rfl)
theorem dX1_daysOf_33 : decode cX1_daysOf 33 = .ok (.iload_n 1, 1) := dk_27 (dk_at dksX1_daysOf_1 9 rfl rfl)
theorem dX1_daysOf_34 : decode cX1_daysOf 34 = .ok (.bipush 9, 2) := dk_16 9 (dk_at dksX1_daysOf_1 10 rfl rfl)
theorem dX1_daysOf_36 : decode cX1_daysOf 36 = .ok (.if_icmp .eq 9, 3) := dk_159 0 9 (dk_at dksX1_daysOf_1 12 rfl rfl)
theorem dX1_daysOf_39 : decode cX1_daysOf 39 = .ok (.iload_n 1, 1) := dk_27 (dk_at dksX1_daysOf_1 15 rfl rfl)
theorem dX1_daysOf_40 : decode cX1_daysOf 40 = .ok (.bipush 11, 2) := dk_16 11 (dk_at dksX1_daysOf_1 16 rfl rfl)
theorem dX1_daysOf_42 : decode cX1_daysOf 42 = .ok (.if_icmp .ne 8, 3) := dk_160 0 8 (dk_at dksX1_daysOf_1 18 rfl rfl)
theorem dX1_daysOf_45 : decode cX1_daysOf 45 = .ok (.bipush 30, 2) := dk_16 30 (dk_at dksX1_daysOf_1 21 rfl rfl)
theorem dX1_daysOf_47 : decode cX1_daysOf 47 = .ok (.goto 5, 3) := dk_167 0 5 (dk_at dksX1_daysOf_2 0 rfl rfl)
theorem dX1_daysOf_50 : decode cX1_daysOf 50 = .ok (.bipush 31, 2) := dk_16 31 (dk_at dksX1_daysOf_2 3 rfl rfl)
theorem dX1_daysOf_52 : decode cX1_daysOf 52 = .ok (.ireturn, 1) := dk_172 (dk_at dksX1_daysOf_2 5 rfl rfl)
abbrev cX1_code : ByteArray := prog_1_method_9_code
def yX1_code : MethodName := ⟨RX1, "code", "(III)I"⟩
def dkwX1_code_0 : List UInt8 := [17, 39, 16, 26, 104, 16, 100, 27, 104, 96, 28, 96, 172]
abbrev dktX1_code_0 : List UInt8 := dkwX1_code_0 ++ []
theorem dksX1_code_0 : cX1_code.data.toList.drop 0 = dktX1_code_0 := by decide +kernel
theorem dX1_code_0 : decode cX1_code 0 = .ok (.sipush 10000, 3) := dk_17 39 16 (dk_at dksX1_code_0 0 rfl rfl)
theorem dX1_code_3 : decode cX1_code 3 = .ok (.iload_n 0, 1) := dk_26 (dk_at dksX1_code_0 3 rfl rfl)
theorem dX1_code_4 : decode cX1_code 4 = .ok (.imul, 1) := dk_104 (dk_at dksX1_code_0 4 rfl rfl)
theorem dX1_code_5 : decode cX1_code 5 = .ok (.bipush 100, 2) := dk_16 100 (dk_at dksX1_code_0 5 rfl rfl)
theorem dX1_code_7 : decode cX1_code 7 = .ok (.iload_n 1, 1) := dk_27 (dk_at dksX1_code_0 7 rfl rfl)
theorem dX1_code_8 : decode cX1_code 8 = .ok (.imul, 1) := dk_104 (dk_at dksX1_code_0 8 rfl rfl)
theorem dX1_code_9 : decode cX1_code 9 = .ok (.iadd, 1) := dk_96 (dk_at dksX1_code_0 9 rfl rfl)
theorem dX1_code_10 : decode cX1_code 10 = .ok (.iload_n 2, 1) := dk_28 (dk_at dksX1_code_0 10 rfl rfl)
theorem dX1_code_11 : decode cX1_code 11 = .ok (.iadd, 1) := dk_96 (dk_at dksX1_code_0 11 rfl rfl)
theorem dX1_code_12 : decode cX1_code 12 = .ok (.ireturn, 1) := dk_172 (dk_at dksX1_code_0 12 rfl rfl)
abbrev cX1_dateByRule : ByteArray := prog_1_method_73_code
def yX1_dateByRule : MethodName := ⟨RX1, "dateByRule", "()I"⟩
def dkwX1_dateByRule_0 : List UInt8 := [42, 180, 0, 56, 180, 0, 253, 184, 1, 63, 172]
abbrev dktX1_dateByRule_0 : List UInt8 := dkwX1_dateByRule_0 ++ []
theorem dksX1_dateByRule_0 : cX1_dateByRule.data.toList.drop 0 = dktX1_dateByRule_0 := by decide +kernel
theorem dX1_dateByRule_0 : decode cX1_dateByRule 0 = .ok (.aload_n 0, 1) := dk_42 (dk_at dksX1_dateByRule_0 0 rfl rfl)
theorem dX1_dateByRule_1 : decode cX1_dateByRule 1 = .ok (.getfield 56, 3) := dk_180 0 56 (dk_at dksX1_dateByRule_0 1 rfl rfl)
theorem dX1_dateByRule_4 : decode cX1_dateByRule 4 = .ok (.getfield 253, 3) := dk_180 0 253 (dk_at dksX1_dateByRule_0 4 rfl rfl)
theorem dX1_dateByRule_7 : decode cX1_dateByRule 7 = .ok (.invokestatic 319, 3) := dk_184 1 63 (dk_at dksX1_dateByRule_0 7 rfl rfl)
theorem dX1_dateByRule_10 : decode cX1_dateByRule 10 = .ok (.ireturn, 1) := dk_172 (dk_at dksX1_dateByRule_0 10 rfl rfl)
abbrev cX1_ruled : ByteArray := prog_1_method_12_code
def yX1_ruled : MethodName := ⟨RX1, "ruled", "(I)I"⟩
def dkwX1_ruled_7 : List UInt8 := [184, 0, 39, 100, 4, 96, 184, 0, 33, 172]
abbrev dktX1_ruled_7 : List UInt8 := dkwX1_ruled_7 ++ []
def dkwX1_ruled_6 : List UInt8 := [100, 54, 7, 8, 21, 7, 104, 5, 96, 17, 0, 153, 108, 54, 8, 28, 21, 8, 6, 96, 21, 7, 21, 8]
abbrev dktX1_ruled_6 : List UInt8 := dkwX1_ruled_6 ++ dktX1_ruled_7
def dkwX1_ruled_5 : List UInt8 := [5, 27, 16, 31, 162, 0, 9, 27, 4, 96, 167, 0, 7, 27, 16, 30, 100, 184, 0, 33, 172, 27, 21, 6]
abbrev dktX1_ruled_5 : List UInt8 := dkwX1_ruled_5 ++ dktX1_ruled_6
def dkwX1_ruled_4 : List UInt8 := [167, 0, 4, 3, 96, 54, 6, 27, 21, 6, 162, 0, 35, 28, 27, 16, 31, 162, 0, 7, 4, 167, 0, 4]
abbrev dktX1_ruled_4 : List UInt8 := dkwX1_ruled_4 ++ dktX1_ruled_5
def dkwX1_ruled_3 : List UInt8 := [16, 100, 29, 104, 7, 21, 4, 104, 96, 21, 5, 96, 96, 61, 16, 59, 28, 184, 0, 26, 153, 0, 7, 4]
abbrev dktX1_ruled_3 : List UInt8 := dkwX1_ruled_3 ++ dktX1_ruled_4
def dkwX1_ruled_2 : List UInt8 := [104, 100, 60, 6, 27, 17, 1, 109, 108, 184, 0, 22, 54, 5, 27, 17, 1, 109, 21, 5, 104, 100, 60, 28]
abbrev dktX1_ruled_2 : List UInt8 := dkwX1_ruled_2 ++ dktX1_ruled_3
def dkwX1_ruled_1 : List UInt8 := [184, 0, 22, 62, 27, 18, 38, 29, 104, 100, 60, 27, 17, 5, 181, 108, 54, 4, 27, 17, 5, 181, 21, 4]
abbrev dktX1_ruled_1 : List UInt8 := dkwX1_ruled_1 ++ dktX1_ruled_2
def dkwX1_ruled_0 : List UInt8 := [26, 60, 4, 17, 1, 144, 27, 18, 37, 108, 104, 96, 61, 27, 18, 37, 112, 60, 6, 27, 18, 38, 108]
abbrev dktX1_ruled_0 : List UInt8 := dkwX1_ruled_0 ++ dktX1_ruled_1
theorem dksX1_ruled_0 : cX1_ruled.data.toList.drop 0 = dktX1_ruled_0 := by decide +kernel
theorem dksX1_ruled_1 : cX1_ruled.data.toList.drop 23 = dktX1_ruled_1 := dk_seg dksX1_ruled_0 23 rfl rfl
theorem dksX1_ruled_2 : cX1_ruled.data.toList.drop 47 = dktX1_ruled_2 := dk_seg dksX1_ruled_1 24 rfl rfl
theorem dksX1_ruled_3 : cX1_ruled.data.toList.drop 71 = dktX1_ruled_3 := dk_seg dksX1_ruled_2 24 rfl rfl
theorem dksX1_ruled_4 : cX1_ruled.data.toList.drop 95 = dktX1_ruled_4 := dk_seg dksX1_ruled_3 24 rfl rfl
theorem dksX1_ruled_5 : cX1_ruled.data.toList.drop 119 = dktX1_ruled_5 := dk_seg dksX1_ruled_4 24 rfl rfl
theorem dksX1_ruled_6 : cX1_ruled.data.toList.drop 143 = dktX1_ruled_6 := dk_seg dksX1_ruled_5 24 rfl rfl
theorem dksX1_ruled_7 : cX1_ruled.data.toList.drop 167 = dktX1_ruled_7 := dk_seg dksX1_ruled_6 24 rfl rfl
theorem dX1_ruled_0 : decode cX1_ruled 0 = .ok (.iload_n 0, 1) := dk_26 (dk_at dksX1_ruled_0 0 rfl rfl)
theorem dX1_ruled_1 : decode cX1_ruled 1 = .ok (.istore_n 1, 1) := dk_60 (dk_at dksX1_ruled_0 1 rfl rfl)
theorem dX1_ruled_2 : decode cX1_ruled 2 = .ok (.iconst 1, 1) := dk_4 (dk_at dksX1_ruled_0 2 rfl rfl)
theorem dX1_ruled_3 : decode cX1_ruled 3 = .ok (.sipush 400, 3) := dk_17 1 144 (dk_at dksX1_ruled_0 3 rfl rfl)
theorem dX1_ruled_6 : decode cX1_ruled 6 = .ok (.iload_n 1, 1) := dk_27 (dk_at dksX1_ruled_0 6 rfl rfl)
theorem dX1_ruled_7 : decode cX1_ruled 7 = .ok (.ldc 37, 2) := dk_18 37 (dk_at dksX1_ruled_0 7 rfl rfl)
theorem dX1_ruled_9 : decode cX1_ruled 9 = .ok (.idiv, 1) := dk_108 (dk_at dksX1_ruled_0 9 rfl rfl)
theorem dX1_ruled_10 : decode cX1_ruled 10 = .ok (.imul, 1) := dk_104 (dk_at dksX1_ruled_0 10 rfl rfl)
theorem dX1_ruled_11 : decode cX1_ruled 11 = .ok (.iadd, 1) := dk_96 (dk_at dksX1_ruled_0 11 rfl rfl)
theorem dX1_ruled_12 : decode cX1_ruled 12 = .ok (.istore_n 2, 1) := dk_61 (dk_at dksX1_ruled_0 12 rfl rfl)
theorem dX1_ruled_13 : decode cX1_ruled 13 = .ok (.iload_n 1, 1) := dk_27 (dk_at dksX1_ruled_0 13 rfl rfl)
theorem dX1_ruled_14 : decode cX1_ruled 14 = .ok (.ldc 37, 2) := dk_18 37 (dk_at dksX1_ruled_0 14 rfl rfl)
theorem dX1_ruled_16 : decode cX1_ruled 16 = .ok (.irem, 1) := dk_112 (dk_at dksX1_ruled_0 16 rfl rfl)
theorem dX1_ruled_17 : decode cX1_ruled 17 = .ok (.istore_n 1, 1) := dk_60 (dk_at dksX1_ruled_0 17 rfl rfl)
theorem dX1_ruled_18 : decode cX1_ruled 18 = .ok (.iconst 3, 1) := dk_6 (dk_at dksX1_ruled_0 18 rfl rfl)
theorem dX1_ruled_19 : decode cX1_ruled 19 = .ok (.iload_n 1, 1) := dk_27 (dk_at dksX1_ruled_0 19 rfl rfl)
theorem dX1_ruled_20 : decode cX1_ruled 20 = .ok (.ldc 38, 2) := dk_18 38 (dk_at dksX1_ruled_0 20 rfl rfl)
theorem dX1_ruled_22 : decode cX1_ruled 22 = .ok (.idiv, 1) := dk_108 (dk_at dksX1_ruled_0 22 rfl rfl)
theorem dX1_ruled_23 : decode cX1_ruled 23 = .ok (.invokestatic 22, 3) := dk_184 0 22 (dk_at dksX1_ruled_1 0 rfl rfl)
theorem dX1_ruled_26 : decode cX1_ruled 26 = .ok (.istore_n 3, 1) := dk_62 (dk_at dksX1_ruled_1 3 rfl rfl)
theorem dX1_ruled_27 : decode cX1_ruled 27 = .ok (.iload_n 1, 1) := dk_27 (dk_at dksX1_ruled_1 4 rfl rfl)
theorem dX1_ruled_28 : decode cX1_ruled 28 = .ok (.ldc 38, 2) := dk_18 38 (dk_at dksX1_ruled_1 5 rfl rfl)
theorem dX1_ruled_30 : decode cX1_ruled 30 = .ok (.iload_n 3, 1) := dk_29 (dk_at dksX1_ruled_1 7 rfl rfl)
theorem dX1_ruled_31 : decode cX1_ruled 31 = .ok (.imul, 1) := dk_104 (dk_at dksX1_ruled_1 8 rfl rfl)
theorem dX1_ruled_32 : decode cX1_ruled 32 = .ok (.isub, 1) := dk_100 (dk_at dksX1_ruled_1 9 rfl rfl)
theorem dX1_ruled_33 : decode cX1_ruled 33 = .ok (.istore_n 1, 1) := dk_60 (dk_at dksX1_ruled_1 10 rfl rfl)
theorem dX1_ruled_34 : decode cX1_ruled 34 = .ok (.iload_n 1, 1) := dk_27 (dk_at dksX1_ruled_1 11 rfl rfl)
theorem dX1_ruled_35 : decode cX1_ruled 35 = .ok (.sipush 1461, 3) := dk_17 5 181 (dk_at dksX1_ruled_1 12 rfl rfl)
theorem dX1_ruled_38 : decode cX1_ruled 38 = .ok (.idiv, 1) := dk_108 (dk_at dksX1_ruled_1 15 rfl rfl)
theorem dX1_ruled_39 : decode cX1_ruled 39 = .ok (.istore 4, 2) := dk_54 4 (dk_at dksX1_ruled_1 16 rfl rfl)
theorem dX1_ruled_41 : decode cX1_ruled 41 = .ok (.iload_n 1, 1) := dk_27 (dk_at dksX1_ruled_1 18 rfl rfl)
theorem dX1_ruled_42 : decode cX1_ruled 42 = .ok (.sipush 1461, 3) := dk_17 5 181 (dk_at dksX1_ruled_1 19 rfl rfl)
theorem dX1_ruled_45 : decode cX1_ruled 45 = .ok (.iload 4, 2) := dk_21 4 (dk_at dksX1_ruled_1 22 rfl rfl)
theorem dX1_ruled_47 : decode cX1_ruled 47 = .ok (.imul, 1) := dk_104 (dk_at dksX1_ruled_2 0 rfl rfl)
theorem dX1_ruled_48 : decode cX1_ruled 48 = .ok (.isub, 1) := dk_100 (dk_at dksX1_ruled_2 1 rfl rfl)
theorem dX1_ruled_49 : decode cX1_ruled 49 = .ok (.istore_n 1, 1) := dk_60 (dk_at dksX1_ruled_2 2 rfl rfl)
theorem dX1_ruled_50 : decode cX1_ruled 50 = .ok (.iconst 3, 1) := dk_6 (dk_at dksX1_ruled_2 3 rfl rfl)
theorem dX1_ruled_51 : decode cX1_ruled 51 = .ok (.iload_n 1, 1) := dk_27 (dk_at dksX1_ruled_2 4 rfl rfl)
theorem dX1_ruled_52 : decode cX1_ruled 52 = .ok (.sipush 365, 3) := dk_17 1 109 (dk_at dksX1_ruled_2 5 rfl rfl)
theorem dX1_ruled_55 : decode cX1_ruled 55 = .ok (.idiv, 1) := dk_108 (dk_at dksX1_ruled_2 8 rfl rfl)
theorem dX1_ruled_56 : decode cX1_ruled 56 = .ok (.invokestatic 22, 3) := dk_184 0 22 (dk_at dksX1_ruled_2 9 rfl rfl)
theorem dX1_ruled_59 : decode cX1_ruled 59 = .ok (.istore 5, 2) := dk_54 5 (dk_at dksX1_ruled_2 12 rfl rfl)
theorem dX1_ruled_61 : decode cX1_ruled 61 = .ok (.iload_n 1, 1) := dk_27 (dk_at dksX1_ruled_2 14 rfl rfl)
theorem dX1_ruled_62 : decode cX1_ruled 62 = .ok (.sipush 365, 3) := dk_17 1 109 (dk_at dksX1_ruled_2 15 rfl rfl)
theorem dX1_ruled_65 : decode cX1_ruled 65 = .ok (.iload 5, 2) := dk_21 5 (dk_at dksX1_ruled_2 18 rfl rfl)
theorem dX1_ruled_67 : decode cX1_ruled 67 = .ok (.imul, 1) := dk_104 (dk_at dksX1_ruled_2 20 rfl rfl)
theorem dX1_ruled_68 : decode cX1_ruled 68 = .ok (.isub, 1) := dk_100 (dk_at dksX1_ruled_2 21 rfl rfl)
theorem dX1_ruled_69 : decode cX1_ruled 69 = .ok (.istore_n 1, 1) := dk_60 (dk_at dksX1_ruled_2 22 rfl rfl)
theorem dX1_ruled_70 : decode cX1_ruled 70 = .ok (.iload_n 2, 1) := dk_28 (dk_at dksX1_ruled_2 23 rfl rfl)
theorem dX1_ruled_71 : decode cX1_ruled 71 = .ok (.bipush 100, 2) := dk_16 100 (dk_at dksX1_ruled_3 0 rfl rfl)
theorem dX1_ruled_73 : decode cX1_ruled 73 = .ok (.iload_n 3, 1) := dk_29 (dk_at dksX1_ruled_3 2 rfl rfl)
theorem dX1_ruled_74 : decode cX1_ruled 74 = .ok (.imul, 1) := dk_104 (dk_at dksX1_ruled_3 3 rfl rfl)
theorem dX1_ruled_75 : decode cX1_ruled 75 = .ok (.iconst 4, 1) := dk_7 (dk_at dksX1_ruled_3 4 rfl rfl)
theorem dX1_ruled_76 : decode cX1_ruled 76 = .ok (.iload 4, 2) := dk_21 4 (dk_at dksX1_ruled_3 5 rfl rfl)
theorem dX1_ruled_78 : decode cX1_ruled 78 = .ok (.imul, 1) := dk_104 (dk_at dksX1_ruled_3 7 rfl rfl)
theorem dX1_ruled_79 : decode cX1_ruled 79 = .ok (.iadd, 1) := dk_96 (dk_at dksX1_ruled_3 8 rfl rfl)
theorem dX1_ruled_80 : decode cX1_ruled 80 = .ok (.iload 5, 2) := dk_21 5 (dk_at dksX1_ruled_3 9 rfl rfl)
theorem dX1_ruled_82 : decode cX1_ruled 82 = .ok (.iadd, 1) := dk_96 (dk_at dksX1_ruled_3 11 rfl rfl)
theorem dX1_ruled_83 : decode cX1_ruled 83 = .ok (.iadd, 1) := dk_96 (dk_at dksX1_ruled_3 12 rfl rfl)
theorem dX1_ruled_84 : decode cX1_ruled 84 = .ok (.istore_n 2, 1) := dk_61 (dk_at dksX1_ruled_3 13 rfl rfl)
theorem dX1_ruled_85 : decode cX1_ruled 85 = .ok (.bipush 59, 2) := dk_16 59 (dk_at dksX1_ruled_3 14 rfl rfl)
theorem dX1_ruled_87 : decode cX1_ruled 87 = .ok (.iload_n 2, 1) := dk_28 (dk_at dksX1_ruled_3 16 rfl rfl)
theorem dX1_ruled_88 : decode cX1_ruled 88 = .ok (.invokestatic 26, 3) := dk_184 0 26 (dk_at dksX1_ruled_3 17 rfl rfl)
theorem dX1_ruled_91 : decode cX1_ruled 91 = .ok (.ifCond .eq 7, 3) := dk_153 0 7 (dk_at dksX1_ruled_3 20 rfl rfl)
theorem dX1_ruled_94 : decode cX1_ruled 94 = .ok (.iconst 1, 1) := dk_4 (dk_at dksX1_ruled_3 23 rfl rfl)
theorem dX1_ruled_95 : decode cX1_ruled 95 = .ok (.goto 4, 3) := dk_167 0 4 (dk_at dksX1_ruled_4 0 rfl rfl)
theorem dX1_ruled_98 : decode cX1_ruled 98 = .ok (.iconst 0, 1) := dk_3 (dk_at dksX1_ruled_4 3 rfl rfl)
theorem dX1_ruled_99 : decode cX1_ruled 99 = .ok (.iadd, 1) := dk_96 (dk_at dksX1_ruled_4 4 rfl rfl)
theorem dX1_ruled_100 : decode cX1_ruled 100 = .ok (.istore 6, 2) := dk_54 6 (dk_at dksX1_ruled_4 5 rfl rfl)
theorem dX1_ruled_102 : decode cX1_ruled 102 = .ok (.iload_n 1, 1) := dk_27 (dk_at dksX1_ruled_4 7 rfl rfl)
theorem dX1_ruled_103 : decode cX1_ruled 103 = .ok (.iload 6, 2) := dk_21 6 (dk_at dksX1_ruled_4 8 rfl rfl)
theorem dX1_ruled_105 : decode cX1_ruled 105 = .ok (.if_icmp .ge 35, 3) := dk_162 0 35 (dk_at dksX1_ruled_4 10 rfl rfl)
theorem dX1_ruled_108 : decode cX1_ruled 108 = .ok (.iload_n 2, 1) := dk_28 (dk_at dksX1_ruled_4 13 rfl rfl)
theorem dX1_ruled_109 : decode cX1_ruled 109 = .ok (.iload_n 1, 1) := dk_27 (dk_at dksX1_ruled_4 14 rfl rfl)
theorem dX1_ruled_110 : decode cX1_ruled 110 = .ok (.bipush 31, 2) := dk_16 31 (dk_at dksX1_ruled_4 15 rfl rfl)
theorem dX1_ruled_112 : decode cX1_ruled 112 = .ok (.if_icmp .ge 7, 3) := dk_162 0 7 (dk_at dksX1_ruled_4 17 rfl rfl)
theorem dX1_ruled_115 : decode cX1_ruled 115 = .ok (.iconst 1, 1) := dk_4 (dk_at dksX1_ruled_4 20 rfl rfl)
theorem dX1_ruled_116 : decode cX1_ruled 116 = .ok (.goto 4, 3) := dk_167 0 4 (dk_at dksX1_ruled_4 21 rfl rfl)
theorem dX1_ruled_119 : decode cX1_ruled 119 = .ok (.iconst 2, 1) := dk_5 (dk_at dksX1_ruled_5 0 rfl rfl)
theorem dX1_ruled_120 : decode cX1_ruled 120 = .ok (.iload_n 1, 1) := dk_27 (dk_at dksX1_ruled_5 1 rfl rfl)
theorem dX1_ruled_121 : decode cX1_ruled 121 = .ok (.bipush 31, 2) := dk_16 31 (dk_at dksX1_ruled_5 2 rfl rfl)
theorem dX1_ruled_123 : decode cX1_ruled 123 = .ok (.if_icmp .ge 9, 3) := dk_162 0 9 (dk_at dksX1_ruled_5 4 rfl rfl)
theorem dX1_ruled_126 : decode cX1_ruled 126 = .ok (.iload_n 1, 1) := dk_27 (dk_at dksX1_ruled_5 7 rfl rfl)
theorem dX1_ruled_127 : decode cX1_ruled 127 = .ok (.iconst 1, 1) := dk_4 (dk_at dksX1_ruled_5 8 rfl rfl)
theorem dX1_ruled_128 : decode cX1_ruled 128 = .ok (.iadd, 1) := dk_96 (dk_at dksX1_ruled_5 9 rfl rfl)
theorem dX1_ruled_129 : decode cX1_ruled 129 = .ok (.goto 7, 3) := dk_167 0 7 (dk_at dksX1_ruled_5 10 rfl rfl)
theorem dX1_ruled_132 : decode cX1_ruled 132 = .ok (.iload_n 1, 1) := dk_27 (dk_at dksX1_ruled_5 13 rfl rfl)
theorem dX1_ruled_133 : decode cX1_ruled 133 = .ok (.bipush 30, 2) := dk_16 30 (dk_at dksX1_ruled_5 14 rfl rfl)
theorem dX1_ruled_135 : decode cX1_ruled 135 = .ok (.isub, 1) := dk_100 (dk_at dksX1_ruled_5 16 rfl rfl)
theorem dX1_ruled_136 : decode cX1_ruled 136 = .ok (.invokestatic 33, 3) := dk_184 0 33 (dk_at dksX1_ruled_5 17 rfl rfl)
theorem dX1_ruled_139 : decode cX1_ruled 139 = .ok (.ireturn, 1) := dk_172 (dk_at dksX1_ruled_5 20 rfl rfl)
theorem dX1_ruled_140 : decode cX1_ruled 140 = .ok (.iload_n 1, 1) := dk_27 (dk_at dksX1_ruled_5 21 rfl rfl)
theorem dX1_ruled_141 : decode cX1_ruled 141 = .ok (.iload 6, 2) := dk_21 6 (dk_at dksX1_ruled_5 22 rfl rfl)
theorem dX1_ruled_143 : decode cX1_ruled 143 = .ok (.isub, 1) := dk_100 (dk_at dksX1_ruled_6 0 rfl rfl)
theorem dX1_ruled_144 : decode cX1_ruled 144 = .ok (.istore 7, 2) := dk_54 7 (dk_at dksX1_ruled_6 1 rfl rfl)
theorem dX1_ruled_146 : decode cX1_ruled 146 = .ok (.iconst 5, 1) := dk_8 (dk_at dksX1_ruled_6 3 rfl rfl)
theorem dX1_ruled_147 : decode cX1_ruled 147 = .ok (.iload 7, 2) := dk_21 7 (dk_at dksX1_ruled_6 4 rfl rfl)
theorem dX1_ruled_149 : decode cX1_ruled 149 = .ok (.imul, 1) := dk_104 (dk_at dksX1_ruled_6 6 rfl rfl)
theorem dX1_ruled_150 : decode cX1_ruled 150 = .ok (.iconst 2, 1) := dk_5 (dk_at dksX1_ruled_6 7 rfl rfl)
theorem dX1_ruled_151 : decode cX1_ruled 151 = .ok (.iadd, 1) := dk_96 (dk_at dksX1_ruled_6 8 rfl rfl)
theorem dX1_ruled_152 : decode cX1_ruled 152 = .ok (.sipush 153, 3) := dk_17 0 153 (dk_at dksX1_ruled_6 9 rfl rfl)
theorem dX1_ruled_155 : decode cX1_ruled 155 = .ok (.idiv, 1) := dk_108 (dk_at dksX1_ruled_6 12 rfl rfl)
theorem dX1_ruled_156 : decode cX1_ruled 156 = .ok (.istore 8, 2) := dk_54 8 (dk_at dksX1_ruled_6 13 rfl rfl)
theorem dX1_ruled_158 : decode cX1_ruled 158 = .ok (.iload_n 2, 1) := dk_28 (dk_at dksX1_ruled_6 15 rfl rfl)
theorem dX1_ruled_159 : decode cX1_ruled 159 = .ok (.iload 8, 2) := dk_21 8 (dk_at dksX1_ruled_6 16 rfl rfl)
theorem dX1_ruled_161 : decode cX1_ruled 161 = .ok (.iconst 3, 1) := dk_6 (dk_at dksX1_ruled_6 18 rfl rfl)
theorem dX1_ruled_162 : decode cX1_ruled 162 = .ok (.iadd, 1) := dk_96 (dk_at dksX1_ruled_6 19 rfl rfl)
theorem dX1_ruled_163 : decode cX1_ruled 163 = .ok (.iload 7, 2) := dk_21 7 (dk_at dksX1_ruled_6 20 rfl rfl)
theorem dX1_ruled_165 : decode cX1_ruled 165 = .ok (.iload 8, 2) := dk_21 8 (dk_at dksX1_ruled_6 22 rfl rfl)
theorem dX1_ruled_167 : decode cX1_ruled 167 = .ok (.invokestatic 39, 3) := dk_184 0 39 (dk_at dksX1_ruled_7 0 rfl rfl)
theorem dX1_ruled_170 : decode cX1_ruled 170 = .ok (.isub, 1) := dk_100 (dk_at dksX1_ruled_7 3 rfl rfl)
theorem dX1_ruled_171 : decode cX1_ruled 171 = .ok (.iconst 1, 1) := dk_4 (dk_at dksX1_ruled_7 4 rfl rfl)
theorem dX1_ruled_172 : decode cX1_ruled 172 = .ok (.iadd, 1) := dk_96 (dk_at dksX1_ruled_7 5 rfl rfl)
theorem dX1_ruled_173 : decode cX1_ruled 173 = .ok (.invokestatic 33, 3) := dk_184 0 33 (dk_at dksX1_ruled_7 6 rfl rfl)
theorem dX1_ruled_176 : decode cX1_ruled 176 = .ok (.ireturn, 1) := dk_172 (dk_at dksX1_ruled_7 9 rfl rfl)
abbrev cX1_aheadOf : ByteArray := prog_1_method_11_code
def yX1_aheadOf : MethodName := ⟨RX1, "aheadOf", "(I)I"⟩
def dkwX1_aheadOf_0 : List UInt8 := [17, 0, 153, 26, 104, 5, 96, 8, 108, 172]
abbrev dktX1_aheadOf_0 : List UInt8 := dkwX1_aheadOf_0 ++ []
theorem dksX1_aheadOf_0 : cX1_aheadOf.data.toList.drop 0 = dktX1_aheadOf_0 := by decide +kernel
theorem dX1_aheadOf_0 : decode cX1_aheadOf 0 = .ok (.sipush 153, 3) := dk_17 0 153 (dk_at dksX1_aheadOf_0 0 rfl rfl)
theorem dX1_aheadOf_3 : decode cX1_aheadOf 3 = .ok (.iload_n 0, 1) := dk_26 (dk_at dksX1_aheadOf_0 3 rfl rfl)
theorem dX1_aheadOf_4 : decode cX1_aheadOf 4 = .ok (.imul, 1) := dk_104 (dk_at dksX1_aheadOf_0 4 rfl rfl)
theorem dX1_aheadOf_5 : decode cX1_aheadOf 5 = .ok (.iconst 2, 1) := dk_5 (dk_at dksX1_aheadOf_0 5 rfl rfl)
theorem dX1_aheadOf_6 : decode cX1_aheadOf 6 = .ok (.iadd, 1) := dk_96 (dk_at dksX1_aheadOf_0 6 rfl rfl)
theorem dX1_aheadOf_7 : decode cX1_aheadOf 7 = .ok (.iconst 5, 1) := dk_8 (dk_at dksX1_aheadOf_0 7 rfl rfl)
theorem dX1_aheadOf_8 : decode cX1_aheadOf 8 = .ok (.idiv, 1) := dk_108 (dk_at dksX1_aheadOf_0 8 rfl rfl)
theorem dX1_aheadOf_9 : decode cX1_aheadOf 9 = .ok (.ireturn, 1) := dk_172 (dk_at dksX1_aheadOf_0 9 rfl rfl)
abbrev cX1_weekday : ByteArray := prog_1_method_75_code
def yX1_weekday : MethodName := ⟨RX1, "weekday", "()I"⟩
def dkwX1_weekday_0 : List UInt8 := [42, 180, 0, 56, 180, 0, 253, 16, 7, 112, 172]
abbrev dktX1_weekday_0 : List UInt8 := dkwX1_weekday_0 ++ []
theorem dksX1_weekday_0 : cX1_weekday.data.toList.drop 0 = dktX1_weekday_0 := by decide +kernel
theorem dX1_weekday_0 : decode cX1_weekday 0 = .ok (.aload_n 0, 1) := dk_42 (dk_at dksX1_weekday_0 0 rfl rfl)
theorem dX1_weekday_1 : decode cX1_weekday 1 = .ok (.getfield 56, 3) := dk_180 0 56 (dk_at dksX1_weekday_0 1 rfl rfl)
theorem dX1_weekday_4 : decode cX1_weekday 4 = .ok (.getfield 253, 3) := dk_180 0 253 (dk_at dksX1_weekday_0 4 rfl rfl)
theorem dX1_weekday_7 : decode cX1_weekday 7 = .ok (.bipush 7, 2) := dk_16 7 (dk_at dksX1_weekday_0 7 rfl rfl)
theorem dX1_weekday_9 : decode cX1_weekday 9 = .ok (.irem, 1) := dk_112 (dk_at dksX1_weekday_0 9 rfl rfl)
theorem dX1_weekday_10 : decode cX1_weekday 10 = .ok (.ireturn, 1) := dk_172 (dk_at dksX1_weekday_0 10 rfl rfl)
abbrev cX1_dayOfYear : ByteArray := prog_1_method_77_code
def yX1_dayOfYear : MethodName := ⟨RX1, "dayOfYear", "()I"⟩
def dkwX1_dayOfYear_1 : List UInt8 := [184, 1, 70, 100, 4, 96, 172]
abbrev dktX1_dayOfYear_1 : List UInt8 := dkwX1_dayOfYear_1 ++ []
def dkwX1_dayOfYear_0 : List UInt8 := [42, 180, 0, 56, 180, 0, 253, 184, 1, 60, 17, 39, 16, 108, 60, 42, 180, 0, 56, 180, 0, 253, 27, 4]
abbrev dktX1_dayOfYear_0 : List UInt8 := dkwX1_dayOfYear_0 ++ dktX1_dayOfYear_1
theorem dksX1_dayOfYear_0 : cX1_dayOfYear.data.toList.drop 0 = dktX1_dayOfYear_0 := by decide +kernel
theorem dksX1_dayOfYear_1 : cX1_dayOfYear.data.toList.drop 24 = dktX1_dayOfYear_1 := dk_seg dksX1_dayOfYear_0 24 rfl rfl
theorem dX1_dayOfYear_0 : decode cX1_dayOfYear 0 = .ok (.aload_n 0, 1) := dk_42 (dk_at dksX1_dayOfYear_0 0 rfl rfl)
theorem dX1_dayOfYear_1 : decode cX1_dayOfYear 1 = .ok (.getfield 56, 3) := dk_180 0 56 (dk_at dksX1_dayOfYear_0 1 rfl rfl)
theorem dX1_dayOfYear_4 : decode cX1_dayOfYear 4 = .ok (.getfield 253, 3) := dk_180 0 253 (dk_at dksX1_dayOfYear_0 4 rfl rfl)
theorem dX1_dayOfYear_7 : decode cX1_dayOfYear 7 = .ok (.invokestatic 316, 3) := dk_184 1 60 (dk_at dksX1_dayOfYear_0 7 rfl rfl)
theorem dX1_dayOfYear_10 : decode cX1_dayOfYear 10 = .ok (.sipush 10000, 3) := dk_17 39 16 (dk_at dksX1_dayOfYear_0 10 rfl rfl)
theorem dX1_dayOfYear_13 : decode cX1_dayOfYear 13 = .ok (.idiv, 1) := dk_108 (dk_at dksX1_dayOfYear_0 13 rfl rfl)
theorem dX1_dayOfYear_14 : decode cX1_dayOfYear 14 = .ok (.istore_n 1, 1) := dk_60 (dk_at dksX1_dayOfYear_0 14 rfl rfl)
theorem dX1_dayOfYear_15 : decode cX1_dayOfYear 15 = .ok (.aload_n 0, 1) := dk_42 (dk_at dksX1_dayOfYear_0 15 rfl rfl)
theorem dX1_dayOfYear_16 : decode cX1_dayOfYear 16 = .ok (.getfield 56, 3) := dk_180 0 56 (dk_at dksX1_dayOfYear_0 16 rfl rfl)
theorem dX1_dayOfYear_19 : decode cX1_dayOfYear 19 = .ok (.getfield 253, 3) := dk_180 0 253 (dk_at dksX1_dayOfYear_0 19 rfl rfl)
theorem dX1_dayOfYear_22 : decode cX1_dayOfYear 22 = .ok (.iload_n 1, 1) := dk_27 (dk_at dksX1_dayOfYear_0 22 rfl rfl)
theorem dX1_dayOfYear_23 : decode cX1_dayOfYear 23 = .ok (.iconst 1, 1) := dk_4 (dk_at dksX1_dayOfYear_0 23 rfl rfl)
theorem dX1_dayOfYear_24 : decode cX1_dayOfYear 24 = .ok (.invokestatic 326, 3) := dk_184 1 70 (dk_at dksX1_dayOfYear_1 0 rfl rfl)
theorem dX1_dayOfYear_27 : decode cX1_dayOfYear 27 = .ok (.isub, 1) := dk_100 (dk_at dksX1_dayOfYear_1 3 rfl rfl)
theorem dX1_dayOfYear_28 : decode cX1_dayOfYear 28 = .ok (.iconst 1, 1) := dk_4 (dk_at dksX1_dayOfYear_1 4 rfl rfl)
theorem dX1_dayOfYear_29 : decode cX1_dayOfYear 29 = .ok (.iadd, 1) := dk_96 (dk_at dksX1_dayOfYear_1 5 rfl rfl)
theorem dX1_dayOfYear_30 : decode cX1_dayOfYear 30 = .ok (.ireturn, 1) := dk_172 (dk_at dksX1_dayOfYear_1 6 rfl rfl)
abbrev cX1_dayBefore : ByteArray := prog_1_method_13_code
def yX1_dayBefore : MethodName := ⟨RX1, "dayBefore", "(II)I"⟩
def dkwX1_dayBefore_2 : List UInt8 := [167, 255, 240, 28, 172]
abbrev dktX1_dayBefore_2 : List UInt8 := dkwX1_dayBefore_2 ++ []
def dkwX1_dayBefore_1 : List UInt8 := [17, 1, 144, 108, 96, 61, 4, 62, 29, 27, 162, 0, 17, 28, 26, 29, 184, 0, 30, 96, 61, 132, 3, 1]
abbrev dktX1_dayBefore_1 : List UInt8 := dkwX1_dayBefore_1 ++ dktX1_dayBefore_2
def dkwX1_dayBefore_0 : List UInt8 := [17, 1, 109, 26, 4, 100, 104, 26, 4, 100, 7, 108, 96, 26, 4, 100, 16, 100, 108, 100, 26, 4, 100]
abbrev dktX1_dayBefore_0 : List UInt8 := dkwX1_dayBefore_0 ++ dktX1_dayBefore_1
theorem dksX1_dayBefore_0 : cX1_dayBefore.data.toList.drop 0 = dktX1_dayBefore_0 := by decide +kernel
theorem dksX1_dayBefore_1 : cX1_dayBefore.data.toList.drop 23 = dktX1_dayBefore_1 := dk_seg dksX1_dayBefore_0 23 rfl rfl
theorem dksX1_dayBefore_2 : cX1_dayBefore.data.toList.drop 47 = dktX1_dayBefore_2 := dk_seg dksX1_dayBefore_1 24 rfl rfl
theorem dX1_dayBefore_0 : decode cX1_dayBefore 0 = .ok (.sipush 365, 3) := dk_17 1 109 (dk_at dksX1_dayBefore_0 0 rfl rfl)
theorem dX1_dayBefore_3 : decode cX1_dayBefore 3 = .ok (.iload_n 0, 1) := dk_26 (dk_at dksX1_dayBefore_0 3 rfl rfl)
theorem dX1_dayBefore_4 : decode cX1_dayBefore 4 = .ok (.iconst 1, 1) := dk_4 (dk_at dksX1_dayBefore_0 4 rfl rfl)
theorem dX1_dayBefore_5 : decode cX1_dayBefore 5 = .ok (.isub, 1) := dk_100 (dk_at dksX1_dayBefore_0 5 rfl rfl)
theorem dX1_dayBefore_6 : decode cX1_dayBefore 6 = .ok (.imul, 1) := dk_104 (dk_at dksX1_dayBefore_0 6 rfl rfl)
theorem dX1_dayBefore_7 : decode cX1_dayBefore 7 = .ok (.iload_n 0, 1) := dk_26 (dk_at dksX1_dayBefore_0 7 rfl rfl)
theorem dX1_dayBefore_8 : decode cX1_dayBefore 8 = .ok (.iconst 1, 1) := dk_4 (dk_at dksX1_dayBefore_0 8 rfl rfl)
theorem dX1_dayBefore_9 : decode cX1_dayBefore 9 = .ok (.isub, 1) := dk_100 (dk_at dksX1_dayBefore_0 9 rfl rfl)
theorem dX1_dayBefore_10 : decode cX1_dayBefore 10 = .ok (.iconst 4, 1) := dk_7 (dk_at dksX1_dayBefore_0 10 rfl rfl)
theorem dX1_dayBefore_11 : decode cX1_dayBefore 11 = .ok (.idiv, 1) := dk_108 (dk_at dksX1_dayBefore_0 11 rfl rfl)
theorem dX1_dayBefore_12 : decode cX1_dayBefore 12 = .ok (.iadd, 1) := dk_96 (dk_at dksX1_dayBefore_0 12 rfl rfl)
theorem dX1_dayBefore_13 : decode cX1_dayBefore 13 = .ok (.iload_n 0, 1) := dk_26 (dk_at dksX1_dayBefore_0 13 rfl rfl)
theorem dX1_dayBefore_14 : decode cX1_dayBefore 14 = .ok (.iconst 1, 1) := dk_4 (dk_at dksX1_dayBefore_0 14 rfl rfl)
theorem dX1_dayBefore_15 : decode cX1_dayBefore 15 = .ok (.isub, 1) := dk_100 (dk_at dksX1_dayBefore_0 15 rfl rfl)
theorem dX1_dayBefore_16 : decode cX1_dayBefore 16 = .ok (.bipush 100, 2) := dk_16 100 (dk_at dksX1_dayBefore_0 16 rfl rfl)
theorem dX1_dayBefore_18 : decode cX1_dayBefore 18 = .ok (.idiv, 1) := dk_108 (dk_at dksX1_dayBefore_0 18 rfl rfl)
theorem dX1_dayBefore_19 : decode cX1_dayBefore 19 = .ok (.isub, 1) := dk_100 (dk_at dksX1_dayBefore_0 19 rfl rfl)
theorem dX1_dayBefore_20 : decode cX1_dayBefore 20 = .ok (.iload_n 0, 1) := dk_26 (dk_at dksX1_dayBefore_0 20 rfl rfl)
theorem dX1_dayBefore_21 : decode cX1_dayBefore 21 = .ok (.iconst 1, 1) := dk_4 (dk_at dksX1_dayBefore_0 21 rfl rfl)
theorem dX1_dayBefore_22 : decode cX1_dayBefore 22 = .ok (.isub, 1) := dk_100 (dk_at dksX1_dayBefore_0 22 rfl rfl)
theorem dX1_dayBefore_23 : decode cX1_dayBefore 23 = .ok (.sipush 400, 3) := dk_17 1 144 (dk_at dksX1_dayBefore_1 0 rfl rfl)
theorem dX1_dayBefore_26 : decode cX1_dayBefore 26 = .ok (.idiv, 1) := dk_108 (dk_at dksX1_dayBefore_1 3 rfl rfl)
theorem dX1_dayBefore_27 : decode cX1_dayBefore 27 = .ok (.iadd, 1) := dk_96 (dk_at dksX1_dayBefore_1 4 rfl rfl)
theorem dX1_dayBefore_28 : decode cX1_dayBefore 28 = .ok (.istore_n 2, 1) := dk_61 (dk_at dksX1_dayBefore_1 5 rfl rfl)
theorem dX1_dayBefore_29 : decode cX1_dayBefore 29 = .ok (.iconst 1, 1) := dk_4 (dk_at dksX1_dayBefore_1 6 rfl rfl)
theorem dX1_dayBefore_30 : decode cX1_dayBefore 30 = .ok (.istore_n 3, 1) := dk_62 (dk_at dksX1_dayBefore_1 7 rfl rfl)
theorem dX1_dayBefore_31 : decode cX1_dayBefore 31 = .ok (.iload_n 3, 1) := dk_29 (dk_at dksX1_dayBefore_1 8 rfl rfl)
theorem dX1_dayBefore_32 : decode cX1_dayBefore 32 = .ok (.iload_n 1, 1) := dk_27 (dk_at dksX1_dayBefore_1 9 rfl rfl)
theorem dX1_dayBefore_33 : decode cX1_dayBefore 33 = .ok (.if_icmp .ge 17, 3) := dk_162 0 17 (dk_at dksX1_dayBefore_1 10 rfl rfl)
theorem dX1_dayBefore_36 : decode cX1_dayBefore 36 = .ok (.iload_n 2, 1) := dk_28 (dk_at dksX1_dayBefore_1 13 rfl rfl)
theorem dX1_dayBefore_37 : decode cX1_dayBefore 37 = .ok (.iload_n 0, 1) := dk_26 (dk_at dksX1_dayBefore_1 14 rfl rfl)
theorem dX1_dayBefore_38 : decode cX1_dayBefore 38 = .ok (.iload_n 3, 1) := dk_29 (dk_at dksX1_dayBefore_1 15 rfl rfl)
theorem dX1_dayBefore_39 : decode cX1_dayBefore 39 = .ok (.invokestatic 30, 3) := dk_184 0 30 (dk_at dksX1_dayBefore_1 16 rfl rfl)
theorem dX1_dayBefore_42 : decode cX1_dayBefore 42 = .ok (.iadd, 1) := dk_96 (dk_at dksX1_dayBefore_1 19 rfl rfl)
theorem dX1_dayBefore_43 : decode cX1_dayBefore 43 = .ok (.istore_n 2, 1) := dk_61 (dk_at dksX1_dayBefore_1 20 rfl rfl)
theorem dX1_dayBefore_44 : decode cX1_dayBefore 44 = .ok (.iinc 3 1, 3) := dk_132 3 1 (dk_at dksX1_dayBefore_1 21 rfl rfl)
theorem dX1_dayBefore_47 : decode cX1_dayBefore 47 = .ok (.goto (-16), 3) := dk_167 255 240 (dk_at dksX1_dayBefore_2 0 rfl rfl)
theorem dX1_dayBefore_50 : decode cX1_dayBefore 50 = .ok (.iload_n 2, 1) := dk_28 (dk_at dksX1_dayBefore_2 3 rfl rfl)
theorem dX1_dayBefore_51 : decode cX1_dayBefore 51 = .ok (.ireturn, 1) := dk_172 (dk_at dksX1_dayBefore_2 4 rfl rfl)
abbrev cX1_passed : ByteArray := prog_1_method_87_code
def yX1_passed : MethodName := ⟨RX1, "passed", "()I"⟩
def dkwX1_passed_0 : List UInt8 := [42, 180, 0, 56, 180, 1, 114, 172]
abbrev dktX1_passed_0 : List UInt8 := dkwX1_passed_0 ++ []
theorem dksX1_passed_0 : cX1_passed.data.toList.drop 0 = dktX1_passed_0 := by decide +kernel
theorem dX1_passed_0 : decode cX1_passed 0 = .ok (.aload_n 0, 1) := dk_42 (dk_at dksX1_passed_0 0 rfl rfl)
theorem dX1_passed_1 : decode cX1_passed 1 = .ok (.getfield 56, 3) := dk_180 0 56 (dk_at dksX1_passed_0 1 rfl rfl)
theorem dX1_passed_4 : decode cX1_passed 4 = .ok (.getfield 370, 3) := dk_180 1 114 (dk_at dksX1_passed_0 4 rfl rfl)
theorem dX1_passed_7 : decode cX1_passed 7 = .ok (.ireturn, 1) := dk_172 (dk_at dksX1_passed_0 7 rfl rfl)
abbrev cX1_driven : ByteArray := prog_1_method_88_code
def yX1_driven : MethodName := ⟨RX1, "driven", "()I"⟩
def dkwX1_driven_0 : List UInt8 := [42, 180, 0, 56, 182, 0, 185, 180, 1, 117, 172]
abbrev dktX1_driven_0 : List UInt8 := dkwX1_driven_0 ++ []
theorem dksX1_driven_0 : cX1_driven.data.toList.drop 0 = dktX1_driven_0 := by decide +kernel
theorem dX1_driven_0 : decode cX1_driven 0 = .ok (.aload_n 0, 1) := dk_42 (dk_at dksX1_driven_0 0 rfl rfl)
theorem dX1_driven_1 : decode cX1_driven 1 = .ok (.getfield 56, 3) := dk_180 0 56 (dk_at dksX1_driven_0 1 rfl rfl)
theorem dX1_driven_4 : decode cX1_driven 4 = .ok (.invokevirtual 185, 3) := dk_182 0 185 (dk_at dksX1_driven_0 4 rfl rfl)
theorem dX1_driven_7 : decode cX1_driven 7 = .ok (.getfield 373, 3) := dk_180 1 117 (dk_at dksX1_driven_0 7 rfl rfl)
theorem dX1_driven_10 : decode cX1_driven 10 = .ok (.ireturn, 1) := dk_172 (dk_at dksX1_driven_0 10 rfl rfl)
abbrev cX1_divisor : ByteArray := prog_1_method_2_code
def yX1_divisor : MethodName := ⟨RX1, "divisor", "(JJ)J"⟩
def dkwX1_divisor_1 : List UInt8 := [55, 8, 22, 6, 55, 4, 22, 8, 55, 6, 167, 255, 234, 22, 4, 173]
abbrev dktX1_divisor_1 : List UInt8 := dkwX1_divisor_1 ++ []
def dkwX1_divisor_0 : List UInt8 := [30, 184, 0, 1, 55, 4, 32, 184, 0, 1, 55, 6, 22, 6, 9, 148, 158, 0, 21, 22, 4, 22, 6, 113]
abbrev dktX1_divisor_0 : List UInt8 := dkwX1_divisor_0 ++ dktX1_divisor_1
theorem dksX1_divisor_0 : cX1_divisor.data.toList.drop 0 = dktX1_divisor_0 := by decide +kernel
theorem dksX1_divisor_1 : cX1_divisor.data.toList.drop 24 = dktX1_divisor_1 := dk_seg dksX1_divisor_0 24 rfl rfl
theorem dX1_divisor_0 : decode cX1_divisor 0 = .ok (.lload_n 0, 1) := dk_30 (dk_at dksX1_divisor_0 0 rfl rfl)
theorem dX1_divisor_1 : decode cX1_divisor 1 = .ok (.invokestatic 1, 3) := dk_184 0 1 (dk_at dksX1_divisor_0 1 rfl rfl)
theorem dX1_divisor_4 : decode cX1_divisor 4 = .ok (.lstore 4, 2) := dk_55 4 (dk_at dksX1_divisor_0 4 rfl rfl)
theorem dX1_divisor_6 : decode cX1_divisor 6 = .ok (.lload_n 2, 1) := dk_32 (dk_at dksX1_divisor_0 6 rfl rfl)
theorem dX1_divisor_7 : decode cX1_divisor 7 = .ok (.invokestatic 1, 3) := dk_184 0 1 (dk_at dksX1_divisor_0 7 rfl rfl)
theorem dX1_divisor_10 : decode cX1_divisor 10 = .ok (.lstore 6, 2) := dk_55 6 (dk_at dksX1_divisor_0 10 rfl rfl)
theorem dX1_divisor_12 : decode cX1_divisor 12 = .ok (.lload 6, 2) := dk_22 6 (dk_at dksX1_divisor_0 12 rfl rfl)
theorem dX1_divisor_14 : decode cX1_divisor 14 = .ok (.lconst 0, 1) := dk_9 (dk_at dksX1_divisor_0 14 rfl rfl)
theorem dX1_divisor_15 : decode cX1_divisor 15 = .ok (.lcmp, 1) := dk_148 (dk_at dksX1_divisor_0 15 rfl rfl)
theorem dX1_divisor_16 : decode cX1_divisor 16 = .ok (.ifCond .le 21, 3) := dk_158 0 21 (dk_at dksX1_divisor_0 16 rfl rfl)
theorem dX1_divisor_19 : decode cX1_divisor 19 = .ok (.lload 4, 2) := dk_22 4 (dk_at dksX1_divisor_0 19 rfl rfl)
theorem dX1_divisor_21 : decode cX1_divisor 21 = .ok (.lload 6, 2) := dk_22 6 (dk_at dksX1_divisor_0 21 rfl rfl)
theorem dX1_divisor_23 : decode cX1_divisor 23 = .ok (.lrem, 1) := dk_113 (dk_at dksX1_divisor_0 23 rfl rfl)
theorem dX1_divisor_24 : decode cX1_divisor 24 = .ok (.lstore 8, 2) := dk_55 8 (dk_at dksX1_divisor_1 0 rfl rfl)
theorem dX1_divisor_26 : decode cX1_divisor 26 = .ok (.lload 6, 2) := dk_22 6 (dk_at dksX1_divisor_1 2 rfl rfl)
theorem dX1_divisor_28 : decode cX1_divisor 28 = .ok (.lstore 4, 2) := dk_55 4 (dk_at dksX1_divisor_1 4 rfl rfl)
theorem dX1_divisor_30 : decode cX1_divisor 30 = .ok (.lload 8, 2) := dk_22 8 (dk_at dksX1_divisor_1 6 rfl rfl)
theorem dX1_divisor_32 : decode cX1_divisor 32 = .ok (.lstore 6, 2) := dk_55 6 (dk_at dksX1_divisor_1 8 rfl rfl)
theorem dX1_divisor_34 : decode cX1_divisor 34 = .ok (.goto (-22), 3) := dk_167 255 234 (dk_at dksX1_divisor_1 10 rfl rfl)
theorem dX1_divisor_37 : decode cX1_divisor 37 = .ok (.lload 4, 2) := dk_22 4 (dk_at dksX1_divisor_1 13 rfl rfl)
theorem dX1_divisor_39 : decode cX1_divisor 39 = .ok (.lreturn, 1) := dk_173 (dk_at dksX1_divisor_1 15 rfl rfl)
abbrev cX1_allTeeth : ByteArray := prog_1_method_89_code
def yX1_allTeeth : MethodName := ⟨RX1, "allTeeth", "()I"⟩
def dkwX1_allTeeth_1 : List UInt8 := [180, 0, 162, 28, 182, 0, 166, 192, 0, 172, 180, 0, 224, 96, 60, 132, 2, 1, 167, 255, 219, 27, 172]
abbrev dktX1_allTeeth_1 : List UInt8 := dkwX1_allTeeth_1 ++ []
def dkwX1_allTeeth_0 : List UInt8 := [3, 60, 3, 61, 28, 42, 180, 0, 56, 180, 0, 162, 182, 0, 203, 162, 0, 29, 27, 42, 180, 0, 56]
abbrev dktX1_allTeeth_0 : List UInt8 := dkwX1_allTeeth_0 ++ dktX1_allTeeth_1
theorem dksX1_allTeeth_0 : cX1_allTeeth.data.toList.drop 0 = dktX1_allTeeth_0 := by decide +kernel
theorem dksX1_allTeeth_1 : cX1_allTeeth.data.toList.drop 23 = dktX1_allTeeth_1 := dk_seg dksX1_allTeeth_0 23 rfl rfl
theorem dX1_allTeeth_0 : decode cX1_allTeeth 0 = .ok (.iconst 0, 1) := dk_3 (dk_at dksX1_allTeeth_0 0 rfl rfl)
theorem dX1_allTeeth_1 : decode cX1_allTeeth 1 = .ok (.istore_n 1, 1) := dk_60 (dk_at dksX1_allTeeth_0 1 rfl rfl)
theorem dX1_allTeeth_2 : decode cX1_allTeeth 2 = .ok (.iconst 0, 1) := dk_3 (dk_at dksX1_allTeeth_0 2 rfl rfl)
theorem dX1_allTeeth_3 : decode cX1_allTeeth 3 = .ok (.istore_n 2, 1) := dk_61 (dk_at dksX1_allTeeth_0 3 rfl rfl)
theorem dX1_allTeeth_4 : decode cX1_allTeeth 4 = .ok (.iload_n 2, 1) := dk_28 (dk_at dksX1_allTeeth_0 4 rfl rfl)
theorem dX1_allTeeth_5 : decode cX1_allTeeth 5 = .ok (.aload_n 0, 1) := dk_42 (dk_at dksX1_allTeeth_0 5 rfl rfl)
theorem dX1_allTeeth_6 : decode cX1_allTeeth 6 = .ok (.getfield 56, 3) := dk_180 0 56 (dk_at dksX1_allTeeth_0 6 rfl rfl)
theorem dX1_allTeeth_9 : decode cX1_allTeeth 9 = .ok (.getfield 162, 3) := dk_180 0 162 (dk_at dksX1_allTeeth_0 9 rfl rfl)
theorem dX1_allTeeth_12 : decode cX1_allTeeth 12 = .ok (.invokevirtual 203, 3) := dk_182 0 203 (dk_at dksX1_allTeeth_0 12 rfl rfl)
theorem dX1_allTeeth_15 : decode cX1_allTeeth 15 = .ok (.if_icmp .ge 29, 3) := dk_162 0 29 (dk_at dksX1_allTeeth_0 15 rfl rfl)
theorem dX1_allTeeth_18 : decode cX1_allTeeth 18 = .ok (.iload_n 1, 1) := dk_27 (dk_at dksX1_allTeeth_0 18 rfl rfl)
theorem dX1_allTeeth_19 : decode cX1_allTeeth 19 = .ok (.aload_n 0, 1) := dk_42 (dk_at dksX1_allTeeth_0 19 rfl rfl)
theorem dX1_allTeeth_20 : decode cX1_allTeeth 20 = .ok (.getfield 56, 3) := dk_180 0 56 (dk_at dksX1_allTeeth_0 20 rfl rfl)
theorem dX1_allTeeth_23 : decode cX1_allTeeth 23 = .ok (.getfield 162, 3) := dk_180 0 162 (dk_at dksX1_allTeeth_1 0 rfl rfl)
theorem dX1_allTeeth_26 : decode cX1_allTeeth 26 = .ok (.iload_n 2, 1) := dk_28 (dk_at dksX1_allTeeth_1 3 rfl rfl)
theorem dX1_allTeeth_27 : decode cX1_allTeeth 27 = .ok (.invokevirtual 166, 3) := dk_182 0 166 (dk_at dksX1_allTeeth_1 4 rfl rfl)
theorem dX1_allTeeth_30 : decode cX1_allTeeth 30 = .ok (.checkcast 172, 3) := dk_192 0 172 (dk_at dksX1_allTeeth_1 7 rfl rfl)
theorem dX1_allTeeth_33 : decode cX1_allTeeth 33 = .ok (.getfield 224, 3) := dk_180 0 224 (dk_at dksX1_allTeeth_1 10 rfl rfl)
theorem dX1_allTeeth_36 : decode cX1_allTeeth 36 = .ok (.iadd, 1) := dk_96 (dk_at dksX1_allTeeth_1 13 rfl rfl)
theorem dX1_allTeeth_37 : decode cX1_allTeeth 37 = .ok (.istore_n 1, 1) := dk_60 (dk_at dksX1_allTeeth_1 14 rfl rfl)
theorem dX1_allTeeth_38 : decode cX1_allTeeth 38 = .ok (.iinc 2 1, 3) := dk_132 2 1 (dk_at dksX1_allTeeth_1 15 rfl rfl)
theorem dX1_allTeeth_41 : decode cX1_allTeeth 41 = .ok (.goto (-37), 3) := dk_167 255 219 (dk_at dksX1_allTeeth_1 18 rfl rfl)
theorem dX1_allTeeth_44 : decode cX1_allTeeth 44 = .ok (.iload_n 1, 1) := dk_27 (dk_at dksX1_allTeeth_1 21 rfl rfl)
theorem dX1_allTeeth_45 : decode cX1_allTeeth 45 = .ok (.ireturn, 1) := dk_172 (dk_at dksX1_allTeeth_1 22 rfl rfl)
abbrev cX1_keep : ByteArray := prog_1_method_90_code
def yX1_keep : MethodName := ⟨RX1, "keep", "()I"⟩
def dkwX1_keep_0 : List UInt8 := [42, 42, 180, 0, 56, 181, 1, 120, 42, 180, 0, 56, 180, 0, 253, 172]
abbrev dktX1_keep_0 : List UInt8 := dkwX1_keep_0 ++ []
theorem dksX1_keep_0 : cX1_keep.data.toList.drop 0 = dktX1_keep_0 := by decide +kernel
theorem dX1_keep_0 : decode cX1_keep 0 = .ok (.aload_n 0, 1) := dk_42 (dk_at dksX1_keep_0 0 rfl rfl)
theorem dX1_keep_1 : decode cX1_keep 1 = .ok (.aload_n 0, 1) := dk_42 (dk_at dksX1_keep_0 1 rfl rfl)
theorem dX1_keep_2 : decode cX1_keep 2 = .ok (.getfield 56, 3) := dk_180 0 56 (dk_at dksX1_keep_0 2 rfl rfl)
theorem dX1_keep_5 : decode cX1_keep 5 = .ok (.putfield 376, 3) := dk_181 1 120 (dk_at dksX1_keep_0 5 rfl rfl)
theorem dX1_keep_8 : decode cX1_keep 8 = .ok (.aload_n 0, 1) := dk_42 (dk_at dksX1_keep_0 8 rfl rfl)
theorem dX1_keep_9 : decode cX1_keep 9 = .ok (.getfield 56, 3) := dk_180 0 56 (dk_at dksX1_keep_0 9 rfl rfl)
theorem dX1_keep_12 : decode cX1_keep 12 = .ok (.getfield 253, 3) := dk_180 0 253 (dk_at dksX1_keep_0 12 rfl rfl)
theorem dX1_keep_15 : decode cX1_keep 15 = .ok (.ireturn, 1) := dk_172 (dk_at dksX1_keep_0 15 rfl rfl)
abbrev cX1_states : ByteArray := prog_1_method_92_code
def yX1_states : MethodName := ⟨RX1, "states", "()I"⟩
def dkwX1_states_0 : List UInt8 := [42, 180, 0, 63, 182, 0, 78, 172]
abbrev dktX1_states_0 : List UInt8 := dkwX1_states_0 ++ []
theorem dksX1_states_0 : cX1_states.data.toList.drop 0 = dktX1_states_0 := by decide +kernel
theorem dX1_states_0 : decode cX1_states 0 = .ok (.aload_n 0, 1) := dk_42 (dk_at dksX1_states_0 0 rfl rfl)
theorem dX1_states_1 : decode cX1_states 1 = .ok (.getfield 63, 3) := dk_180 0 63 (dk_at dksX1_states_0 1 rfl rfl)
theorem dX1_states_4 : decode cX1_states 4 = .ok (.invokevirtual 78, 3) := dk_182 0 78 (dk_at dksX1_states_0 4 rfl rfl)
theorem dX1_states_7 : decode cX1_states 7 = .ok (.ireturn, 1) := dk_172 (dk_at dksX1_states_0 7 rfl rfl)
abbrev cX1_clearText : ByteArray := prog_1_method_95_code
def yX1_clearText : MethodName := ⟨RX1, "clearText", "()I"⟩
def dkwX1_clearText_0 : List UInt8 := [42, 180, 0, 70, 182, 1, 137, 60, 42, 180, 0, 70, 3, 182, 1, 144, 27, 172]
abbrev dktX1_clearText_0 : List UInt8 := dkwX1_clearText_0 ++ []
theorem dksX1_clearText_0 : cX1_clearText.data.toList.drop 0 = dktX1_clearText_0 := by decide +kernel
theorem dX1_clearText_0 : decode cX1_clearText 0 = .ok (.aload_n 0, 1) := dk_42 (dk_at dksX1_clearText_0 0 rfl rfl)
theorem dX1_clearText_1 : decode cX1_clearText 1 = .ok (.getfield 70, 3) := dk_180 0 70 (dk_at dksX1_clearText_0 1 rfl rfl)
theorem dX1_clearText_4 : decode cX1_clearText 4 = .ok (.invokevirtual 393, 3) := dk_182 1 137 (dk_at dksX1_clearText_0 4 rfl rfl)
theorem dX1_clearText_7 : decode cX1_clearText 7 = .ok (.istore_n 1, 1) := dk_60 (dk_at dksX1_clearText_0 7 rfl rfl)
theorem dX1_clearText_8 : decode cX1_clearText 8 = .ok (.aload_n 0, 1) := dk_42 (dk_at dksX1_clearText_0 8 rfl rfl)
theorem dX1_clearText_9 : decode cX1_clearText 9 = .ok (.getfield 70, 3) := dk_180 0 70 (dk_at dksX1_clearText_0 9 rfl rfl)
theorem dX1_clearText_12 : decode cX1_clearText 12 = .ok (.iconst 0, 1) := dk_3 (dk_at dksX1_clearText_0 12 rfl rfl)
theorem dX1_clearText_13 : decode cX1_clearText 13 = .ok (.invokevirtual 400, 3) := dk_182 1 144 (dk_at dksX1_clearText_0 13 rfl rfl)
theorem dX1_clearText_16 : decode cX1_clearText 16 = .ok (.iload_n 1, 1) := dk_27 (dk_at dksX1_clearText_0 16 rfl rfl)
theorem dX1_clearText_17 : decode cX1_clearText 17 = .ok (.ireturn, 1) := dk_172 (dk_at dksX1_clearText_0 17 rfl rfl)
abbrev cX1_addAxle : ByteArray := prog_1_method_19_code
def yX1_addAxle : MethodName := ⟨RX1, "addAxle", "()I"⟩
def dkwX1_addAxle_0 : List UInt8 := [42, 16, 120, 3, 188, 10, 182, 0, 146, 172]
abbrev dktX1_addAxle_0 : List UInt8 := dkwX1_addAxle_0 ++ []
theorem dksX1_addAxle_0 : cX1_addAxle.data.toList.drop 0 = dktX1_addAxle_0 := by decide +kernel
theorem dX1_addAxle_0 : decode cX1_addAxle 0 = .ok (.aload_n 0, 1) := dk_42 (dk_at dksX1_addAxle_0 0 rfl rfl)
theorem dX1_addAxle_1 : decode cX1_addAxle 1 = .ok (.bipush 120, 2) := dk_16 120 (dk_at dksX1_addAxle_0 1 rfl rfl)
theorem dX1_addAxle_3 : decode cX1_addAxle 3 = .ok (.iconst 0, 1) := dk_3 (dk_at dksX1_addAxle_0 3 rfl rfl)
theorem dX1_addAxle_4 : decode cX1_addAxle 4 = .ok (.newarray .int, 2) := dk_188_10 (dk_at dksX1_addAxle_0 4 rfl rfl)
theorem dX1_addAxle_6 : decode cX1_addAxle 6 = .ok (.invokevirtual 146, 3) := dk_182 0 146 (dk_at dksX1_addAxle_0 6 rfl rfl)
theorem dX1_addAxle_9 : decode cX1_addAxle 9 = .ok (.ireturn, 1) := dk_172 (dk_at dksX1_addAxle_0 9 rfl rfl)
abbrev cX1_act : ByteArray := prog_1_method_18_code
def yX1_act : MethodName := ⟨RX1, "act", "(C[I)I"⟩
def dkwX1_act_2 : List UInt8 := [89, 18, 143, 183, 0, 145, 191]
abbrev dktX1_act_2 : List UInt8 := dkwX1_act_2 ++ []
def dkwX1_act_1 : List UInt8 := [58, 4, 25, 4, 180, 0, 130, 4, 160, 0, 13, 187, 0, 134, 89, 18, 136, 183, 0, 138, 191, 187, 0, 141]
abbrev dktX1_act_1 : List UInt8 := dkwX1_act_1 ++ dktX1_act_2
def dkwX1_act_0 : List UInt8 := [187, 0, 53, 89, 42, 180, 0, 56, 183, 0, 119, 78, 42, 45, 45, 27, 44, 184, 0, 122, 182, 0, 126, 172]
abbrev dktX1_act_0 : List UInt8 := dkwX1_act_0 ++ dktX1_act_1
theorem dksX1_act_0 : cX1_act.data.toList.drop 0 = dktX1_act_0 := by decide +kernel
theorem dksX1_act_1 : cX1_act.data.toList.drop 24 = dktX1_act_1 := dk_seg dksX1_act_0 24 rfl rfl
theorem dksX1_act_2 : cX1_act.data.toList.drop 48 = dktX1_act_2 := dk_seg dksX1_act_1 24 rfl rfl
theorem dX1_act_0 : decode cX1_act 0 = .ok (.new 53, 3) := dk_187 0 53 (dk_at dksX1_act_0 0 rfl rfl)
theorem dX1_act_3 : decode cX1_act 3 = .ok (.dup, 1) := dk_89 (dk_at dksX1_act_0 3 rfl rfl)
theorem dX1_act_4 : decode cX1_act 4 = .ok (.aload_n 0, 1) := dk_42 (dk_at dksX1_act_0 4 rfl rfl)
theorem dX1_act_5 : decode cX1_act 5 = .ok (.getfield 56, 3) := dk_180 0 56 (dk_at dksX1_act_0 5 rfl rfl)
theorem dX1_act_8 : decode cX1_act 8 = .ok (.invokespecial 119, 3) := dk_183 0 119 (dk_at dksX1_act_0 8 rfl rfl)
theorem dX1_act_11 : decode cX1_act 11 = .ok (.astore_n 3, 1) := dk_78 (dk_at dksX1_act_0 11 rfl rfl)
theorem dX1_act_12 : decode cX1_act 12 = .ok (.aload_n 0, 1) := dk_42 (dk_at dksX1_act_0 12 rfl rfl)
theorem dX1_act_13 : decode cX1_act 13 = .ok (.aload_n 3, 1) := dk_45 (dk_at dksX1_act_0 13 rfl rfl)
theorem dX1_act_14 : decode cX1_act 14 = .ok (.aload_n 3, 1) := dk_45 (dk_at dksX1_act_0 14 rfl rfl)
theorem dX1_act_15 : decode cX1_act 15 = .ok (.iload_n 1, 1) := dk_27 (dk_at dksX1_act_0 15 rfl rfl)
theorem dX1_act_16 : decode cX1_act 16 = .ok (.aload_n 2, 1) := dk_44 (dk_at dksX1_act_0 16 rfl rfl)
theorem dX1_act_17 : decode cX1_act 17 = .ok (.invokestatic 122, 3) := dk_184 0 122 (dk_at dksX1_act_0 17 rfl rfl)
theorem dX1_act_20 : decode cX1_act 20 = .ok (.invokevirtual 126, 3) := dk_182 0 126 (dk_at dksX1_act_0 20 rfl rfl)
theorem dX1_act_23 : decode cX1_act 23 = .ok (.ireturn, 1) := dk_172 (dk_at dksX1_act_0 23 rfl rfl)
theorem dX1_act_24 : decode cX1_act 24 = .ok (.astore 4, 2) := dk_58 4 (dk_at dksX1_act_1 0 rfl rfl)
theorem dX1_act_26 : decode cX1_act 26 = .ok (.aload 4, 2) := dk_25 4 (dk_at dksX1_act_1 2 rfl rfl)
theorem dX1_act_28 : decode cX1_act 28 = .ok (.getfield 130, 3) := dk_180 0 130 (dk_at dksX1_act_1 4 rfl rfl)
theorem dX1_act_31 : decode cX1_act 31 = .ok (.iconst 1, 1) := dk_4 (dk_at dksX1_act_1 7 rfl rfl)
theorem dX1_act_32 : decode cX1_act 32 = .ok (.if_icmp .ne 13, 3) := dk_160 0 13 (dk_at dksX1_act_1 8 rfl rfl)
theorem dX1_act_35 : decode cX1_act 35 = .ok (.new 134, 3) := dk_187 0 134 (dk_at dksX1_act_1 11 rfl rfl)
theorem dX1_act_38 : decode cX1_act 38 = .ok (.dup, 1) := dk_89 (dk_at dksX1_act_1 14 rfl rfl)
theorem dX1_act_39 : decode cX1_act 39 = .ok (.ldc 136, 2) := dk_18 136 (dk_at dksX1_act_1 15 rfl rfl)
theorem dX1_act_41 : decode cX1_act 41 = .ok (.invokespecial 138, 3) := dk_183 0 138 (dk_at dksX1_act_1 17 rfl rfl)
theorem dX1_act_44 : decode cX1_act 44 = .ok (.athrow, 1) := dk_191 (dk_at dksX1_act_1 20 rfl rfl)
theorem dX1_act_45 : decode cX1_act 45 = .ok (.new 141, 3) := dk_187 0 141 (dk_at dksX1_act_1 21 rfl rfl)
theorem dX1_act_48 : decode cX1_act 48 = .ok (.dup, 1) := dk_89 (dk_at dksX1_act_2 0 rfl rfl)
theorem dX1_act_49 : decode cX1_act 49 = .ok (.ldc 143, 2) := dk_18 143 (dk_at dksX1_act_2 1 rfl rfl)
theorem dX1_act_51 : decode cX1_act 51 = .ok (.invokespecial 145, 3) := dk_183 0 145 (dk_at dksX1_act_2 3 rfl rfl)
theorem dX1_act_54 : decode cX1_act 54 = .ok (.athrow, 1) := dk_191 (dk_at dksX1_act_2 6 rfl rfl)
abbrev cX1_done : ByteArray := prog_1_method_17_code
def yX1_done : MethodName := ⟨RX1, "done", "(LClockworkOrreries$Works;C[I)I"⟩
def dkwX1_done_6 : List UInt8 := [182, 0, 113, 172, 42, 44, 3, 46, 182, 0, 116, 172]
abbrev dktX1_done_6 : List UInt8 := dkwX1_done_6 ++ []
def dkwX1_done_5 : List UInt8 := [46, 44, 4, 46, 182, 0, 107, 172, 42, 44, 3, 46, 44, 4, 46, 182, 0, 110, 172, 42, 44, 3, 46]
abbrev dktX1_done_5 : List UInt8 := dkwX1_done_5 ++ dktX1_done_6
def dkwX1_done_4 : List UInt8 := [44, 3, 46, 44, 4, 46, 182, 0, 101, 172, 42, 44, 3, 46, 44, 4, 46, 182, 0, 104, 172, 42, 44, 3]
abbrev dktX1_done_4 : List UInt8 := dkwX1_done_4 ++ dktX1_done_5
def dkwX1_done_3 : List UInt8 := [182, 0, 92, 172, 42, 44, 3, 46, 182, 0, 95, 172, 42, 44, 3, 46, 44, 4, 46, 182, 0, 98, 172, 42]
abbrev dktX1_done_3 : List UInt8 := dkwX1_done_3 ++ dktX1_done_4
def dkwX1_done_2 : List UInt8 := [42, 182, 0, 86, 172, 42, 44, 3, 46, 44, 4, 46, 182, 0, 89, 172, 42, 44, 3, 46, 44, 4, 46]
abbrev dktX1_done_2 : List UInt8 := dkwX1_done_2 ++ dktX1_done_3
def dkwX1_done_1 : List UInt8 := [170, 0, 0, 0, 0, 0, 209, 0, 0, 0, 97, 0, 0, 0, 120, 0, 0, 0, 157, 0, 0, 0, 168, 0, 0, 0, 209, 0, 0, 0, 201, 0, 0, 0, 209, 0, 0, 0, 209, 0, 0, 0, 209, 0, 0, 0, 209, 0, 0, 0, 209, 0, 0, 0, 209, 0, 0, 0, 209, 0, 0, 0, 209, 0, 0, 0, 127, 0, 0, 0, 209, 0, 0, 0, 179, 0, 0, 0, 190, 0, 0, 0, 209, 0, 0, 0, 209, 0, 0, 0, 209, 0, 0, 0, 146, 0, 0, 0, 138, 0, 0, 0, 209, 0, 0, 0, 116, 0, 0, 0, 111]
abbrev dktX1_done_1 : List UInt8 := dkwX1_done_1 ++ dktX1_done_2
def dkwX1_done_0 : List UInt8 := [27]
abbrev dktX1_done_0 : List UInt8 := dkwX1_done_0 ++ dktX1_done_1
theorem dksX1_done_0 : cX1_done.data.toList.drop 0 = dktX1_done_0 := by decide +kernel
theorem dksX1_done_1 : cX1_done.data.toList.drop 1 = dktX1_done_1 := dk_seg dksX1_done_0 1 rfl rfl
theorem dksX1_done_2 : cX1_done.data.toList.drop 112 = dktX1_done_2 := dk_seg dksX1_done_1 111 rfl rfl
theorem dksX1_done_3 : cX1_done.data.toList.drop 135 = dktX1_done_3 := dk_seg dksX1_done_2 23 rfl rfl
theorem dksX1_done_4 : cX1_done.data.toList.drop 159 = dktX1_done_4 := dk_seg dksX1_done_3 24 rfl rfl
theorem dksX1_done_5 : cX1_done.data.toList.drop 183 = dktX1_done_5 := dk_seg dksX1_done_4 24 rfl rfl
theorem dksX1_done_6 : cX1_done.data.toList.drop 206 = dktX1_done_6 := dk_seg dksX1_done_5 23 rfl rfl
theorem dX1_done_0 : decode cX1_done 0 = .ok (.iload_n 1, 1) := dk_27 (dk_at dksX1_done_0 0 rfl rfl)
theorem dX1_done_1 : decode cX1_done 1 = .ok (.tableswitch 209 97 120 #[157, 168, 209, 201, 209, 209, 209, 209, 209, 209, 209, 209, 127, 209, 179, 190, 209, 209, 209, 146, 138, 209, 116, 111], 111) := by decide +kernel
theorem dX1_done_112 : decode cX1_done 112 = .ok (.aload_n 0, 1) := dk_42 (dk_at dksX1_done_2 0 rfl rfl)
theorem dX1_done_113 : decode cX1_done 113 = .ok (.invokevirtual 86, 3) := dk_182 0 86 (dk_at dksX1_done_2 1 rfl rfl)
theorem dX1_done_116 : decode cX1_done 116 = .ok (.ireturn, 1) := dk_172 (dk_at dksX1_done_2 4 rfl rfl)
theorem dX1_done_117 : decode cX1_done 117 = .ok (.aload_n 0, 1) := dk_42 (dk_at dksX1_done_2 5 rfl rfl)
theorem dX1_done_118 : decode cX1_done 118 = .ok (.aload_n 2, 1) := dk_44 (dk_at dksX1_done_2 6 rfl rfl)
theorem dX1_done_119 : decode cX1_done 119 = .ok (.iconst 0, 1) := dk_3 (dk_at dksX1_done_2 7 rfl rfl)
theorem dX1_done_120 : decode cX1_done 120 = .ok (.iaload, 1) := dk_46 (dk_at dksX1_done_2 8 rfl rfl)
theorem dX1_done_121 : decode cX1_done 121 = .ok (.aload_n 2, 1) := dk_44 (dk_at dksX1_done_2 9 rfl rfl)
theorem dX1_done_122 : decode cX1_done 122 = .ok (.iconst 1, 1) := dk_4 (dk_at dksX1_done_2 10 rfl rfl)
theorem dX1_done_123 : decode cX1_done 123 = .ok (.iaload, 1) := dk_46 (dk_at dksX1_done_2 11 rfl rfl)
theorem dX1_done_124 : decode cX1_done 124 = .ok (.invokevirtual 89, 3) := dk_182 0 89 (dk_at dksX1_done_2 12 rfl rfl)
theorem dX1_done_127 : decode cX1_done 127 = .ok (.ireturn, 1) := dk_172 (dk_at dksX1_done_2 15 rfl rfl)
theorem dX1_done_128 : decode cX1_done 128 = .ok (.aload_n 0, 1) := dk_42 (dk_at dksX1_done_2 16 rfl rfl)
theorem dX1_done_129 : decode cX1_done 129 = .ok (.aload_n 2, 1) := dk_44 (dk_at dksX1_done_2 17 rfl rfl)
theorem dX1_done_130 : decode cX1_done 130 = .ok (.iconst 0, 1) := dk_3 (dk_at dksX1_done_2 18 rfl rfl)
theorem dX1_done_131 : decode cX1_done 131 = .ok (.iaload, 1) := dk_46 (dk_at dksX1_done_2 19 rfl rfl)
theorem dX1_done_132 : decode cX1_done 132 = .ok (.aload_n 2, 1) := dk_44 (dk_at dksX1_done_2 20 rfl rfl)
theorem dX1_done_133 : decode cX1_done 133 = .ok (.iconst 1, 1) := dk_4 (dk_at dksX1_done_2 21 rfl rfl)
theorem dX1_done_134 : decode cX1_done 134 = .ok (.iaload, 1) := dk_46 (dk_at dksX1_done_2 22 rfl rfl)
theorem dX1_done_135 : decode cX1_done 135 = .ok (.invokevirtual 92, 3) := dk_182 0 92 (dk_at dksX1_done_3 0 rfl rfl)
theorem dX1_done_138 : decode cX1_done 138 = .ok (.ireturn, 1) := dk_172 (dk_at dksX1_done_3 3 rfl rfl)
theorem dX1_done_139 : decode cX1_done 139 = .ok (.aload_n 0, 1) := dk_42 (dk_at dksX1_done_3 4 rfl rfl)
theorem dX1_done_140 : decode cX1_done 140 = .ok (.aload_n 2, 1) := dk_44 (dk_at dksX1_done_3 5 rfl rfl)
theorem dX1_done_141 : decode cX1_done 141 = .ok (.iconst 0, 1) := dk_3 (dk_at dksX1_done_3 6 rfl rfl)
theorem dX1_done_142 : decode cX1_done 142 = .ok (.iaload, 1) := dk_46 (dk_at dksX1_done_3 7 rfl rfl)
theorem dX1_done_143 : decode cX1_done 143 = .ok (.invokevirtual 95, 3) := dk_182 0 95 (dk_at dksX1_done_3 8 rfl rfl)
theorem dX1_done_146 : decode cX1_done 146 = .ok (.ireturn, 1) := dk_172 (dk_at dksX1_done_3 11 rfl rfl)
theorem dX1_done_147 : decode cX1_done 147 = .ok (.aload_n 0, 1) := dk_42 (dk_at dksX1_done_3 12 rfl rfl)
theorem dX1_done_148 : decode cX1_done 148 = .ok (.aload_n 2, 1) := dk_44 (dk_at dksX1_done_3 13 rfl rfl)
theorem dX1_done_149 : decode cX1_done 149 = .ok (.iconst 0, 1) := dk_3 (dk_at dksX1_done_3 14 rfl rfl)
theorem dX1_done_150 : decode cX1_done 150 = .ok (.iaload, 1) := dk_46 (dk_at dksX1_done_3 15 rfl rfl)
theorem dX1_done_151 : decode cX1_done 151 = .ok (.aload_n 2, 1) := dk_44 (dk_at dksX1_done_3 16 rfl rfl)
theorem dX1_done_152 : decode cX1_done 152 = .ok (.iconst 1, 1) := dk_4 (dk_at dksX1_done_3 17 rfl rfl)
theorem dX1_done_153 : decode cX1_done 153 = .ok (.iaload, 1) := dk_46 (dk_at dksX1_done_3 18 rfl rfl)
theorem dX1_done_154 : decode cX1_done 154 = .ok (.invokevirtual 98, 3) := dk_182 0 98 (dk_at dksX1_done_3 19 rfl rfl)
theorem dX1_done_157 : decode cX1_done 157 = .ok (.ireturn, 1) := dk_172 (dk_at dksX1_done_3 22 rfl rfl)
theorem dX1_done_158 : decode cX1_done 158 = .ok (.aload_n 0, 1) := dk_42 (dk_at dksX1_done_3 23 rfl rfl)
theorem dX1_done_159 : decode cX1_done 159 = .ok (.aload_n 2, 1) := dk_44 (dk_at dksX1_done_4 0 rfl rfl)
theorem dX1_done_160 : decode cX1_done 160 = .ok (.iconst 0, 1) := dk_3 (dk_at dksX1_done_4 1 rfl rfl)
theorem dX1_done_161 : decode cX1_done 161 = .ok (.iaload, 1) := dk_46 (dk_at dksX1_done_4 2 rfl rfl)
theorem dX1_done_162 : decode cX1_done 162 = .ok (.aload_n 2, 1) := dk_44 (dk_at dksX1_done_4 3 rfl rfl)
theorem dX1_done_163 : decode cX1_done 163 = .ok (.iconst 1, 1) := dk_4 (dk_at dksX1_done_4 4 rfl rfl)
theorem dX1_done_164 : decode cX1_done 164 = .ok (.iaload, 1) := dk_46 (dk_at dksX1_done_4 5 rfl rfl)
theorem dX1_done_165 : decode cX1_done 165 = .ok (.invokevirtual 101, 3) := dk_182 0 101 (dk_at dksX1_done_4 6 rfl rfl)
theorem dX1_done_168 : decode cX1_done 168 = .ok (.ireturn, 1) := dk_172 (dk_at dksX1_done_4 9 rfl rfl)
theorem dX1_done_169 : decode cX1_done 169 = .ok (.aload_n 0, 1) := dk_42 (dk_at dksX1_done_4 10 rfl rfl)
theorem dX1_done_170 : decode cX1_done 170 = .ok (.aload_n 2, 1) := dk_44 (dk_at dksX1_done_4 11 rfl rfl)
theorem dX1_done_171 : decode cX1_done 171 = .ok (.iconst 0, 1) := dk_3 (dk_at dksX1_done_4 12 rfl rfl)
theorem dX1_done_172 : decode cX1_done 172 = .ok (.iaload, 1) := dk_46 (dk_at dksX1_done_4 13 rfl rfl)
theorem dX1_done_173 : decode cX1_done 173 = .ok (.aload_n 2, 1) := dk_44 (dk_at dksX1_done_4 14 rfl rfl)
theorem dX1_done_174 : decode cX1_done 174 = .ok (.iconst 1, 1) := dk_4 (dk_at dksX1_done_4 15 rfl rfl)
theorem dX1_done_175 : decode cX1_done 175 = .ok (.iaload, 1) := dk_46 (dk_at dksX1_done_4 16 rfl rfl)
theorem dX1_done_176 : decode cX1_done 176 = .ok (.invokevirtual 104, 3) := dk_182 0 104 (dk_at dksX1_done_4 17 rfl rfl)
theorem dX1_done_179 : decode cX1_done 179 = .ok (.ireturn, 1) := dk_172 (dk_at dksX1_done_4 20 rfl rfl)
theorem dX1_done_180 : decode cX1_done 180 = .ok (.aload_n 0, 1) := dk_42 (dk_at dksX1_done_4 21 rfl rfl)
theorem dX1_done_181 : decode cX1_done 181 = .ok (.aload_n 2, 1) := dk_44 (dk_at dksX1_done_4 22 rfl rfl)
theorem dX1_done_182 : decode cX1_done 182 = .ok (.iconst 0, 1) := dk_3 (dk_at dksX1_done_4 23 rfl rfl)
theorem dX1_done_183 : decode cX1_done 183 = .ok (.iaload, 1) := dk_46 (dk_at dksX1_done_5 0 rfl rfl)
theorem dX1_done_184 : decode cX1_done 184 = .ok (.aload_n 2, 1) := dk_44 (dk_at dksX1_done_5 1 rfl rfl)
theorem dX1_done_185 : decode cX1_done 185 = .ok (.iconst 1, 1) := dk_4 (dk_at dksX1_done_5 2 rfl rfl)
theorem dX1_done_186 : decode cX1_done 186 = .ok (.iaload, 1) := dk_46 (dk_at dksX1_done_5 3 rfl rfl)
theorem dX1_done_187 : decode cX1_done 187 = .ok (.invokevirtual 107, 3) := dk_182 0 107 (dk_at dksX1_done_5 4 rfl rfl)
theorem dX1_done_190 : decode cX1_done 190 = .ok (.ireturn, 1) := dk_172 (dk_at dksX1_done_5 7 rfl rfl)
theorem dX1_done_191 : decode cX1_done 191 = .ok (.aload_n 0, 1) := dk_42 (dk_at dksX1_done_5 8 rfl rfl)
theorem dX1_done_192 : decode cX1_done 192 = .ok (.aload_n 2, 1) := dk_44 (dk_at dksX1_done_5 9 rfl rfl)
theorem dX1_done_193 : decode cX1_done 193 = .ok (.iconst 0, 1) := dk_3 (dk_at dksX1_done_5 10 rfl rfl)
theorem dX1_done_194 : decode cX1_done 194 = .ok (.iaload, 1) := dk_46 (dk_at dksX1_done_5 11 rfl rfl)
theorem dX1_done_195 : decode cX1_done 195 = .ok (.aload_n 2, 1) := dk_44 (dk_at dksX1_done_5 12 rfl rfl)
theorem dX1_done_196 : decode cX1_done 196 = .ok (.iconst 1, 1) := dk_4 (dk_at dksX1_done_5 13 rfl rfl)
theorem dX1_done_197 : decode cX1_done 197 = .ok (.iaload, 1) := dk_46 (dk_at dksX1_done_5 14 rfl rfl)
theorem dX1_done_198 : decode cX1_done 198 = .ok (.invokevirtual 110, 3) := dk_182 0 110 (dk_at dksX1_done_5 15 rfl rfl)
theorem dX1_done_201 : decode cX1_done 201 = .ok (.ireturn, 1) := dk_172 (dk_at dksX1_done_5 18 rfl rfl)
theorem dX1_done_202 : decode cX1_done 202 = .ok (.aload_n 0, 1) := dk_42 (dk_at dksX1_done_5 19 rfl rfl)
theorem dX1_done_203 : decode cX1_done 203 = .ok (.aload_n 2, 1) := dk_44 (dk_at dksX1_done_5 20 rfl rfl)
theorem dX1_done_204 : decode cX1_done 204 = .ok (.iconst 0, 1) := dk_3 (dk_at dksX1_done_5 21 rfl rfl)
theorem dX1_done_205 : decode cX1_done 205 = .ok (.iaload, 1) := dk_46 (dk_at dksX1_done_5 22 rfl rfl)
theorem dX1_done_206 : decode cX1_done 206 = .ok (.invokevirtual 113, 3) := dk_182 0 113 (dk_at dksX1_done_6 0 rfl rfl)
theorem dX1_done_209 : decode cX1_done 209 = .ok (.ireturn, 1) := dk_172 (dk_at dksX1_done_6 3 rfl rfl)
theorem dX1_done_210 : decode cX1_done 210 = .ok (.aload_n 0, 1) := dk_42 (dk_at dksX1_done_6 4 rfl rfl)
theorem dX1_done_211 : decode cX1_done 211 = .ok (.aload_n 2, 1) := dk_44 (dk_at dksX1_done_6 5 rfl rfl)
theorem dX1_done_212 : decode cX1_done 212 = .ok (.iconst 0, 1) := dk_3 (dk_at dksX1_done_6 6 rfl rfl)
theorem dX1_done_213 : decode cX1_done 213 = .ok (.iaload, 1) := dk_46 (dk_at dksX1_done_6 7 rfl rfl)
theorem dX1_done_214 : decode cX1_done 214 = .ok (.invokevirtual 116, 3) := dk_182 0 116 (dk_at dksX1_done_6 8 rfl rfl)
theorem dX1_done_217 : decode cX1_done 217 = .ok (.ireturn, 1) := dk_172 (dk_at dksX1_done_6 11 rfl rfl)
abbrev cX1_need : ByteArray := prog_1_method_14_code
def yX1_need : MethodName := ⟨RX1, "need", "(ZI)V"⟩
def dkwX1_need_0 : List UInt8 := [26, 154, 0, 12, 187, 0, 42, 89, 27, 183, 0, 44, 191, 177]
abbrev dktX1_need_0 : List UInt8 := dkwX1_need_0 ++ []
theorem dksX1_need_0 : cX1_need.data.toList.drop 0 = dktX1_need_0 := by decide +kernel
theorem dX1_need_0 : decode cX1_need 0 = .ok (.iload_n 0, 1) := dk_26 (dk_at dksX1_need_0 0 rfl rfl)
theorem dX1_need_1 : decode cX1_need 1 = .ok (.ifCond .ne 12, 3) := dk_154 0 12 (dk_at dksX1_need_0 1 rfl rfl)
theorem dX1_need_4 : decode cX1_need 4 = .ok (.new 42, 3) := dk_187 0 42 (dk_at dksX1_need_0 4 rfl rfl)
theorem dX1_need_7 : decode cX1_need 7 = .ok (.dup, 1) := dk_89 (dk_at dksX1_need_0 7 rfl rfl)
theorem dX1_need_8 : decode cX1_need 8 = .ok (.iload_n 1, 1) := dk_27 (dk_at dksX1_need_0 8 rfl rfl)
theorem dX1_need_9 : decode cX1_need 9 = .ok (.invokespecial 44, 3) := dk_183 0 44 (dk_at dksX1_need_0 9 rfl rfl)
theorem dX1_need_12 : decode cX1_need 12 = .ok (.athrow, 1) := dk_191 (dk_at dksX1_need_0 12 rfl rfl)
theorem dX1_need_13 : decode cX1_need 13 = .ok (.return_, 1) := dk_177 (dk_at dksX1_need_0 13 rfl rfl)
abbrev cX1_isBetween : ByteArray := prog_1_method_1_code
def yX1_isBetween : MethodName := ⟨RX1, "isBetween", "(JJJ)Z"⟩
def dkwX1_isBetween_0 : List UInt8 := [30, 32, 148, 155, 0, 14, 30, 22, 4, 148, 157, 0, 7, 4, 167, 0, 4, 3, 172]
abbrev dktX1_isBetween_0 : List UInt8 := dkwX1_isBetween_0 ++ []
theorem dksX1_isBetween_0 : cX1_isBetween.data.toList.drop 0 = dktX1_isBetween_0 := by decide +kernel
theorem dX1_isBetween_0 : decode cX1_isBetween 0 = .ok (.lload_n 0, 1) := dk_30 (dk_at dksX1_isBetween_0 0 rfl rfl)
theorem dX1_isBetween_1 : decode cX1_isBetween 1 = .ok (.lload_n 2, 1) := dk_32 (dk_at dksX1_isBetween_0 1 rfl rfl)
theorem dX1_isBetween_2 : decode cX1_isBetween 2 = .ok (.lcmp, 1) := dk_148 (dk_at dksX1_isBetween_0 2 rfl rfl)
theorem dX1_isBetween_3 : decode cX1_isBetween 3 = .ok (.ifCond .lt 14, 3) := dk_155 0 14 (dk_at dksX1_isBetween_0 3 rfl rfl)
theorem dX1_isBetween_6 : decode cX1_isBetween 6 = .ok (.lload_n 0, 1) := dk_30 (dk_at dksX1_isBetween_0 6 rfl rfl)
theorem dX1_isBetween_7 : decode cX1_isBetween 7 = .ok (.lload 4, 2) := dk_22 4 (dk_at dksX1_isBetween_0 7 rfl rfl)
theorem dX1_isBetween_9 : decode cX1_isBetween 9 = .ok (.lcmp, 1) := dk_148 (dk_at dksX1_isBetween_0 9 rfl rfl)
theorem dX1_isBetween_10 : decode cX1_isBetween 10 = .ok (.ifCond .gt 7, 3) := dk_157 0 7 (dk_at dksX1_isBetween_0 10 rfl rfl)
theorem dX1_isBetween_13 : decode cX1_isBetween 13 = .ok (.iconst 1, 1) := dk_4 (dk_at dksX1_isBetween_0 13 rfl rfl)
theorem dX1_isBetween_14 : decode cX1_isBetween 14 = .ok (.goto 4, 3) := dk_167 0 4 (dk_at dksX1_isBetween_0 14 rfl rfl)
theorem dX1_isBetween_17 : decode cX1_isBetween 17 = .ok (.iconst 0, 1) := dk_3 (dk_at dksX1_isBetween_0 17 rfl rfl)
theorem dX1_isBetween_18 : decode cX1_isBetween 18 = .ok (.ireturn, 1) := dk_172 (dk_at dksX1_isBetween_0 18 rfl rfl)
abbrev cX1_changed : ByteArray := prog_1_method_16_code
def yX1_changed : MethodName := ⟨RX1, "changed", "(LClockworkOrreries$Works;I)I"⟩
def dkwX1_changed_1 : List UInt8 := [180, 0, 63, 182, 0, 82, 87, 42, 43, 181, 0, 56, 28, 172]
abbrev dktX1_changed_1 : List UInt8 := dkwX1_changed_1 ++ []
def dkwX1_changed_0 : List UInt8 := [42, 180, 0, 63, 42, 180, 0, 56, 182, 0, 74, 42, 180, 0, 63, 182, 0, 78, 7, 164, 0, 11, 42]
abbrev dktX1_changed_0 : List UInt8 := dkwX1_changed_0 ++ dktX1_changed_1
theorem dksX1_changed_0 : cX1_changed.data.toList.drop 0 = dktX1_changed_0 := by decide +kernel
theorem dksX1_changed_1 : cX1_changed.data.toList.drop 23 = dktX1_changed_1 := dk_seg dksX1_changed_0 23 rfl rfl
theorem dX1_changed_0 : decode cX1_changed 0 = .ok (.aload_n 0, 1) := dk_42 (dk_at dksX1_changed_0 0 rfl rfl)
theorem dX1_changed_1 : decode cX1_changed 1 = .ok (.getfield 63, 3) := dk_180 0 63 (dk_at dksX1_changed_0 1 rfl rfl)
theorem dX1_changed_4 : decode cX1_changed 4 = .ok (.aload_n 0, 1) := dk_42 (dk_at dksX1_changed_0 4 rfl rfl)
theorem dX1_changed_5 : decode cX1_changed 5 = .ok (.getfield 56, 3) := dk_180 0 56 (dk_at dksX1_changed_0 5 rfl rfl)
theorem dX1_changed_8 : decode cX1_changed 8 = .ok (.invokevirtual 74, 3) := dk_182 0 74 (dk_at dksX1_changed_0 8 rfl rfl)
theorem dX1_changed_11 : decode cX1_changed 11 = .ok (.aload_n 0, 1) := dk_42 (dk_at dksX1_changed_0 11 rfl rfl)
theorem dX1_changed_12 : decode cX1_changed 12 = .ok (.getfield 63, 3) := dk_180 0 63 (dk_at dksX1_changed_0 12 rfl rfl)
theorem dX1_changed_15 : decode cX1_changed 15 = .ok (.invokevirtual 78, 3) := dk_182 0 78 (dk_at dksX1_changed_0 15 rfl rfl)
theorem dX1_changed_18 : decode cX1_changed 18 = .ok (.iconst 4, 1) := dk_7 (dk_at dksX1_changed_0 18 rfl rfl)
theorem dX1_changed_19 : decode cX1_changed 19 = .ok (.if_icmp .le 11, 3) := dk_164 0 11 (dk_at dksX1_changed_0 19 rfl rfl)
theorem dX1_changed_22 : decode cX1_changed 22 = .ok (.aload_n 0, 1) := dk_42 (dk_at dksX1_changed_0 22 rfl rfl)
theorem dX1_changed_23 : decode cX1_changed 23 = .ok (.getfield 63, 3) := dk_180 0 63 (dk_at dksX1_changed_1 0 rfl rfl)
theorem dX1_changed_26 : decode cX1_changed 26 = .ok (.invokevirtual 82, 3) := dk_182 0 82 (dk_at dksX1_changed_1 3 rfl rfl)
theorem dX1_changed_29 : decode cX1_changed 29 = .ok (.pop, 1) := dk_87 (dk_at dksX1_changed_1 6 rfl rfl)
theorem dX1_changed_30 : decode cX1_changed 30 = .ok (.aload_n 0, 1) := dk_42 (dk_at dksX1_changed_1 7 rfl rfl)
theorem dX1_changed_31 : decode cX1_changed 31 = .ok (.aload_n 1, 1) := dk_43 (dk_at dksX1_changed_1 8 rfl rfl)
theorem dX1_changed_32 : decode cX1_changed 32 = .ok (.putfield 56, 3) := dk_181 0 56 (dk_at dksX1_changed_1 9 rfl rfl)
theorem dX1_changed_35 : decode cX1_changed 35 = .ok (.iload_n 2, 1) := dk_28 (dk_at dksX1_changed_1 12 rfl rfl)
theorem dX1_changed_36 : decode cX1_changed 36 = .ok (.ireturn, 1) := dk_172 (dk_at dksX1_changed_1 13 rfl rfl)
abbrev cX1_addWheel : ByteArray := prog_1_method_20_code
def yX1_addWheel : MethodName := ⟨RX1, "addWheel", "(II)I"⟩
def dkwX1_addWheel_0 : List UInt8 := [42, 16, 119, 5, 188, 10, 89, 3, 27, 79, 89, 4, 28, 79, 182, 0, 146, 172]
abbrev dktX1_addWheel_0 : List UInt8 := dkwX1_addWheel_0 ++ []
theorem dksX1_addWheel_0 : cX1_addWheel.data.toList.drop 0 = dktX1_addWheel_0 := by decide +kernel
theorem dX1_addWheel_0 : decode cX1_addWheel 0 = .ok (.aload_n 0, 1) := dk_42 (dk_at dksX1_addWheel_0 0 rfl rfl)
theorem dX1_addWheel_1 : decode cX1_addWheel 1 = .ok (.bipush 119, 2) := dk_16 119 (dk_at dksX1_addWheel_0 1 rfl rfl)
theorem dX1_addWheel_3 : decode cX1_addWheel 3 = .ok (.iconst 2, 1) := dk_5 (dk_at dksX1_addWheel_0 3 rfl rfl)
theorem dX1_addWheel_4 : decode cX1_addWheel 4 = .ok (.newarray .int, 2) := dk_188_10 (dk_at dksX1_addWheel_0 4 rfl rfl)
theorem dX1_addWheel_6 : decode cX1_addWheel 6 = .ok (.dup, 1) := dk_89 (dk_at dksX1_addWheel_0 6 rfl rfl)
theorem dX1_addWheel_7 : decode cX1_addWheel 7 = .ok (.iconst 0, 1) := dk_3 (dk_at dksX1_addWheel_0 7 rfl rfl)
theorem dX1_addWheel_8 : decode cX1_addWheel 8 = .ok (.iload_n 1, 1) := dk_27 (dk_at dksX1_addWheel_0 8 rfl rfl)
theorem dX1_addWheel_9 : decode cX1_addWheel 9 = .ok (.iastore, 1) := dk_79 (dk_at dksX1_addWheel_0 9 rfl rfl)
theorem dX1_addWheel_10 : decode cX1_addWheel 10 = .ok (.dup, 1) := dk_89 (dk_at dksX1_addWheel_0 10 rfl rfl)
theorem dX1_addWheel_11 : decode cX1_addWheel 11 = .ok (.iconst 1, 1) := dk_4 (dk_at dksX1_addWheel_0 11 rfl rfl)
theorem dX1_addWheel_12 : decode cX1_addWheel 12 = .ok (.iload_n 2, 1) := dk_28 (dk_at dksX1_addWheel_0 12 rfl rfl)
theorem dX1_addWheel_13 : decode cX1_addWheel 13 = .ok (.iastore, 1) := dk_79 (dk_at dksX1_addWheel_0 13 rfl rfl)
theorem dX1_addWheel_14 : decode cX1_addWheel 14 = .ok (.invokevirtual 146, 3) := dk_182 0 146 (dk_at dksX1_addWheel_0 14 rfl rfl)
theorem dX1_addWheel_17 : decode cX1_addWheel 17 = .ok (.ireturn, 1) := dk_172 (dk_at dksX1_addWheel_0 17 rfl rfl)
abbrev cX1_mesh : ByteArray := prog_1_method_21_code
def yX1_mesh : MethodName := ⟨RX1, "mesh", "(II)I"⟩
def dkwX1_mesh_0 : List UInt8 := [42, 16, 109, 5, 188, 10, 89, 3, 27, 79, 89, 4, 28, 79, 182, 0, 146, 172]
abbrev dktX1_mesh_0 : List UInt8 := dkwX1_mesh_0 ++ []
theorem dksX1_mesh_0 : cX1_mesh.data.toList.drop 0 = dktX1_mesh_0 := by decide +kernel
theorem dX1_mesh_0 : decode cX1_mesh 0 = .ok (.aload_n 0, 1) := dk_42 (dk_at dksX1_mesh_0 0 rfl rfl)
theorem dX1_mesh_1 : decode cX1_mesh 1 = .ok (.bipush 109, 2) := dk_16 109 (dk_at dksX1_mesh_0 1 rfl rfl)
theorem dX1_mesh_3 : decode cX1_mesh 3 = .ok (.iconst 2, 1) := dk_5 (dk_at dksX1_mesh_0 3 rfl rfl)
theorem dX1_mesh_4 : decode cX1_mesh 4 = .ok (.newarray .int, 2) := dk_188_10 (dk_at dksX1_mesh_0 4 rfl rfl)
theorem dX1_mesh_6 : decode cX1_mesh 6 = .ok (.dup, 1) := dk_89 (dk_at dksX1_mesh_0 6 rfl rfl)
theorem dX1_mesh_7 : decode cX1_mesh 7 = .ok (.iconst 0, 1) := dk_3 (dk_at dksX1_mesh_0 7 rfl rfl)
theorem dX1_mesh_8 : decode cX1_mesh 8 = .ok (.iload_n 1, 1) := dk_27 (dk_at dksX1_mesh_0 8 rfl rfl)
theorem dX1_mesh_9 : decode cX1_mesh 9 = .ok (.iastore, 1) := dk_79 (dk_at dksX1_mesh_0 9 rfl rfl)
theorem dX1_mesh_10 : decode cX1_mesh 10 = .ok (.dup, 1) := dk_89 (dk_at dksX1_mesh_0 10 rfl rfl)
theorem dX1_mesh_11 : decode cX1_mesh 11 = .ok (.iconst 1, 1) := dk_4 (dk_at dksX1_mesh_0 11 rfl rfl)
theorem dX1_mesh_12 : decode cX1_mesh 12 = .ok (.iload_n 2, 1) := dk_28 (dk_at dksX1_mesh_0 12 rfl rfl)
theorem dX1_mesh_13 : decode cX1_mesh 13 = .ok (.iastore, 1) := dk_79 (dk_at dksX1_mesh_0 13 rfl rfl)
theorem dX1_mesh_14 : decode cX1_mesh 14 = .ok (.invokevirtual 146, 3) := dk_182 0 146 (dk_at dksX1_mesh_0 14 rfl rfl)
theorem dX1_mesh_17 : decode cX1_mesh 17 = .ok (.ireturn, 1) := dk_172 (dk_at dksX1_mesh_0 17 rfl rfl)
abbrev cX1_unmesh : ByteArray := prog_1_method_22_code
def yX1_unmesh : MethodName := ⟨RX1, "unmesh", "(I)I"⟩
def dkwX1_unmesh_0 : List UInt8 := [42, 16, 117, 4, 188, 10, 89, 3, 27, 79, 182, 0, 146, 172]
abbrev dktX1_unmesh_0 : List UInt8 := dkwX1_unmesh_0 ++ []
theorem dksX1_unmesh_0 : cX1_unmesh.data.toList.drop 0 = dktX1_unmesh_0 := by decide +kernel
theorem dX1_unmesh_0 : decode cX1_unmesh 0 = .ok (.aload_n 0, 1) := dk_42 (dk_at dksX1_unmesh_0 0 rfl rfl)
theorem dX1_unmesh_1 : decode cX1_unmesh 1 = .ok (.bipush 117, 2) := dk_16 117 (dk_at dksX1_unmesh_0 1 rfl rfl)
theorem dX1_unmesh_3 : decode cX1_unmesh 3 = .ok (.iconst 1, 1) := dk_4 (dk_at dksX1_unmesh_0 3 rfl rfl)
theorem dX1_unmesh_4 : decode cX1_unmesh 4 = .ok (.newarray .int, 2) := dk_188_10 (dk_at dksX1_unmesh_0 4 rfl rfl)
theorem dX1_unmesh_6 : decode cX1_unmesh 6 = .ok (.dup, 1) := dk_89 (dk_at dksX1_unmesh_0 6 rfl rfl)
theorem dX1_unmesh_7 : decode cX1_unmesh 7 = .ok (.iconst 0, 1) := dk_3 (dk_at dksX1_unmesh_0 7 rfl rfl)
theorem dX1_unmesh_8 : decode cX1_unmesh 8 = .ok (.iload_n 1, 1) := dk_27 (dk_at dksX1_unmesh_0 8 rfl rfl)
theorem dX1_unmesh_9 : decode cX1_unmesh 9 = .ok (.iastore, 1) := dk_79 (dk_at dksX1_unmesh_0 9 rfl rfl)
theorem dX1_unmesh_10 : decode cX1_unmesh 10 = .ok (.invokevirtual 146, 3) := dk_182 0 146 (dk_at dksX1_unmesh_0 10 rfl rfl)
theorem dX1_unmesh_13 : decode cX1_unmesh 13 = .ok (.ireturn, 1) := dk_172 (dk_at dksX1_unmesh_0 13 rfl rfl)
abbrev cX1_setTeeth : ByteArray := prog_1_method_23_code
def yX1_setTeeth : MethodName := ⟨RX1, "setTeeth", "(II)I"⟩
def dkwX1_setTeeth_0 : List UInt8 := [42, 16, 116, 5, 188, 10, 89, 3, 27, 79, 89, 4, 28, 79, 182, 0, 146, 172]
abbrev dktX1_setTeeth_0 : List UInt8 := dkwX1_setTeeth_0 ++ []
theorem dksX1_setTeeth_0 : cX1_setTeeth.data.toList.drop 0 = dktX1_setTeeth_0 := by decide +kernel
theorem dX1_setTeeth_0 : decode cX1_setTeeth 0 = .ok (.aload_n 0, 1) := dk_42 (dk_at dksX1_setTeeth_0 0 rfl rfl)
theorem dX1_setTeeth_1 : decode cX1_setTeeth 1 = .ok (.bipush 116, 2) := dk_16 116 (dk_at dksX1_setTeeth_0 1 rfl rfl)
theorem dX1_setTeeth_3 : decode cX1_setTeeth 3 = .ok (.iconst 2, 1) := dk_5 (dk_at dksX1_setTeeth_0 3 rfl rfl)
theorem dX1_setTeeth_4 : decode cX1_setTeeth 4 = .ok (.newarray .int, 2) := dk_188_10 (dk_at dksX1_setTeeth_0 4 rfl rfl)
theorem dX1_setTeeth_6 : decode cX1_setTeeth 6 = .ok (.dup, 1) := dk_89 (dk_at dksX1_setTeeth_0 6 rfl rfl)
theorem dX1_setTeeth_7 : decode cX1_setTeeth 7 = .ok (.iconst 0, 1) := dk_3 (dk_at dksX1_setTeeth_0 7 rfl rfl)
theorem dX1_setTeeth_8 : decode cX1_setTeeth 8 = .ok (.iload_n 1, 1) := dk_27 (dk_at dksX1_setTeeth_0 8 rfl rfl)
theorem dX1_setTeeth_9 : decode cX1_setTeeth 9 = .ok (.iastore, 1) := dk_79 (dk_at dksX1_setTeeth_0 9 rfl rfl)
theorem dX1_setTeeth_10 : decode cX1_setTeeth 10 = .ok (.dup, 1) := dk_89 (dk_at dksX1_setTeeth_0 10 rfl rfl)
theorem dX1_setTeeth_11 : decode cX1_setTeeth 11 = .ok (.iconst 1, 1) := dk_4 (dk_at dksX1_setTeeth_0 11 rfl rfl)
theorem dX1_setTeeth_12 : decode cX1_setTeeth 12 = .ok (.iload_n 2, 1) := dk_28 (dk_at dksX1_setTeeth_0 12 rfl rfl)
theorem dX1_setTeeth_13 : decode cX1_setTeeth 13 = .ok (.iastore, 1) := dk_79 (dk_at dksX1_setTeeth_0 13 rfl rfl)
theorem dX1_setTeeth_14 : decode cX1_setTeeth 14 = .ok (.invokevirtual 146, 3) := dk_182 0 146 (dk_at dksX1_setTeeth_0 14 rfl rfl)
theorem dX1_setTeeth_17 : decode cX1_setTeeth 17 = .ok (.ireturn, 1) := dk_172 (dk_at dksX1_setTeeth_0 17 rfl rfl)
abbrev cX1_addArm : ByteArray := prog_1_method_24_code
def yX1_addArm : MethodName := ⟨RX1, "addArm", "(II)I"⟩
def dkwX1_addArm_0 : List UInt8 := [42, 16, 97, 5, 188, 10, 89, 3, 27, 79, 89, 4, 28, 79, 182, 0, 146, 172]
abbrev dktX1_addArm_0 : List UInt8 := dkwX1_addArm_0 ++ []
theorem dksX1_addArm_0 : cX1_addArm.data.toList.drop 0 = dktX1_addArm_0 := by decide +kernel
theorem dX1_addArm_0 : decode cX1_addArm 0 = .ok (.aload_n 0, 1) := dk_42 (dk_at dksX1_addArm_0 0 rfl rfl)
theorem dX1_addArm_1 : decode cX1_addArm 1 = .ok (.bipush 97, 2) := dk_16 97 (dk_at dksX1_addArm_0 1 rfl rfl)
theorem dX1_addArm_3 : decode cX1_addArm 3 = .ok (.iconst 2, 1) := dk_5 (dk_at dksX1_addArm_0 3 rfl rfl)
theorem dX1_addArm_4 : decode cX1_addArm 4 = .ok (.newarray .int, 2) := dk_188_10 (dk_at dksX1_addArm_0 4 rfl rfl)
theorem dX1_addArm_6 : decode cX1_addArm 6 = .ok (.dup, 1) := dk_89 (dk_at dksX1_addArm_0 6 rfl rfl)
theorem dX1_addArm_7 : decode cX1_addArm 7 = .ok (.iconst 0, 1) := dk_3 (dk_at dksX1_addArm_0 7 rfl rfl)
theorem dX1_addArm_8 : decode cX1_addArm 8 = .ok (.iload_n 1, 1) := dk_27 (dk_at dksX1_addArm_0 8 rfl rfl)
theorem dX1_addArm_9 : decode cX1_addArm 9 = .ok (.iastore, 1) := dk_79 (dk_at dksX1_addArm_0 9 rfl rfl)
theorem dX1_addArm_10 : decode cX1_addArm 10 = .ok (.dup, 1) := dk_89 (dk_at dksX1_addArm_0 10 rfl rfl)
theorem dX1_addArm_11 : decode cX1_addArm 11 = .ok (.iconst 1, 1) := dk_4 (dk_at dksX1_addArm_0 11 rfl rfl)
theorem dX1_addArm_12 : decode cX1_addArm 12 = .ok (.iload_n 2, 1) := dk_28 (dk_at dksX1_addArm_0 12 rfl rfl)
theorem dX1_addArm_13 : decode cX1_addArm 13 = .ok (.iastore, 1) := dk_79 (dk_at dksX1_addArm_0 13 rfl rfl)
theorem dX1_addArm_14 : decode cX1_addArm 14 = .ok (.invokevirtual 146, 3) := dk_182 0 146 (dk_at dksX1_addArm_0 14 rfl rfl)
theorem dX1_addArm_17 : decode cX1_addArm 17 = .ok (.ireturn, 1) := dk_172 (dk_at dksX1_addArm_0 17 rfl rfl)
abbrev cX1_setBend : ByteArray := prog_1_method_25_code
def yX1_setBend : MethodName := ⟨RX1, "setBend", "(II)I"⟩
def dkwX1_setBend_0 : List UInt8 := [42, 16, 98, 5, 188, 10, 89, 3, 27, 79, 89, 4, 28, 79, 182, 0, 146, 172]
abbrev dktX1_setBend_0 : List UInt8 := dkwX1_setBend_0 ++ []
theorem dksX1_setBend_0 : cX1_setBend.data.toList.drop 0 = dktX1_setBend_0 := by decide +kernel
theorem dX1_setBend_0 : decode cX1_setBend 0 = .ok (.aload_n 0, 1) := dk_42 (dk_at dksX1_setBend_0 0 rfl rfl)
theorem dX1_setBend_1 : decode cX1_setBend 1 = .ok (.bipush 98, 2) := dk_16 98 (dk_at dksX1_setBend_0 1 rfl rfl)
theorem dX1_setBend_3 : decode cX1_setBend 3 = .ok (.iconst 2, 1) := dk_5 (dk_at dksX1_setBend_0 3 rfl rfl)
theorem dX1_setBend_4 : decode cX1_setBend 4 = .ok (.newarray .int, 2) := dk_188_10 (dk_at dksX1_setBend_0 4 rfl rfl)
theorem dX1_setBend_6 : decode cX1_setBend 6 = .ok (.dup, 1) := dk_89 (dk_at dksX1_setBend_0 6 rfl rfl)
theorem dX1_setBend_7 : decode cX1_setBend 7 = .ok (.iconst 0, 1) := dk_3 (dk_at dksX1_setBend_0 7 rfl rfl)
theorem dX1_setBend_8 : decode cX1_setBend 8 = .ok (.iload_n 1, 1) := dk_27 (dk_at dksX1_setBend_0 8 rfl rfl)
theorem dX1_setBend_9 : decode cX1_setBend 9 = .ok (.iastore, 1) := dk_79 (dk_at dksX1_setBend_0 9 rfl rfl)
theorem dX1_setBend_10 : decode cX1_setBend 10 = .ok (.dup, 1) := dk_89 (dk_at dksX1_setBend_0 10 rfl rfl)
theorem dX1_setBend_11 : decode cX1_setBend 11 = .ok (.iconst 1, 1) := dk_4 (dk_at dksX1_setBend_0 11 rfl rfl)
theorem dX1_setBend_12 : decode cX1_setBend 12 = .ok (.iload_n 2, 1) := dk_28 (dk_at dksX1_setBend_0 12 rfl rfl)
theorem dX1_setBend_13 : decode cX1_setBend 13 = .ok (.iastore, 1) := dk_79 (dk_at dksX1_setBend_0 13 rfl rfl)
theorem dX1_setBend_14 : decode cX1_setBend 14 = .ok (.invokevirtual 146, 3) := dk_182 0 146 (dk_at dksX1_setBend_0 14 rfl rfl)
theorem dX1_setBend_17 : decode cX1_setBend 17 = .ok (.ireturn, 1) := dk_172 (dk_at dksX1_setBend_0 17 rfl rfl)
abbrev cX1_addMoon : ByteArray := prog_1_method_26_code
def yX1_addMoon : MethodName := ⟨RX1, "addMoon", "(II)I"⟩
def dkwX1_addMoon_0 : List UInt8 := [42, 16, 111, 5, 188, 10, 89, 3, 27, 79, 89, 4, 28, 79, 182, 0, 146, 172]
abbrev dktX1_addMoon_0 : List UInt8 := dkwX1_addMoon_0 ++ []
theorem dksX1_addMoon_0 : cX1_addMoon.data.toList.drop 0 = dktX1_addMoon_0 := by decide +kernel
theorem dX1_addMoon_0 : decode cX1_addMoon 0 = .ok (.aload_n 0, 1) := dk_42 (dk_at dksX1_addMoon_0 0 rfl rfl)
theorem dX1_addMoon_1 : decode cX1_addMoon 1 = .ok (.bipush 111, 2) := dk_16 111 (dk_at dksX1_addMoon_0 1 rfl rfl)
theorem dX1_addMoon_3 : decode cX1_addMoon 3 = .ok (.iconst 2, 1) := dk_5 (dk_at dksX1_addMoon_0 3 rfl rfl)
theorem dX1_addMoon_4 : decode cX1_addMoon 4 = .ok (.newarray .int, 2) := dk_188_10 (dk_at dksX1_addMoon_0 4 rfl rfl)
theorem dX1_addMoon_6 : decode cX1_addMoon 6 = .ok (.dup, 1) := dk_89 (dk_at dksX1_addMoon_0 6 rfl rfl)
theorem dX1_addMoon_7 : decode cX1_addMoon 7 = .ok (.iconst 0, 1) := dk_3 (dk_at dksX1_addMoon_0 7 rfl rfl)
theorem dX1_addMoon_8 : decode cX1_addMoon 8 = .ok (.iload_n 1, 1) := dk_27 (dk_at dksX1_addMoon_0 8 rfl rfl)
theorem dX1_addMoon_9 : decode cX1_addMoon 9 = .ok (.iastore, 1) := dk_79 (dk_at dksX1_addMoon_0 9 rfl rfl)
theorem dX1_addMoon_10 : decode cX1_addMoon 10 = .ok (.dup, 1) := dk_89 (dk_at dksX1_addMoon_0 10 rfl rfl)
theorem dX1_addMoon_11 : decode cX1_addMoon 11 = .ok (.iconst 1, 1) := dk_4 (dk_at dksX1_addMoon_0 11 rfl rfl)
theorem dX1_addMoon_12 : decode cX1_addMoon 12 = .ok (.iload_n 2, 1) := dk_28 (dk_at dksX1_addMoon_0 12 rfl rfl)
theorem dX1_addMoon_13 : decode cX1_addMoon 13 = .ok (.iastore, 1) := dk_79 (dk_at dksX1_addMoon_0 13 rfl rfl)
theorem dX1_addMoon_14 : decode cX1_addMoon 14 = .ok (.invokevirtual 146, 3) := dk_182 0 146 (dk_at dksX1_addMoon_0 14 rfl rfl)
theorem dX1_addMoon_17 : decode cX1_addMoon 17 = .ok (.ireturn, 1) := dk_172 (dk_at dksX1_addMoon_0 17 rfl rfl)
abbrev cX1_setPeriod : ByteArray := prog_1_method_27_code
def yX1_setPeriod : MethodName := ⟨RX1, "setPeriod", "(II)I"⟩
def dkwX1_setPeriod_0 : List UInt8 := [42, 16, 112, 5, 188, 10, 89, 3, 27, 79, 89, 4, 28, 79, 182, 0, 146, 172]
abbrev dktX1_setPeriod_0 : List UInt8 := dkwX1_setPeriod_0 ++ []
theorem dksX1_setPeriod_0 : cX1_setPeriod.data.toList.drop 0 = dktX1_setPeriod_0 := by decide +kernel
theorem dX1_setPeriod_0 : decode cX1_setPeriod 0 = .ok (.aload_n 0, 1) := dk_42 (dk_at dksX1_setPeriod_0 0 rfl rfl)
theorem dX1_setPeriod_1 : decode cX1_setPeriod 1 = .ok (.bipush 112, 2) := dk_16 112 (dk_at dksX1_setPeriod_0 1 rfl rfl)
theorem dX1_setPeriod_3 : decode cX1_setPeriod 3 = .ok (.iconst 2, 1) := dk_5 (dk_at dksX1_setPeriod_0 3 rfl rfl)
theorem dX1_setPeriod_4 : decode cX1_setPeriod 4 = .ok (.newarray .int, 2) := dk_188_10 (dk_at dksX1_setPeriod_0 4 rfl rfl)
theorem dX1_setPeriod_6 : decode cX1_setPeriod 6 = .ok (.dup, 1) := dk_89 (dk_at dksX1_setPeriod_0 6 rfl rfl)
theorem dX1_setPeriod_7 : decode cX1_setPeriod 7 = .ok (.iconst 0, 1) := dk_3 (dk_at dksX1_setPeriod_0 7 rfl rfl)
theorem dX1_setPeriod_8 : decode cX1_setPeriod 8 = .ok (.iload_n 1, 1) := dk_27 (dk_at dksX1_setPeriod_0 8 rfl rfl)
theorem dX1_setPeriod_9 : decode cX1_setPeriod 9 = .ok (.iastore, 1) := dk_79 (dk_at dksX1_setPeriod_0 9 rfl rfl)
theorem dX1_setPeriod_10 : decode cX1_setPeriod 10 = .ok (.dup, 1) := dk_89 (dk_at dksX1_setPeriod_0 10 rfl rfl)
theorem dX1_setPeriod_11 : decode cX1_setPeriod 11 = .ok (.iconst 1, 1) := dk_4 (dk_at dksX1_setPeriod_0 11 rfl rfl)
theorem dX1_setPeriod_12 : decode cX1_setPeriod 12 = .ok (.iload_n 2, 1) := dk_28 (dk_at dksX1_setPeriod_0 12 rfl rfl)
theorem dX1_setPeriod_13 : decode cX1_setPeriod 13 = .ok (.iastore, 1) := dk_79 (dk_at dksX1_setPeriod_0 13 rfl rfl)
theorem dX1_setPeriod_14 : decode cX1_setPeriod 14 = .ok (.invokevirtual 146, 3) := dk_182 0 146 (dk_at dksX1_setPeriod_0 14 rfl rfl)
theorem dX1_setPeriod_17 : decode cX1_setPeriod 17 = .ok (.ireturn, 1) := dk_172 (dk_at dksX1_setPeriod_0 17 rfl rfl)
abbrev cX1_pass : ByteArray := prog_1_method_28_code
def yX1_pass : MethodName := ⟨RX1, "pass", "(I)I"⟩
def dkwX1_pass_0 : List UInt8 := [42, 16, 100, 4, 188, 10, 89, 3, 27, 79, 182, 0, 146, 172]
abbrev dktX1_pass_0 : List UInt8 := dkwX1_pass_0 ++ []
theorem dksX1_pass_0 : cX1_pass.data.toList.drop 0 = dktX1_pass_0 := by decide +kernel
theorem dX1_pass_0 : decode cX1_pass 0 = .ok (.aload_n 0, 1) := dk_42 (dk_at dksX1_pass_0 0 rfl rfl)
theorem dX1_pass_1 : decode cX1_pass 1 = .ok (.bipush 100, 2) := dk_16 100 (dk_at dksX1_pass_0 1 rfl rfl)
theorem dX1_pass_3 : decode cX1_pass 3 = .ok (.iconst 1, 1) := dk_4 (dk_at dksX1_pass_0 3 rfl rfl)
theorem dX1_pass_4 : decode cX1_pass 4 = .ok (.newarray .int, 2) := dk_188_10 (dk_at dksX1_pass_0 4 rfl rfl)
theorem dX1_pass_6 : decode cX1_pass 6 = .ok (.dup, 1) := dk_89 (dk_at dksX1_pass_0 6 rfl rfl)
theorem dX1_pass_7 : decode cX1_pass 7 = .ok (.iconst 0, 1) := dk_3 (dk_at dksX1_pass_0 7 rfl rfl)
theorem dX1_pass_8 : decode cX1_pass 8 = .ok (.iload_n 1, 1) := dk_27 (dk_at dksX1_pass_0 8 rfl rfl)
theorem dX1_pass_9 : decode cX1_pass 9 = .ok (.iastore, 1) := dk_79 (dk_at dksX1_pass_0 9 rfl rfl)
theorem dX1_pass_10 : decode cX1_pass 10 = .ok (.invokevirtual 146, 3) := dk_182 0 146 (dk_at dksX1_pass_0 10 rfl rfl)
theorem dX1_pass_13 : decode cX1_pass 13 = .ok (.ireturn, 1) := dk_172 (dk_at dksX1_pass_0 13 rfl rfl)
abbrev cX1_setDay : ByteArray := prog_1_method_29_code
def yX1_setDay : MethodName := ⟨RX1, "setDay", "(I)I"⟩
def dkwX1_setDay_0 : List UInt8 := [42, 16, 121, 4, 188, 10, 89, 3, 27, 79, 182, 0, 146, 172]
abbrev dktX1_setDay_0 : List UInt8 := dkwX1_setDay_0 ++ []
theorem dksX1_setDay_0 : cX1_setDay.data.toList.drop 0 = dktX1_setDay_0 := by decide +kernel
theorem dX1_setDay_0 : decode cX1_setDay 0 = .ok (.aload_n 0, 1) := dk_42 (dk_at dksX1_setDay_0 0 rfl rfl)
theorem dX1_setDay_1 : decode cX1_setDay 1 = .ok (.bipush 121, 2) := dk_16 121 (dk_at dksX1_setDay_0 1 rfl rfl)
theorem dX1_setDay_3 : decode cX1_setDay 3 = .ok (.iconst 1, 1) := dk_4 (dk_at dksX1_setDay_0 3 rfl rfl)
theorem dX1_setDay_4 : decode cX1_setDay 4 = .ok (.newarray .int, 2) := dk_188_10 (dk_at dksX1_setDay_0 4 rfl rfl)
theorem dX1_setDay_6 : decode cX1_setDay 6 = .ok (.dup, 1) := dk_89 (dk_at dksX1_setDay_0 6 rfl rfl)
theorem dX1_setDay_7 : decode cX1_setDay 7 = .ok (.iconst 0, 1) := dk_3 (dk_at dksX1_setDay_0 7 rfl rfl)
theorem dX1_setDay_8 : decode cX1_setDay 8 = .ok (.iload_n 1, 1) := dk_27 (dk_at dksX1_setDay_0 8 rfl rfl)
theorem dX1_setDay_9 : decode cX1_setDay 9 = .ok (.iastore, 1) := dk_79 (dk_at dksX1_setDay_0 9 rfl rfl)
theorem dX1_setDay_10 : decode cX1_setDay 10 = .ok (.invokevirtual 146, 3) := dk_182 0 146 (dk_at dksX1_setDay_0 10 rfl rfl)
theorem dX1_setDay_13 : decode cX1_setDay 13 = .ok (.ireturn, 1) := dk_172 (dk_at dksX1_setDay_0 13 rfl rfl)
abbrev cX1_teethOf : ByteArray := prog_1_method_41_code
def yX1_teethOf : MethodName := ⟨RX1, "teethOf", "(I)I"⟩
def dkwX1_teethOf_0 : List UInt8 := [42, 27, 182, 0, 220, 180, 0, 224, 172]
abbrev dktX1_teethOf_0 : List UInt8 := dkwX1_teethOf_0 ++ []
theorem dksX1_teethOf_0 : cX1_teethOf.data.toList.drop 0 = dktX1_teethOf_0 := by decide +kernel
theorem dX1_teethOf_0 : decode cX1_teethOf 0 = .ok (.aload_n 0, 1) := dk_42 (dk_at dksX1_teethOf_0 0 rfl rfl)
theorem dX1_teethOf_1 : decode cX1_teethOf 1 = .ok (.iload_n 1, 1) := dk_27 (dk_at dksX1_teethOf_0 1 rfl rfl)
theorem dX1_teethOf_2 : decode cX1_teethOf 2 = .ok (.invokevirtual 220, 3) := dk_182 0 220 (dk_at dksX1_teethOf_0 2 rfl rfl)
theorem dX1_teethOf_5 : decode cX1_teethOf 5 = .ok (.getfield 224, 3) := dk_180 0 224 (dk_at dksX1_teethOf_0 5 rfl rfl)
theorem dX1_teethOf_8 : decode cX1_teethOf 8 = .ok (.ireturn, 1) := dk_172 (dk_at dksX1_teethOf_0 8 rfl rfl)
abbrev cX1_wheelAt : ByteArray := prog_1_method_33_code
def yX1_wheelAt : MethodName := ⟨RX1, "wheelAt", "(I)LClockworkOrreries$Wheel;"⟩
def dkwX1_wheelAt_1 : List UInt8 := [192, 0, 172, 176]
abbrev dktX1_wheelAt_1 : List UInt8 := dkwX1_wheelAt_1 ++ []
def dkwX1_wheelAt_0 : List UInt8 := [42, 180, 0, 56, 27, 182, 0, 155, 184, 0, 158, 42, 180, 0, 56, 180, 0, 162, 27, 182, 0, 166]
abbrev dktX1_wheelAt_0 : List UInt8 := dkwX1_wheelAt_0 ++ dktX1_wheelAt_1
theorem dksX1_wheelAt_0 : cX1_wheelAt.data.toList.drop 0 = dktX1_wheelAt_0 := by decide +kernel
theorem dksX1_wheelAt_1 : cX1_wheelAt.data.toList.drop 22 = dktX1_wheelAt_1 := dk_seg dksX1_wheelAt_0 22 rfl rfl
theorem dX1_wheelAt_0 : decode cX1_wheelAt 0 = .ok (.aload_n 0, 1) := dk_42 (dk_at dksX1_wheelAt_0 0 rfl rfl)
theorem dX1_wheelAt_1 : decode cX1_wheelAt 1 = .ok (.getfield 56, 3) := dk_180 0 56 (dk_at dksX1_wheelAt_0 1 rfl rfl)
theorem dX1_wheelAt_4 : decode cX1_wheelAt 4 = .ok (.iload_n 1, 1) := dk_27 (dk_at dksX1_wheelAt_0 4 rfl rfl)
theorem dX1_wheelAt_5 : decode cX1_wheelAt 5 = .ok (.invokevirtual 155, 3) := dk_182 0 155 (dk_at dksX1_wheelAt_0 5 rfl rfl)
theorem dX1_wheelAt_8 : decode cX1_wheelAt 8 = .ok (.invokestatic 158, 3) := dk_184 0 158 (dk_at dksX1_wheelAt_0 8 rfl rfl)
theorem dX1_wheelAt_11 : decode cX1_wheelAt 11 = .ok (.aload_n 0, 1) := dk_42 (dk_at dksX1_wheelAt_0 11 rfl rfl)
theorem dX1_wheelAt_12 : decode cX1_wheelAt 12 = .ok (.getfield 56, 3) := dk_180 0 56 (dk_at dksX1_wheelAt_0 12 rfl rfl)
theorem dX1_wheelAt_15 : decode cX1_wheelAt 15 = .ok (.getfield 162, 3) := dk_180 0 162 (dk_at dksX1_wheelAt_0 15 rfl rfl)
theorem dX1_wheelAt_18 : decode cX1_wheelAt 18 = .ok (.iload_n 1, 1) := dk_27 (dk_at dksX1_wheelAt_0 18 rfl rfl)
theorem dX1_wheelAt_19 : decode cX1_wheelAt 19 = .ok (.invokevirtual 166, 3) := dk_182 0 166 (dk_at dksX1_wheelAt_0 19 rfl rfl)
theorem dX1_wheelAt_22 : decode cX1_wheelAt 22 = .ok (.checkcast 172, 3) := dk_192 0 172 (dk_at dksX1_wheelAt_1 0 rfl rfl)
theorem dX1_wheelAt_25 : decode cX1_wheelAt 25 = .ok (.areturn, 1) := dk_176 (dk_at dksX1_wheelAt_1 3 rfl rfl)
abbrev cX1_needArgument : ByteArray := prog_1_method_30_code
def yX1_needArgument : MethodName := ⟨RX1, "needArgument", "(Z)V"⟩
def dkwX1_needArgument_0 : List UInt8 := [26, 154, 0, 13, 187, 0, 134, 89, 18, 136, 183, 0, 138, 191, 177]
abbrev dktX1_needArgument_0 : List UInt8 := dkwX1_needArgument_0 ++ []
theorem dksX1_needArgument_0 : cX1_needArgument.data.toList.drop 0 = dktX1_needArgument_0 := by decide +kernel
theorem dX1_needArgument_0 : decode cX1_needArgument 0 = .ok (.iload_n 0, 1) := dk_26 (dk_at dksX1_needArgument_0 0 rfl rfl)
theorem dX1_needArgument_1 : decode cX1_needArgument 1 = .ok (.ifCond .ne 13, 3) := dk_154 0 13 (dk_at dksX1_needArgument_0 1 rfl rfl)
theorem dX1_needArgument_4 : decode cX1_needArgument 4 = .ok (.new 134, 3) := dk_187 0 134 (dk_at dksX1_needArgument_0 4 rfl rfl)
theorem dX1_needArgument_7 : decode cX1_needArgument 7 = .ok (.dup, 1) := dk_89 (dk_at dksX1_needArgument_0 7 rfl rfl)
theorem dX1_needArgument_8 : decode cX1_needArgument 8 = .ok (.ldc 136, 2) := dk_18 136 (dk_at dksX1_needArgument_0 8 rfl rfl)
theorem dX1_needArgument_10 : decode cX1_needArgument 10 = .ok (.invokespecial 138, 3) := dk_183 0 138 (dk_at dksX1_needArgument_0 10 rfl rfl)
theorem dX1_needArgument_13 : decode cX1_needArgument 13 = .ok (.athrow, 1) := dk_191 (dk_at dksX1_needArgument_0 13 rfl rfl)
theorem dX1_needArgument_14 : decode cX1_needArgument 14 = .ok (.return_, 1) := dk_177 (dk_at dksX1_needArgument_0 14 rfl rfl)
abbrev cX1_axleOf : ByteArray := prog_1_method_42_code
def yX1_axleOf : MethodName := ⟨RX1, "axleOf", "(I)I"⟩
def dkwX1_axleOf_0 : List UInt8 := [42, 27, 182, 0, 220, 180, 0, 227, 172]
abbrev dktX1_axleOf_0 : List UInt8 := dkwX1_axleOf_0 ++ []
theorem dksX1_axleOf_0 : cX1_axleOf.data.toList.drop 0 = dktX1_axleOf_0 := by decide +kernel
theorem dX1_axleOf_0 : decode cX1_axleOf 0 = .ok (.aload_n 0, 1) := dk_42 (dk_at dksX1_axleOf_0 0 rfl rfl)
theorem dX1_axleOf_1 : decode cX1_axleOf 1 = .ok (.iload_n 1, 1) := dk_27 (dk_at dksX1_axleOf_0 1 rfl rfl)
theorem dX1_axleOf_2 : decode cX1_axleOf 2 = .ok (.invokevirtual 220, 3) := dk_182 0 220 (dk_at dksX1_axleOf_0 2 rfl rfl)
theorem dX1_axleOf_5 : decode cX1_axleOf 5 = .ok (.getfield 227, 3) := dk_180 0 227 (dk_at dksX1_axleOf_0 5 rfl rfl)
theorem dX1_axleOf_8 : decode cX1_axleOf 8 = .ok (.ireturn, 1) := dk_172 (dk_at dksX1_axleOf_0 8 rfl rfl)
abbrev cX1_whyNotMesh : ByteArray := prog_1_method_43_code
def yX1_whyNotMesh : MethodName := ⟨RX1, "whyNotMesh", "(II)I"⟩
def dkwX1_whyNotMesh_0 : List UInt8 := [42, 180, 0, 56, 27, 28, 182, 0, 228, 184, 0, 158, 42, 180, 0, 56, 27, 28, 182, 0, 232, 172]
abbrev dktX1_whyNotMesh_0 : List UInt8 := dkwX1_whyNotMesh_0 ++ []
theorem dksX1_whyNotMesh_0 : cX1_whyNotMesh.data.toList.drop 0 = dktX1_whyNotMesh_0 := by decide +kernel
theorem dX1_whyNotMesh_0 : decode cX1_whyNotMesh 0 = .ok (.aload_n 0, 1) := dk_42 (dk_at dksX1_whyNotMesh_0 0 rfl rfl)
theorem dX1_whyNotMesh_1 : decode cX1_whyNotMesh 1 = .ok (.getfield 56, 3) := dk_180 0 56 (dk_at dksX1_whyNotMesh_0 1 rfl rfl)
theorem dX1_whyNotMesh_4 : decode cX1_whyNotMesh 4 = .ok (.iload_n 1, 1) := dk_27 (dk_at dksX1_whyNotMesh_0 4 rfl rfl)
theorem dX1_whyNotMesh_5 : decode cX1_whyNotMesh 5 = .ok (.iload_n 2, 1) := dk_28 (dk_at dksX1_whyNotMesh_0 5 rfl rfl)
theorem dX1_whyNotMesh_6 : decode cX1_whyNotMesh 6 = .ok (.invokevirtual 228, 3) := dk_182 0 228 (dk_at dksX1_whyNotMesh_0 6 rfl rfl)
theorem dX1_whyNotMesh_9 : decode cX1_whyNotMesh 9 = .ok (.invokestatic 158, 3) := dk_184 0 158 (dk_at dksX1_whyNotMesh_0 9 rfl rfl)
theorem dX1_whyNotMesh_12 : decode cX1_whyNotMesh 12 = .ok (.aload_n 0, 1) := dk_42 (dk_at dksX1_whyNotMesh_0 12 rfl rfl)
theorem dX1_whyNotMesh_13 : decode cX1_whyNotMesh 13 = .ok (.getfield 56, 3) := dk_180 0 56 (dk_at dksX1_whyNotMesh_0 13 rfl rfl)
theorem dX1_whyNotMesh_16 : decode cX1_whyNotMesh 16 = .ok (.iload_n 1, 1) := dk_27 (dk_at dksX1_whyNotMesh_0 16 rfl rfl)
theorem dX1_whyNotMesh_17 : decode cX1_whyNotMesh 17 = .ok (.iload_n 2, 1) := dk_28 (dk_at dksX1_whyNotMesh_0 17 rfl rfl)
theorem dX1_whyNotMesh_18 : decode cX1_whyNotMesh 18 = .ok (.invokevirtual 232, 3) := dk_182 0 232 (dk_at dksX1_whyNotMesh_0 18 rfl rfl)
theorem dX1_whyNotMesh_21 : decode cX1_whyNotMesh 21 = .ok (.ireturn, 1) := dk_172 (dk_at dksX1_whyNotMesh_0 21 rfl rfl)
abbrev cX1_isDriven : ByteArray := prog_1_method_44_code
def yX1_isDriven : MethodName := ⟨RX1, "isDriven", "(I)Z"⟩
def dkwX1_isDriven_0 : List UInt8 := [42, 180, 0, 56, 27, 182, 0, 182, 184, 0, 158, 42, 180, 0, 56, 182, 0, 185, 27, 182, 0, 189, 172]
abbrev dktX1_isDriven_0 : List UInt8 := dkwX1_isDriven_0 ++ []
theorem dksX1_isDriven_0 : cX1_isDriven.data.toList.drop 0 = dktX1_isDriven_0 := by decide +kernel
theorem dX1_isDriven_0 : decode cX1_isDriven 0 = .ok (.aload_n 0, 1) := dk_42 (dk_at dksX1_isDriven_0 0 rfl rfl)
theorem dX1_isDriven_1 : decode cX1_isDriven 1 = .ok (.getfield 56, 3) := dk_180 0 56 (dk_at dksX1_isDriven_0 1 rfl rfl)
theorem dX1_isDriven_4 : decode cX1_isDriven 4 = .ok (.iload_n 1, 1) := dk_27 (dk_at dksX1_isDriven_0 4 rfl rfl)
theorem dX1_isDriven_5 : decode cX1_isDriven 5 = .ok (.invokevirtual 182, 3) := dk_182 0 182 (dk_at dksX1_isDriven_0 5 rfl rfl)
theorem dX1_isDriven_8 : decode cX1_isDriven 8 = .ok (.invokestatic 158, 3) := dk_184 0 158 (dk_at dksX1_isDriven_0 8 rfl rfl)
theorem dX1_isDriven_11 : decode cX1_isDriven 11 = .ok (.aload_n 0, 1) := dk_42 (dk_at dksX1_isDriven_0 11 rfl rfl)
theorem dX1_isDriven_12 : decode cX1_isDriven 12 = .ok (.getfield 56, 3) := dk_180 0 56 (dk_at dksX1_isDriven_0 12 rfl rfl)
theorem dX1_isDriven_15 : decode cX1_isDriven 15 = .ok (.invokevirtual 185, 3) := dk_182 0 185 (dk_at dksX1_isDriven_0 15 rfl rfl)
theorem dX1_isDriven_18 : decode cX1_isDriven 18 = .ok (.iload_n 1, 1) := dk_27 (dk_at dksX1_isDriven_0 18 rfl rfl)
theorem dX1_isDriven_19 : decode cX1_isDriven 19 = .ok (.invokevirtual 189, 3) := dk_182 0 189 (dk_at dksX1_isDriven_0 19 rfl rfl)
theorem dX1_isDriven_22 : decode cX1_isDriven 22 = .ok (.ireturn, 1) := dk_172 (dk_at dksX1_isDriven_0 22 rfl rfl)
abbrev cX1_wayTo : ByteArray := prog_1_method_45_code
def yX1_wayTo : MethodName := ⟨RX1, "wayTo", "(I)I"⟩
def dkwX1_wayTo_0 : List UInt8 := [42, 27, 182, 0, 235, 180, 0, 239, 27, 46, 172]
abbrev dktX1_wayTo_0 : List UInt8 := dkwX1_wayTo_0 ++ []
theorem dksX1_wayTo_0 : cX1_wayTo.data.toList.drop 0 = dktX1_wayTo_0 := by decide +kernel
theorem dX1_wayTo_0 : decode cX1_wayTo 0 = .ok (.aload_n 0, 1) := dk_42 (dk_at dksX1_wayTo_0 0 rfl rfl)
theorem dX1_wayTo_1 : decode cX1_wayTo 1 = .ok (.iload_n 1, 1) := dk_27 (dk_at dksX1_wayTo_0 1 rfl rfl)
theorem dX1_wayTo_2 : decode cX1_wayTo 2 = .ok (.invokevirtual 235, 3) := dk_182 0 235 (dk_at dksX1_wayTo_0 2 rfl rfl)
theorem dX1_wayTo_5 : decode cX1_wayTo 5 = .ok (.getfield 239, 3) := dk_180 0 239 (dk_at dksX1_wayTo_0 5 rfl rfl)
theorem dX1_wayTo_8 : decode cX1_wayTo 8 = .ok (.iload_n 1, 1) := dk_27 (dk_at dksX1_wayTo_0 8 rfl rfl)
theorem dX1_wayTo_9 : decode cX1_wayTo 9 = .ok (.iaload, 1) := dk_46 (dk_at dksX1_wayTo_0 9 rfl rfl)
theorem dX1_wayTo_10 : decode cX1_wayTo 10 = .ok (.ireturn, 1) := dk_172 (dk_at dksX1_wayTo_0 10 rfl rfl)
abbrev cX1_driving : ByteArray := prog_1_method_35_code
def yX1_driving : MethodName := ⟨RX1, "driving", "(I)LClockworkOrreries$Drive;"⟩
def dkwX1_driving_1 : List UInt8 := [184, 0, 194, 44, 176]
abbrev dktX1_driving_1 : List UInt8 := dkwX1_driving_1 ++ []
def dkwX1_driving_0 : List UInt8 := [42, 180, 0, 56, 27, 182, 0, 182, 184, 0, 158, 42, 180, 0, 56, 182, 0, 185, 77, 44, 27, 182, 0, 189]
abbrev dktX1_driving_0 : List UInt8 := dkwX1_driving_0 ++ dktX1_driving_1
theorem dksX1_driving_0 : cX1_driving.data.toList.drop 0 = dktX1_driving_0 := by decide +kernel
theorem dksX1_driving_1 : cX1_driving.data.toList.drop 24 = dktX1_driving_1 := dk_seg dksX1_driving_0 24 rfl rfl
theorem dX1_driving_0 : decode cX1_driving 0 = .ok (.aload_n 0, 1) := dk_42 (dk_at dksX1_driving_0 0 rfl rfl)
theorem dX1_driving_1 : decode cX1_driving 1 = .ok (.getfield 56, 3) := dk_180 0 56 (dk_at dksX1_driving_0 1 rfl rfl)
theorem dX1_driving_4 : decode cX1_driving 4 = .ok (.iload_n 1, 1) := dk_27 (dk_at dksX1_driving_0 4 rfl rfl)
theorem dX1_driving_5 : decode cX1_driving 5 = .ok (.invokevirtual 182, 3) := dk_182 0 182 (dk_at dksX1_driving_0 5 rfl rfl)
theorem dX1_driving_8 : decode cX1_driving 8 = .ok (.invokestatic 158, 3) := dk_184 0 158 (dk_at dksX1_driving_0 8 rfl rfl)
theorem dX1_driving_11 : decode cX1_driving 11 = .ok (.aload_n 0, 1) := dk_42 (dk_at dksX1_driving_0 11 rfl rfl)
theorem dX1_driving_12 : decode cX1_driving 12 = .ok (.getfield 56, 3) := dk_180 0 56 (dk_at dksX1_driving_0 12 rfl rfl)
theorem dX1_driving_15 : decode cX1_driving 15 = .ok (.invokevirtual 185, 3) := dk_182 0 185 (dk_at dksX1_driving_0 15 rfl rfl)
theorem dX1_driving_18 : decode cX1_driving 18 = .ok (.astore_n 2, 1) := dk_77 (dk_at dksX1_driving_0 18 rfl rfl)
theorem dX1_driving_19 : decode cX1_driving 19 = .ok (.aload_n 2, 1) := dk_44 (dk_at dksX1_driving_0 19 rfl rfl)
theorem dX1_driving_20 : decode cX1_driving 20 = .ok (.iload_n 1, 1) := dk_27 (dk_at dksX1_driving_0 20 rfl rfl)
theorem dX1_driving_21 : decode cX1_driving 21 = .ok (.invokevirtual 189, 3) := dk_182 0 189 (dk_at dksX1_driving_0 21 rfl rfl)
theorem dX1_driving_24 : decode cX1_driving 24 = .ok (.invokestatic 194, 3) := dk_184 0 194 (dk_at dksX1_driving_1 0 rfl rfl)
theorem dX1_driving_27 : decode cX1_driving 27 = .ok (.aload_n 2, 1) := dk_44 (dk_at dksX1_driving_1 3 rfl rfl)
theorem dX1_driving_28 : decode cX1_driving 28 = .ok (.areturn, 1) := dk_176 (dk_at dksX1_driving_1 4 rfl rfl)
abbrev cX1_needSuch : ByteArray := prog_1_method_31_code
def yX1_needSuch : MethodName := ⟨RX1, "needSuch", "(Z)V"⟩
def dkwX1_needSuch_0 : List UInt8 := [26, 154, 0, 13, 187, 0, 150, 89, 18, 152, 183, 0, 154, 191, 177]
abbrev dktX1_needSuch_0 : List UInt8 := dkwX1_needSuch_0 ++ []
theorem dksX1_needSuch_0 : cX1_needSuch.data.toList.drop 0 = dktX1_needSuch_0 := by decide +kernel
theorem dX1_needSuch_0 : decode cX1_needSuch 0 = .ok (.iload_n 0, 1) := dk_26 (dk_at dksX1_needSuch_0 0 rfl rfl)
theorem dX1_needSuch_1 : decode cX1_needSuch 1 = .ok (.ifCond .ne 13, 3) := dk_154 0 13 (dk_at dksX1_needSuch_0 1 rfl rfl)
theorem dX1_needSuch_4 : decode cX1_needSuch 4 = .ok (.new 150, 3) := dk_187 0 150 (dk_at dksX1_needSuch_0 4 rfl rfl)
theorem dX1_needSuch_7 : decode cX1_needSuch 7 = .ok (.dup, 1) := dk_89 (dk_at dksX1_needSuch_0 7 rfl rfl)
theorem dX1_needSuch_8 : decode cX1_needSuch 8 = .ok (.ldc 152, 2) := dk_18 152 (dk_at dksX1_needSuch_0 8 rfl rfl)
theorem dX1_needSuch_10 : decode cX1_needSuch 10 = .ok (.invokespecial 154, 3) := dk_183 0 154 (dk_at dksX1_needSuch_0 10 rfl rfl)
theorem dX1_needSuch_13 : decode cX1_needSuch 13 = .ok (.athrow, 1) := dk_191 (dk_at dksX1_needSuch_0 13 rfl rfl)
theorem dX1_needSuch_14 : decode cX1_needSuch 14 = .ok (.return_, 1) := dk_177 (dk_at dksX1_needSuch_0 14 rfl rfl)
abbrev cX1_ratioAbove : ByteArray := prog_1_method_46_code
def yX1_ratioAbove : MethodName := ⟨RX1, "ratioAbove", "(I)J"⟩
def dkwX1_ratioAbove_0 : List UInt8 := [42, 27, 182, 0, 235, 180, 0, 243, 27, 47, 173]
abbrev dktX1_ratioAbove_0 : List UInt8 := dkwX1_ratioAbove_0 ++ []
theorem dksX1_ratioAbove_0 : cX1_ratioAbove.data.toList.drop 0 = dktX1_ratioAbove_0 := by decide +kernel
theorem dX1_ratioAbove_0 : decode cX1_ratioAbove 0 = .ok (.aload_n 0, 1) := dk_42 (dk_at dksX1_ratioAbove_0 0 rfl rfl)
theorem dX1_ratioAbove_1 : decode cX1_ratioAbove 1 = .ok (.iload_n 1, 1) := dk_27 (dk_at dksX1_ratioAbove_0 1 rfl rfl)
theorem dX1_ratioAbove_2 : decode cX1_ratioAbove 2 = .ok (.invokevirtual 235, 3) := dk_182 0 235 (dk_at dksX1_ratioAbove_0 2 rfl rfl)
theorem dX1_ratioAbove_5 : decode cX1_ratioAbove 5 = .ok (.getfield 243, 3) := dk_180 0 243 (dk_at dksX1_ratioAbove_0 5 rfl rfl)
theorem dX1_ratioAbove_8 : decode cX1_ratioAbove 8 = .ok (.iload_n 1, 1) := dk_27 (dk_at dksX1_ratioAbove_0 8 rfl rfl)
theorem dX1_ratioAbove_9 : decode cX1_ratioAbove 9 = .ok (.laload, 1) := dk_47 (dk_at dksX1_ratioAbove_0 9 rfl rfl)
theorem dX1_ratioAbove_10 : decode cX1_ratioAbove 10 = .ok (.lreturn, 1) := dk_173 (dk_at dksX1_ratioAbove_0 10 rfl rfl)
abbrev cX1_ratioBelow : ByteArray := prog_1_method_47_code
def yX1_ratioBelow : MethodName := ⟨RX1, "ratioBelow", "(I)J"⟩
def dkwX1_ratioBelow_0 : List UInt8 := [42, 27, 182, 0, 235, 180, 0, 247, 27, 47, 173]
abbrev dktX1_ratioBelow_0 : List UInt8 := dkwX1_ratioBelow_0 ++ []
theorem dksX1_ratioBelow_0 : cX1_ratioBelow.data.toList.drop 0 = dktX1_ratioBelow_0 := by decide +kernel
theorem dX1_ratioBelow_0 : decode cX1_ratioBelow 0 = .ok (.aload_n 0, 1) := dk_42 (dk_at dksX1_ratioBelow_0 0 rfl rfl)
theorem dX1_ratioBelow_1 : decode cX1_ratioBelow 1 = .ok (.iload_n 1, 1) := dk_27 (dk_at dksX1_ratioBelow_0 1 rfl rfl)
theorem dX1_ratioBelow_2 : decode cX1_ratioBelow 2 = .ok (.invokevirtual 235, 3) := dk_182 0 235 (dk_at dksX1_ratioBelow_0 2 rfl rfl)
theorem dX1_ratioBelow_5 : decode cX1_ratioBelow 5 = .ok (.getfield 247, 3) := dk_180 0 247 (dk_at dksX1_ratioBelow_0 5 rfl rfl)
theorem dX1_ratioBelow_8 : decode cX1_ratioBelow 8 = .ok (.iload_n 1, 1) := dk_27 (dk_at dksX1_ratioBelow_0 8 rfl rfl)
theorem dX1_ratioBelow_9 : decode cX1_ratioBelow 9 = .ok (.laload, 1) := dk_47 (dk_at dksX1_ratioBelow_0 9 rfl rfl)
theorem dX1_ratioBelow_10 : decode cX1_ratioBelow 10 = .ok (.lreturn, 1) := dk_173 (dk_at dksX1_ratioBelow_0 10 rfl rfl)
abbrev cX1_isRatioByTeeth : ByteArray := prog_1_method_48_code
def yX1_isRatioByTeeth : MethodName := ⟨RX1, "isRatioByTeeth", "(I)Z"⟩
def dkwX1_isRatioByTeeth_0 : List UInt8 := [42, 27, 182, 0, 235, 27, 182, 0, 250, 172]
abbrev dktX1_isRatioByTeeth_0 : List UInt8 := dkwX1_isRatioByTeeth_0 ++ []
theorem dksX1_isRatioByTeeth_0 : cX1_isRatioByTeeth.data.toList.drop 0 = dktX1_isRatioByTeeth_0 := by decide +kernel
theorem dX1_isRatioByTeeth_0 : decode cX1_isRatioByTeeth 0 = .ok (.aload_n 0, 1) := dk_42 (dk_at dksX1_isRatioByTeeth_0 0 rfl rfl)
theorem dX1_isRatioByTeeth_1 : decode cX1_isRatioByTeeth 1 = .ok (.iload_n 1, 1) := dk_27 (dk_at dksX1_isRatioByTeeth_0 1 rfl rfl)
theorem dX1_isRatioByTeeth_2 : decode cX1_isRatioByTeeth 2 = .ok (.invokevirtual 235, 3) := dk_182 0 235 (dk_at dksX1_isRatioByTeeth_0 2 rfl rfl)
theorem dX1_isRatioByTeeth_5 : decode cX1_isRatioByTeeth 5 = .ok (.iload_n 1, 1) := dk_27 (dk_at dksX1_isRatioByTeeth_0 5 rfl rfl)
theorem dX1_isRatioByTeeth_6 : decode cX1_isRatioByTeeth 6 = .ok (.invokevirtual 250, 3) := dk_182 0 250 (dk_at dksX1_isRatioByTeeth_0 6 rfl rfl)
theorem dX1_isRatioByTeeth_9 : decode cX1_isRatioByTeeth 9 = .ok (.ireturn, 1) := dk_172 (dk_at dksX1_isRatioByTeeth_0 9 rfl rfl)
abbrev cX1_turnsOf : ByteArray := prog_1_method_49_code
def yX1_turnsOf : MethodName := ⟨RX1, "turnsOf", "(I)J"⟩
def dkwX1_turnsOf_1 : List UInt8 := [44, 180, 0, 247, 27, 47, 109, 173]
abbrev dktX1_turnsOf_1 : List UInt8 := dkwX1_turnsOf_1 ++ []
def dkwX1_turnsOf_0 : List UInt8 := [42, 27, 182, 0, 235, 77, 42, 180, 0, 56, 180, 0, 253, 133, 44, 180, 0, 243, 27, 47, 184, 0, 1, 105]
abbrev dktX1_turnsOf_0 : List UInt8 := dkwX1_turnsOf_0 ++ dktX1_turnsOf_1
theorem dksX1_turnsOf_0 : cX1_turnsOf.data.toList.drop 0 = dktX1_turnsOf_0 := by decide +kernel
theorem dksX1_turnsOf_1 : cX1_turnsOf.data.toList.drop 24 = dktX1_turnsOf_1 := dk_seg dksX1_turnsOf_0 24 rfl rfl
theorem dX1_turnsOf_0 : decode cX1_turnsOf 0 = .ok (.aload_n 0, 1) := dk_42 (dk_at dksX1_turnsOf_0 0 rfl rfl)
theorem dX1_turnsOf_1 : decode cX1_turnsOf 1 = .ok (.iload_n 1, 1) := dk_27 (dk_at dksX1_turnsOf_0 1 rfl rfl)
theorem dX1_turnsOf_2 : decode cX1_turnsOf 2 = .ok (.invokevirtual 235, 3) := dk_182 0 235 (dk_at dksX1_turnsOf_0 2 rfl rfl)
theorem dX1_turnsOf_5 : decode cX1_turnsOf 5 = .ok (.astore_n 2, 1) := dk_77 (dk_at dksX1_turnsOf_0 5 rfl rfl)
theorem dX1_turnsOf_6 : decode cX1_turnsOf 6 = .ok (.aload_n 0, 1) := dk_42 (dk_at dksX1_turnsOf_0 6 rfl rfl)
theorem dX1_turnsOf_7 : decode cX1_turnsOf 7 = .ok (.getfield 56, 3) := dk_180 0 56 (dk_at dksX1_turnsOf_0 7 rfl rfl)
theorem dX1_turnsOf_10 : decode cX1_turnsOf 10 = .ok (.getfield 253, 3) := dk_180 0 253 (dk_at dksX1_turnsOf_0 10 rfl rfl)
theorem dX1_turnsOf_13 : decode cX1_turnsOf 13 = .ok (.i2l, 1) := dk_133 (dk_at dksX1_turnsOf_0 13 rfl rfl)
theorem dX1_turnsOf_14 : decode cX1_turnsOf 14 = .ok (.aload_n 2, 1) := dk_44 (dk_at dksX1_turnsOf_0 14 rfl rfl)
theorem dX1_turnsOf_15 : decode cX1_turnsOf 15 = .ok (.getfield 243, 3) := dk_180 0 243 (dk_at dksX1_turnsOf_0 15 rfl rfl)
theorem dX1_turnsOf_18 : decode cX1_turnsOf 18 = .ok (.iload_n 1, 1) := dk_27 (dk_at dksX1_turnsOf_0 18 rfl rfl)
theorem dX1_turnsOf_19 : decode cX1_turnsOf 19 = .ok (.laload, 1) := dk_47 (dk_at dksX1_turnsOf_0 19 rfl rfl)
theorem dX1_turnsOf_20 : decode cX1_turnsOf 20 = .ok (.invokestatic 1, 3) := dk_184 0 1 (dk_at dksX1_turnsOf_0 20 rfl rfl)
theorem dX1_turnsOf_23 : decode cX1_turnsOf 23 = .ok (.lmul, 1) := dk_105 (dk_at dksX1_turnsOf_0 23 rfl rfl)
theorem dX1_turnsOf_24 : decode cX1_turnsOf 24 = .ok (.aload_n 2, 1) := dk_44 (dk_at dksX1_turnsOf_1 0 rfl rfl)
theorem dX1_turnsOf_25 : decode cX1_turnsOf 25 = .ok (.getfield 247, 3) := dk_180 0 247 (dk_at dksX1_turnsOf_1 1 rfl rfl)
theorem dX1_turnsOf_28 : decode cX1_turnsOf 28 = .ok (.iload_n 1, 1) := dk_27 (dk_at dksX1_turnsOf_1 4 rfl rfl)
theorem dX1_turnsOf_29 : decode cX1_turnsOf 29 = .ok (.laload, 1) := dk_47 (dk_at dksX1_turnsOf_1 5 rfl rfl)
theorem dX1_turnsOf_30 : decode cX1_turnsOf 30 = .ok (.ldiv, 1) := dk_109 (dk_at dksX1_turnsOf_1 6 rfl rfl)
theorem dX1_turnsOf_31 : decode cX1_turnsOf 31 = .ok (.lreturn, 1) := dk_173 (dk_at dksX1_turnsOf_1 7 rfl rfl)
abbrev cX1_wheelOf : ByteArray := prog_1_method_51_code
def yX1_wheelOf : MethodName := ⟨RX1, "wheelOf", "(IZ)I"⟩
def dkwX1_wheelOf_1 : List UInt8 := [180, 0, 56, 180, 1, 0, 27, 46, 167, 0, 12, 42, 180, 0, 56, 180, 1, 3, 27, 46, 172]
abbrev dktX1_wheelOf_1 : List UInt8 := dkwX1_wheelOf_1 ++ []
def dkwX1_wheelOf_0 : List UInt8 := [27, 133, 9, 42, 180, 0, 56, 180, 0, 217, 4, 100, 133, 184, 0, 204, 184, 0, 158, 28, 153, 0, 15, 42]
abbrev dktX1_wheelOf_0 : List UInt8 := dkwX1_wheelOf_0 ++ dktX1_wheelOf_1
theorem dksX1_wheelOf_0 : cX1_wheelOf.data.toList.drop 0 = dktX1_wheelOf_0 := by decide +kernel
theorem dksX1_wheelOf_1 : cX1_wheelOf.data.toList.drop 24 = dktX1_wheelOf_1 := dk_seg dksX1_wheelOf_0 24 rfl rfl
theorem dX1_wheelOf_0 : decode cX1_wheelOf 0 = .ok (.iload_n 1, 1) := dk_27 (dk_at dksX1_wheelOf_0 0 rfl rfl)
theorem dX1_wheelOf_1 : decode cX1_wheelOf 1 = .ok (.i2l, 1) := dk_133 (dk_at dksX1_wheelOf_0 1 rfl rfl)
theorem dX1_wheelOf_2 : decode cX1_wheelOf 2 = .ok (.lconst 0, 1) := dk_9 (dk_at dksX1_wheelOf_0 2 rfl rfl)
theorem dX1_wheelOf_3 : decode cX1_wheelOf 3 = .ok (.aload_n 0, 1) := dk_42 (dk_at dksX1_wheelOf_0 3 rfl rfl)
theorem dX1_wheelOf_4 : decode cX1_wheelOf 4 = .ok (.getfield 56, 3) := dk_180 0 56 (dk_at dksX1_wheelOf_0 4 rfl rfl)
theorem dX1_wheelOf_7 : decode cX1_wheelOf 7 = .ok (.getfield 217, 3) := dk_180 0 217 (dk_at dksX1_wheelOf_0 7 rfl rfl)
theorem dX1_wheelOf_10 : decode cX1_wheelOf 10 = .ok (.iconst 1, 1) := dk_4 (dk_at dksX1_wheelOf_0 10 rfl rfl)
theorem dX1_wheelOf_11 : decode cX1_wheelOf 11 = .ok (.isub, 1) := dk_100 (dk_at dksX1_wheelOf_0 11 rfl rfl)
theorem dX1_wheelOf_12 : decode cX1_wheelOf 12 = .ok (.i2l, 1) := dk_133 (dk_at dksX1_wheelOf_0 12 rfl rfl)
theorem dX1_wheelOf_13 : decode cX1_wheelOf 13 = .ok (.invokestatic 204, 3) := dk_184 0 204 (dk_at dksX1_wheelOf_0 13 rfl rfl)
theorem dX1_wheelOf_16 : decode cX1_wheelOf 16 = .ok (.invokestatic 158, 3) := dk_184 0 158 (dk_at dksX1_wheelOf_0 16 rfl rfl)
theorem dX1_wheelOf_19 : decode cX1_wheelOf 19 = .ok (.iload_n 2, 1) := dk_28 (dk_at dksX1_wheelOf_0 19 rfl rfl)
theorem dX1_wheelOf_20 : decode cX1_wheelOf 20 = .ok (.ifCond .eq 15, 3) := dk_153 0 15 (dk_at dksX1_wheelOf_0 20 rfl rfl)
theorem dX1_wheelOf_23 : decode cX1_wheelOf 23 = .ok (.aload_n 0, 1) := dk_42 (dk_at dksX1_wheelOf_0 23 rfl rfl)
theorem dX1_wheelOf_24 : decode cX1_wheelOf 24 = .ok (.getfield 56, 3) := dk_180 0 56 (dk_at dksX1_wheelOf_1 0 rfl rfl)
theorem dX1_wheelOf_27 : decode cX1_wheelOf 27 = .ok (.getfield 256, 3) := dk_180 1 0 (dk_at dksX1_wheelOf_1 3 rfl rfl)
theorem dX1_wheelOf_30 : decode cX1_wheelOf 30 = .ok (.iload_n 1, 1) := dk_27 (dk_at dksX1_wheelOf_1 6 rfl rfl)
theorem dX1_wheelOf_31 : decode cX1_wheelOf 31 = .ok (.iaload, 1) := dk_46 (dk_at dksX1_wheelOf_1 7 rfl rfl)
theorem dX1_wheelOf_32 : decode cX1_wheelOf 32 = .ok (.goto 12, 3) := dk_167 0 12 (dk_at dksX1_wheelOf_1 8 rfl rfl)
theorem dX1_wheelOf_35 : decode cX1_wheelOf 35 = .ok (.aload_n 0, 1) := dk_42 (dk_at dksX1_wheelOf_1 11 rfl rfl)
theorem dX1_wheelOf_36 : decode cX1_wheelOf 36 = .ok (.getfield 56, 3) := dk_180 0 56 (dk_at dksX1_wheelOf_1 12 rfl rfl)
theorem dX1_wheelOf_39 : decode cX1_wheelOf 39 = .ok (.getfield 259, 3) := dk_180 1 3 (dk_at dksX1_wheelOf_1 15 rfl rfl)
theorem dX1_wheelOf_42 : decode cX1_wheelOf 42 = .ok (.iload_n 1, 1) := dk_27 (dk_at dksX1_wheelOf_1 18 rfl rfl)
theorem dX1_wheelOf_43 : decode cX1_wheelOf 43 = .ok (.iaload, 1) := dk_46 (dk_at dksX1_wheelOf_1 19 rfl rfl)
theorem dX1_wheelOf_44 : decode cX1_wheelOf 44 = .ok (.ireturn, 1) := dk_172 (dk_at dksX1_wheelOf_1 20 rfl rfl)
abbrev cX1_sameTeethIn : ByteArray := prog_1_method_52_code
def yX1_sameTeethIn : MethodName := ⟨RX1, "sameTeethIn", "(I)I"⟩
def dkwX1_sameTeethIn_1 : List UInt8 := [133, 184, 1, 10, 136, 108, 29, 104, 172]
abbrev dktX1_sameTeethIn_1 : List UInt8 := dkwX1_sameTeethIn_1 ++ []
def dkwX1_sameTeethIn_0 : List UInt8 := [42, 27, 4, 182, 1, 6, 180, 0, 224, 61, 42, 27, 3, 182, 1, 6, 180, 0, 224, 62, 28, 28, 133, 29]
abbrev dktX1_sameTeethIn_0 : List UInt8 := dkwX1_sameTeethIn_0 ++ dktX1_sameTeethIn_1
theorem dksX1_sameTeethIn_0 : cX1_sameTeethIn.data.toList.drop 0 = dktX1_sameTeethIn_0 := by decide +kernel
theorem dksX1_sameTeethIn_1 : cX1_sameTeethIn.data.toList.drop 24 = dktX1_sameTeethIn_1 := dk_seg dksX1_sameTeethIn_0 24 rfl rfl
theorem dX1_sameTeethIn_0 : decode cX1_sameTeethIn 0 = .ok (.aload_n 0, 1) := dk_42 (dk_at dksX1_sameTeethIn_0 0 rfl rfl)
theorem dX1_sameTeethIn_1 : decode cX1_sameTeethIn 1 = .ok (.iload_n 1, 1) := dk_27 (dk_at dksX1_sameTeethIn_0 1 rfl rfl)
theorem dX1_sameTeethIn_2 : decode cX1_sameTeethIn 2 = .ok (.iconst 1, 1) := dk_4 (dk_at dksX1_sameTeethIn_0 2 rfl rfl)
theorem dX1_sameTeethIn_3 : decode cX1_sameTeethIn 3 = .ok (.invokevirtual 262, 3) := dk_182 1 6 (dk_at dksX1_sameTeethIn_0 3 rfl rfl)
theorem dX1_sameTeethIn_6 : decode cX1_sameTeethIn 6 = .ok (.getfield 224, 3) := dk_180 0 224 (dk_at dksX1_sameTeethIn_0 6 rfl rfl)
theorem dX1_sameTeethIn_9 : decode cX1_sameTeethIn 9 = .ok (.istore_n 2, 1) := dk_61 (dk_at dksX1_sameTeethIn_0 9 rfl rfl)
theorem dX1_sameTeethIn_10 : decode cX1_sameTeethIn 10 = .ok (.aload_n 0, 1) := dk_42 (dk_at dksX1_sameTeethIn_0 10 rfl rfl)
theorem dX1_sameTeethIn_11 : decode cX1_sameTeethIn 11 = .ok (.iload_n 1, 1) := dk_27 (dk_at dksX1_sameTeethIn_0 11 rfl rfl)
theorem dX1_sameTeethIn_12 : decode cX1_sameTeethIn 12 = .ok (.iconst 0, 1) := dk_3 (dk_at dksX1_sameTeethIn_0 12 rfl rfl)
theorem dX1_sameTeethIn_13 : decode cX1_sameTeethIn 13 = .ok (.invokevirtual 262, 3) := dk_182 1 6 (dk_at dksX1_sameTeethIn_0 13 rfl rfl)
theorem dX1_sameTeethIn_16 : decode cX1_sameTeethIn 16 = .ok (.getfield 224, 3) := dk_180 0 224 (dk_at dksX1_sameTeethIn_0 16 rfl rfl)
theorem dX1_sameTeethIn_19 : decode cX1_sameTeethIn 19 = .ok (.istore_n 3, 1) := dk_62 (dk_at dksX1_sameTeethIn_0 19 rfl rfl)
theorem dX1_sameTeethIn_20 : decode cX1_sameTeethIn 20 = .ok (.iload_n 2, 1) := dk_28 (dk_at dksX1_sameTeethIn_0 20 rfl rfl)
theorem dX1_sameTeethIn_21 : decode cX1_sameTeethIn 21 = .ok (.iload_n 2, 1) := dk_28 (dk_at dksX1_sameTeethIn_0 21 rfl rfl)
theorem dX1_sameTeethIn_22 : decode cX1_sameTeethIn 22 = .ok (.i2l, 1) := dk_133 (dk_at dksX1_sameTeethIn_0 22 rfl rfl)
theorem dX1_sameTeethIn_23 : decode cX1_sameTeethIn 23 = .ok (.iload_n 3, 1) := dk_29 (dk_at dksX1_sameTeethIn_0 23 rfl rfl)
theorem dX1_sameTeethIn_24 : decode cX1_sameTeethIn 24 = .ok (.i2l, 1) := dk_133 (dk_at dksX1_sameTeethIn_1 0 rfl rfl)
theorem dX1_sameTeethIn_25 : decode cX1_sameTeethIn 25 = .ok (.invokestatic 266, 3) := dk_184 1 10 (dk_at dksX1_sameTeethIn_1 1 rfl rfl)
theorem dX1_sameTeethIn_28 : decode cX1_sameTeethIn 28 = .ok (.l2i, 1) := dk_136 (dk_at dksX1_sameTeethIn_1 4 rfl rfl)
theorem dX1_sameTeethIn_29 : decode cX1_sameTeethIn 29 = .ok (.idiv, 1) := dk_108 (dk_at dksX1_sameTeethIn_1 5 rfl rfl)
theorem dX1_sameTeethIn_30 : decode cX1_sameTeethIn 30 = .ok (.iload_n 3, 1) := dk_29 (dk_at dksX1_sameTeethIn_1 6 rfl rfl)
theorem dX1_sameTeethIn_31 : decode cX1_sameTeethIn 31 = .ok (.imul, 1) := dk_104 (dk_at dksX1_sameTeethIn_1 7 rfl rfl)
theorem dX1_sameTeethIn_32 : decode cX1_sameTeethIn 32 = .ok (.ireturn, 1) := dk_172 (dk_at dksX1_sameTeethIn_1 8 rfl rfl)
abbrev cX1_ofPair : ByteArray := prog_1_method_50_code
def yX1_ofPair : MethodName := ⟨RX1, "ofPair", "(IZ)LClockworkOrreries$Wheel;"⟩
def dkwX1_ofPair_2 : List UInt8 := [180, 1, 3, 27, 46, 182, 0, 166, 192, 0, 172, 176]
abbrev dktX1_ofPair_2 : List UInt8 := dkwX1_ofPair_2 ++ []
def dkwX1_ofPair_1 : List UInt8 := [180, 0, 162, 28, 153, 0, 15, 42, 180, 0, 56, 180, 1, 0, 27, 46, 167, 0, 12, 42, 180, 0, 56]
abbrev dktX1_ofPair_1 : List UInt8 := dkwX1_ofPair_1 ++ dktX1_ofPair_2
def dkwX1_ofPair_0 : List UInt8 := [27, 133, 9, 42, 180, 0, 56, 180, 0, 217, 4, 100, 133, 184, 0, 204, 184, 0, 158, 42, 180, 0, 56]
abbrev dktX1_ofPair_0 : List UInt8 := dkwX1_ofPair_0 ++ dktX1_ofPair_1
theorem dksX1_ofPair_0 : cX1_ofPair.data.toList.drop 0 = dktX1_ofPair_0 := by decide +kernel
theorem dksX1_ofPair_1 : cX1_ofPair.data.toList.drop 23 = dktX1_ofPair_1 := dk_seg dksX1_ofPair_0 23 rfl rfl
theorem dksX1_ofPair_2 : cX1_ofPair.data.toList.drop 46 = dktX1_ofPair_2 := dk_seg dksX1_ofPair_1 23 rfl rfl
theorem dX1_ofPair_0 : decode cX1_ofPair 0 = .ok (.iload_n 1, 1) := dk_27 (dk_at dksX1_ofPair_0 0 rfl rfl)
theorem dX1_ofPair_1 : decode cX1_ofPair 1 = .ok (.i2l, 1) := dk_133 (dk_at dksX1_ofPair_0 1 rfl rfl)
theorem dX1_ofPair_2 : decode cX1_ofPair 2 = .ok (.lconst 0, 1) := dk_9 (dk_at dksX1_ofPair_0 2 rfl rfl)
theorem dX1_ofPair_3 : decode cX1_ofPair 3 = .ok (.aload_n 0, 1) := dk_42 (dk_at dksX1_ofPair_0 3 rfl rfl)
theorem dX1_ofPair_4 : decode cX1_ofPair 4 = .ok (.getfield 56, 3) := dk_180 0 56 (dk_at dksX1_ofPair_0 4 rfl rfl)
theorem dX1_ofPair_7 : decode cX1_ofPair 7 = .ok (.getfield 217, 3) := dk_180 0 217 (dk_at dksX1_ofPair_0 7 rfl rfl)
theorem dX1_ofPair_10 : decode cX1_ofPair 10 = .ok (.iconst 1, 1) := dk_4 (dk_at dksX1_ofPair_0 10 rfl rfl)
theorem dX1_ofPair_11 : decode cX1_ofPair 11 = .ok (.isub, 1) := dk_100 (dk_at dksX1_ofPair_0 11 rfl rfl)
theorem dX1_ofPair_12 : decode cX1_ofPair 12 = .ok (.i2l, 1) := dk_133 (dk_at dksX1_ofPair_0 12 rfl rfl)
theorem dX1_ofPair_13 : decode cX1_ofPair 13 = .ok (.invokestatic 204, 3) := dk_184 0 204 (dk_at dksX1_ofPair_0 13 rfl rfl)
theorem dX1_ofPair_16 : decode cX1_ofPair 16 = .ok (.invokestatic 158, 3) := dk_184 0 158 (dk_at dksX1_ofPair_0 16 rfl rfl)
theorem dX1_ofPair_19 : decode cX1_ofPair 19 = .ok (.aload_n 0, 1) := dk_42 (dk_at dksX1_ofPair_0 19 rfl rfl)
theorem dX1_ofPair_20 : decode cX1_ofPair 20 = .ok (.getfield 56, 3) := dk_180 0 56 (dk_at dksX1_ofPair_0 20 rfl rfl)
theorem dX1_ofPair_23 : decode cX1_ofPair 23 = .ok (.getfield 162, 3) := dk_180 0 162 (dk_at dksX1_ofPair_1 0 rfl rfl)
theorem dX1_ofPair_26 : decode cX1_ofPair 26 = .ok (.iload_n 2, 1) := dk_28 (dk_at dksX1_ofPair_1 3 rfl rfl)
theorem dX1_ofPair_27 : decode cX1_ofPair 27 = .ok (.ifCond .eq 15, 3) := dk_153 0 15 (dk_at dksX1_ofPair_1 4 rfl rfl)
theorem dX1_ofPair_30 : decode cX1_ofPair 30 = .ok (.aload_n 0, 1) := dk_42 (dk_at dksX1_ofPair_1 7 rfl rfl)
theorem dX1_ofPair_31 : decode cX1_ofPair 31 = .ok (.getfield 56, 3) := dk_180 0 56 (dk_at dksX1_ofPair_1 8 rfl rfl)
theorem dX1_ofPair_34 : decode cX1_ofPair 34 = .ok (.getfield 256, 3) := dk_180 1 0 (dk_at dksX1_ofPair_1 11 rfl rfl)
theorem dX1_ofPair_37 : decode cX1_ofPair 37 = .ok (.iload_n 1, 1) := dk_27 (dk_at dksX1_ofPair_1 14 rfl rfl)
theorem dX1_ofPair_38 : decode cX1_ofPair 38 = .ok (.iaload, 1) := dk_46 (dk_at dksX1_ofPair_1 15 rfl rfl)
theorem dX1_ofPair_39 : decode cX1_ofPair 39 = .ok (.goto 12, 3) := dk_167 0 12 (dk_at dksX1_ofPair_1 16 rfl rfl)
theorem dX1_ofPair_42 : decode cX1_ofPair 42 = .ok (.aload_n 0, 1) := dk_42 (dk_at dksX1_ofPair_1 19 rfl rfl)
theorem dX1_ofPair_43 : decode cX1_ofPair 43 = .ok (.getfield 56, 3) := dk_180 0 56 (dk_at dksX1_ofPair_1 20 rfl rfl)
theorem dX1_ofPair_46 : decode cX1_ofPair 46 = .ok (.getfield 259, 3) := dk_180 1 3 (dk_at dksX1_ofPair_2 0 rfl rfl)
theorem dX1_ofPair_49 : decode cX1_ofPair 49 = .ok (.iload_n 1, 1) := dk_27 (dk_at dksX1_ofPair_2 3 rfl rfl)
theorem dX1_ofPair_50 : decode cX1_ofPair 50 = .ok (.iaload, 1) := dk_46 (dk_at dksX1_ofPair_2 4 rfl rfl)
theorem dX1_ofPair_51 : decode cX1_ofPair 51 = .ok (.invokevirtual 166, 3) := dk_182 0 166 (dk_at dksX1_ofPair_2 5 rfl rfl)
theorem dX1_ofPair_54 : decode cX1_ofPair 54 = .ok (.checkcast 172, 3) := dk_192 0 172 (dk_at dksX1_ofPair_2 8 rfl rfl)
theorem dX1_ofPair_57 : decode cX1_ofPair 57 = .ok (.areturn, 1) := dk_176 (dk_at dksX1_ofPair_2 11 rfl rfl)
abbrev cX1_sameTeethByGoing : ByteArray := prog_1_method_53_code
def yX1_sameTeethByGoing : MethodName := ⟨RX1, "sameTeethByGoing", "(I)I"⟩
def dkwX1_sameTeethByGoing_3 : List UInt8 := [157, 255, 215, 21, 5, 157, 255, 210, 21, 6, 172]
abbrev dktX1_sameTeethByGoing_3 : List UInt8 := dkwX1_sameTeethByGoing_3 ++ []
def dkwX1_sameTeethByGoing_2 : List UInt8 := [21, 5, 4, 96, 29, 160, 0, 7, 3, 167, 0, 7, 21, 5, 4, 96, 54, 5, 132, 6, 1, 21, 4]
abbrev dktX1_sameTeethByGoing_2 : List UInt8 := dkwX1_sameTeethByGoing_2 ++ dktX1_sameTeethByGoing_3
def dkwX1_sameTeethByGoing_1 : List UInt8 := [54, 5, 3, 54, 6, 21, 4, 4, 96, 28, 160, 0, 7, 3, 167, 0, 7, 21, 4, 4, 96, 54, 4]
abbrev dktX1_sameTeethByGoing_1 : List UInt8 := dkwX1_sameTeethByGoing_1 ++ dktX1_sameTeethByGoing_2
def dkwX1_sameTeethByGoing_0 : List UInt8 := [42, 27, 4, 182, 1, 6, 180, 0, 224, 61, 42, 27, 3, 182, 1, 6, 180, 0, 224, 62, 3, 54, 4, 3]
abbrev dktX1_sameTeethByGoing_0 : List UInt8 := dkwX1_sameTeethByGoing_0 ++ dktX1_sameTeethByGoing_1
theorem dksX1_sameTeethByGoing_0 : cX1_sameTeethByGoing.data.toList.drop 0 = dktX1_sameTeethByGoing_0 := by decide +kernel
theorem dksX1_sameTeethByGoing_1 : cX1_sameTeethByGoing.data.toList.drop 24 = dktX1_sameTeethByGoing_1 := dk_seg dksX1_sameTeethByGoing_0 24 rfl rfl
theorem dksX1_sameTeethByGoing_2 : cX1_sameTeethByGoing.data.toList.drop 47 = dktX1_sameTeethByGoing_2 := dk_seg dksX1_sameTeethByGoing_1 23 rfl rfl
theorem dksX1_sameTeethByGoing_3 : cX1_sameTeethByGoing.data.toList.drop 70 = dktX1_sameTeethByGoing_3 := dk_seg dksX1_sameTeethByGoing_2 23 rfl rfl
theorem dX1_sameTeethByGoing_0 : decode cX1_sameTeethByGoing 0 = .ok (.aload_n 0, 1) := dk_42 (dk_at dksX1_sameTeethByGoing_0 0 rfl rfl)
theorem dX1_sameTeethByGoing_1 : decode cX1_sameTeethByGoing 1 = .ok (.iload_n 1, 1) := dk_27 (dk_at dksX1_sameTeethByGoing_0 1 rfl rfl)
theorem dX1_sameTeethByGoing_2 : decode cX1_sameTeethByGoing 2 = .ok (.iconst 1, 1) := dk_4 (dk_at dksX1_sameTeethByGoing_0 2 rfl rfl)
theorem dX1_sameTeethByGoing_3 : decode cX1_sameTeethByGoing 3 = .ok (.invokevirtual 262, 3) := dk_182 1 6 (dk_at dksX1_sameTeethByGoing_0 3 rfl rfl)
theorem dX1_sameTeethByGoing_6 : decode cX1_sameTeethByGoing 6 = .ok (.getfield 224, 3) := dk_180 0 224 (dk_at dksX1_sameTeethByGoing_0 6 rfl rfl)
theorem dX1_sameTeethByGoing_9 : decode cX1_sameTeethByGoing 9 = .ok (.istore_n 2, 1) := dk_61 (dk_at dksX1_sameTeethByGoing_0 9 rfl rfl)
theorem dX1_sameTeethByGoing_10 : decode cX1_sameTeethByGoing 10 = .ok (.aload_n 0, 1) := dk_42 (dk_at dksX1_sameTeethByGoing_0 10 rfl rfl)
theorem dX1_sameTeethByGoing_11 : decode cX1_sameTeethByGoing 11 = .ok (.iload_n 1, 1) := dk_27 (dk_at dksX1_sameTeethByGoing_0 11 rfl rfl)
theorem dX1_sameTeethByGoing_12 : decode cX1_sameTeethByGoing 12 = .ok (.iconst 0, 1) := dk_3 (dk_at dksX1_sameTeethByGoing_0 12 rfl rfl)
theorem dX1_sameTeethByGoing_13 : decode cX1_sameTeethByGoing 13 = .ok (.invokevirtual 262, 3) := dk_182 1 6 (dk_at dksX1_sameTeethByGoing_0 13 rfl rfl)
theorem dX1_sameTeethByGoing_16 : decode cX1_sameTeethByGoing 16 = .ok (.getfield 224, 3) := dk_180 0 224 (dk_at dksX1_sameTeethByGoing_0 16 rfl rfl)
theorem dX1_sameTeethByGoing_19 : decode cX1_sameTeethByGoing 19 = .ok (.istore_n 3, 1) := dk_62 (dk_at dksX1_sameTeethByGoing_0 19 rfl rfl)
theorem dX1_sameTeethByGoing_20 : decode cX1_sameTeethByGoing 20 = .ok (.iconst 0, 1) := dk_3 (dk_at dksX1_sameTeethByGoing_0 20 rfl rfl)
theorem dX1_sameTeethByGoing_21 : decode cX1_sameTeethByGoing 21 = .ok (.istore 4, 2) := dk_54 4 (dk_at dksX1_sameTeethByGoing_0 21 rfl rfl)
theorem dX1_sameTeethByGoing_23 : decode cX1_sameTeethByGoing 23 = .ok (.iconst 0, 1) := dk_3 (dk_at dksX1_sameTeethByGoing_0 23 rfl rfl)
theorem dX1_sameTeethByGoing_24 : decode cX1_sameTeethByGoing 24 = .ok (.istore 5, 2) := dk_54 5 (dk_at dksX1_sameTeethByGoing_1 0 rfl rfl)
theorem dX1_sameTeethByGoing_26 : decode cX1_sameTeethByGoing 26 = .ok (.iconst 0, 1) := dk_3 (dk_at dksX1_sameTeethByGoing_1 2 rfl rfl)
theorem dX1_sameTeethByGoing_27 : decode cX1_sameTeethByGoing 27 = .ok (.istore 6, 2) := dk_54 6 (dk_at dksX1_sameTeethByGoing_1 3 rfl rfl)
theorem dX1_sameTeethByGoing_29 : decode cX1_sameTeethByGoing 29 = .ok (.iload 4, 2) := dk_21 4 (dk_at dksX1_sameTeethByGoing_1 5 rfl rfl)
theorem dX1_sameTeethByGoing_31 : decode cX1_sameTeethByGoing 31 = .ok (.iconst 1, 1) := dk_4 (dk_at dksX1_sameTeethByGoing_1 7 rfl rfl)
theorem dX1_sameTeethByGoing_32 : decode cX1_sameTeethByGoing 32 = .ok (.iadd, 1) := dk_96 (dk_at dksX1_sameTeethByGoing_1 8 rfl rfl)
theorem dX1_sameTeethByGoing_33 : decode cX1_sameTeethByGoing 33 = .ok (.iload_n 2, 1) := dk_28 (dk_at dksX1_sameTeethByGoing_1 9 rfl rfl)
theorem dX1_sameTeethByGoing_34 : decode cX1_sameTeethByGoing 34 = .ok (.if_icmp .ne 7, 3) := dk_160 0 7 (dk_at dksX1_sameTeethByGoing_1 10 rfl rfl)
theorem dX1_sameTeethByGoing_37 : decode cX1_sameTeethByGoing 37 = .ok (.iconst 0, 1) := dk_3 (dk_at dksX1_sameTeethByGoing_1 13 rfl rfl)
theorem dX1_sameTeethByGoing_38 : decode cX1_sameTeethByGoing 38 = .ok (.goto 7, 3) := dk_167 0 7 (dk_at dksX1_sameTeethByGoing_1 14 rfl rfl)
theorem dX1_sameTeethByGoing_41 : decode cX1_sameTeethByGoing 41 = .ok (.iload 4, 2) := dk_21 4 (dk_at dksX1_sameTeethByGoing_1 17 rfl rfl)
theorem dX1_sameTeethByGoing_43 : decode cX1_sameTeethByGoing 43 = .ok (.iconst 1, 1) := dk_4 (dk_at dksX1_sameTeethByGoing_1 19 rfl rfl)
theorem dX1_sameTeethByGoing_44 : decode cX1_sameTeethByGoing 44 = .ok (.iadd, 1) := dk_96 (dk_at dksX1_sameTeethByGoing_1 20 rfl rfl)
theorem dX1_sameTeethByGoing_45 : decode cX1_sameTeethByGoing 45 = .ok (.istore 4, 2) := dk_54 4 (dk_at dksX1_sameTeethByGoing_1 21 rfl rfl)
theorem dX1_sameTeethByGoing_47 : decode cX1_sameTeethByGoing 47 = .ok (.iload 5, 2) := dk_21 5 (dk_at dksX1_sameTeethByGoing_2 0 rfl rfl)
theorem dX1_sameTeethByGoing_49 : decode cX1_sameTeethByGoing 49 = .ok (.iconst 1, 1) := dk_4 (dk_at dksX1_sameTeethByGoing_2 2 rfl rfl)
theorem dX1_sameTeethByGoing_50 : decode cX1_sameTeethByGoing 50 = .ok (.iadd, 1) := dk_96 (dk_at dksX1_sameTeethByGoing_2 3 rfl rfl)
theorem dX1_sameTeethByGoing_51 : decode cX1_sameTeethByGoing 51 = .ok (.iload_n 3, 1) := dk_29 (dk_at dksX1_sameTeethByGoing_2 4 rfl rfl)
theorem dX1_sameTeethByGoing_52 : decode cX1_sameTeethByGoing 52 = .ok (.if_icmp .ne 7, 3) := dk_160 0 7 (dk_at dksX1_sameTeethByGoing_2 5 rfl rfl)
theorem dX1_sameTeethByGoing_55 : decode cX1_sameTeethByGoing 55 = .ok (.iconst 0, 1) := dk_3 (dk_at dksX1_sameTeethByGoing_2 8 rfl rfl)
theorem dX1_sameTeethByGoing_56 : decode cX1_sameTeethByGoing 56 = .ok (.goto 7, 3) := dk_167 0 7 (dk_at dksX1_sameTeethByGoing_2 9 rfl rfl)
theorem dX1_sameTeethByGoing_59 : decode cX1_sameTeethByGoing 59 = .ok (.iload 5, 2) := dk_21 5 (dk_at dksX1_sameTeethByGoing_2 12 rfl rfl)
theorem dX1_sameTeethByGoing_61 : decode cX1_sameTeethByGoing 61 = .ok (.iconst 1, 1) := dk_4 (dk_at dksX1_sameTeethByGoing_2 14 rfl rfl)
theorem dX1_sameTeethByGoing_62 : decode cX1_sameTeethByGoing 62 = .ok (.iadd, 1) := dk_96 (dk_at dksX1_sameTeethByGoing_2 15 rfl rfl)
theorem dX1_sameTeethByGoing_63 : decode cX1_sameTeethByGoing 63 = .ok (.istore 5, 2) := dk_54 5 (dk_at dksX1_sameTeethByGoing_2 16 rfl rfl)
theorem dX1_sameTeethByGoing_65 : decode cX1_sameTeethByGoing 65 = .ok (.iinc 6 1, 3) := dk_132 6 1 (dk_at dksX1_sameTeethByGoing_2 18 rfl rfl)
theorem dX1_sameTeethByGoing_68 : decode cX1_sameTeethByGoing 68 = .ok (.iload 4, 2) := dk_21 4 (dk_at dksX1_sameTeethByGoing_2 21 rfl rfl)
theorem dX1_sameTeethByGoing_70 : decode cX1_sameTeethByGoing 70 = .ok (.ifCond .gt (-41), 3) := dk_157 255 215 (dk_at dksX1_sameTeethByGoing_3 0 rfl rfl)
theorem dX1_sameTeethByGoing_73 : decode cX1_sameTeethByGoing 73 = .ok (.iload 5, 2) := dk_21 5 (dk_at dksX1_sameTeethByGoing_3 3 rfl rfl)
theorem dX1_sameTeethByGoing_75 : decode cX1_sameTeethByGoing 75 = .ok (.ifCond .gt (-46), 3) := dk_157 255 210 (dk_at dksX1_sameTeethByGoing_3 5 rfl rfl)
theorem dX1_sameTeethByGoing_78 : decode cX1_sameTeethByGoing 78 = .ok (.iload 6, 2) := dk_21 6 (dk_at dksX1_sameTeethByGoing_3 8 rfl rfl)
theorem dX1_sameTeethByGoing_80 : decode cX1_sameTeethByGoing 80 = .ok (.ireturn, 1) := dk_172 (dk_at dksX1_sameTeethByGoing_3 10 rfl rfl)
abbrev cX1_isEven : ByteArray := prog_1_method_54_code
def yX1_isEven : MethodName := ⟨RX1, "isEven", "(I)Z"⟩
def dkwX1_isEven_1 : List UInt8 := [148, 154, 0, 7, 4, 167, 0, 4, 3, 172]
abbrev dktX1_isEven_1 : List UInt8 := dkwX1_isEven_1 ++ []
def dkwX1_isEven_0 : List UInt8 := [42, 27, 4, 182, 1, 6, 180, 0, 224, 133, 42, 27, 3, 182, 1, 6, 180, 0, 224, 133, 184, 1, 10, 10]
abbrev dktX1_isEven_0 : List UInt8 := dkwX1_isEven_0 ++ dktX1_isEven_1
theorem dksX1_isEven_0 : cX1_isEven.data.toList.drop 0 = dktX1_isEven_0 := by decide +kernel
theorem dksX1_isEven_1 : cX1_isEven.data.toList.drop 24 = dktX1_isEven_1 := dk_seg dksX1_isEven_0 24 rfl rfl
theorem dX1_isEven_0 : decode cX1_isEven 0 = .ok (.aload_n 0, 1) := dk_42 (dk_at dksX1_isEven_0 0 rfl rfl)
theorem dX1_isEven_1 : decode cX1_isEven 1 = .ok (.iload_n 1, 1) := dk_27 (dk_at dksX1_isEven_0 1 rfl rfl)
theorem dX1_isEven_2 : decode cX1_isEven 2 = .ok (.iconst 1, 1) := dk_4 (dk_at dksX1_isEven_0 2 rfl rfl)
theorem dX1_isEven_3 : decode cX1_isEven 3 = .ok (.invokevirtual 262, 3) := dk_182 1 6 (dk_at dksX1_isEven_0 3 rfl rfl)
theorem dX1_isEven_6 : decode cX1_isEven 6 = .ok (.getfield 224, 3) := dk_180 0 224 (dk_at dksX1_isEven_0 6 rfl rfl)
theorem dX1_isEven_9 : decode cX1_isEven 9 = .ok (.i2l, 1) := dk_133 (dk_at dksX1_isEven_0 9 rfl rfl)
theorem dX1_isEven_10 : decode cX1_isEven 10 = .ok (.aload_n 0, 1) := dk_42 (dk_at dksX1_isEven_0 10 rfl rfl)
theorem dX1_isEven_11 : decode cX1_isEven 11 = .ok (.iload_n 1, 1) := dk_27 (dk_at dksX1_isEven_0 11 rfl rfl)
theorem dX1_isEven_12 : decode cX1_isEven 12 = .ok (.iconst 0, 1) := dk_3 (dk_at dksX1_isEven_0 12 rfl rfl)
theorem dX1_isEven_13 : decode cX1_isEven 13 = .ok (.invokevirtual 262, 3) := dk_182 1 6 (dk_at dksX1_isEven_0 13 rfl rfl)
theorem dX1_isEven_16 : decode cX1_isEven 16 = .ok (.getfield 224, 3) := dk_180 0 224 (dk_at dksX1_isEven_0 16 rfl rfl)
theorem dX1_isEven_19 : decode cX1_isEven 19 = .ok (.i2l, 1) := dk_133 (dk_at dksX1_isEven_0 19 rfl rfl)
theorem dX1_isEven_20 : decode cX1_isEven 20 = .ok (.invokestatic 266, 3) := dk_184 1 10 (dk_at dksX1_isEven_0 20 rfl rfl)
theorem dX1_isEven_23 : decode cX1_isEven 23 = .ok (.lconst 1, 1) := dk_10 (dk_at dksX1_isEven_0 23 rfl rfl)
theorem dX1_isEven_24 : decode cX1_isEven 24 = .ok (.lcmp, 1) := dk_148 (dk_at dksX1_isEven_1 0 rfl rfl)
theorem dX1_isEven_25 : decode cX1_isEven 25 = .ok (.ifCond .ne 7, 3) := dk_154 0 7 (dk_at dksX1_isEven_1 1 rfl rfl)
theorem dX1_isEven_28 : decode cX1_isEven 28 = .ok (.iconst 1, 1) := dk_4 (dk_at dksX1_isEven_1 4 rfl rfl)
theorem dX1_isEven_29 : decode cX1_isEven 29 = .ok (.goto 4, 3) := dk_167 0 4 (dk_at dksX1_isEven_1 5 rfl rfl)
theorem dX1_isEven_32 : decode cX1_isEven 32 = .ok (.iconst 0, 1) := dk_3 (dk_at dksX1_isEven_1 8 rfl rfl)
theorem dX1_isEven_33 : decode cX1_isEven 33 = .ok (.ireturn, 1) := dk_172 (dk_at dksX1_isEven_1 9 rfl rfl)
abbrev cX1_teethGone : ByteArray := prog_1_method_55_code
def yX1_teethGone : MethodName := ⟨RX1, "teethGone", "(I)J"⟩
def dkwX1_teethGone_2 : List UInt8 := [180, 0, 227, 47, 109, 173]
abbrev dktX1_teethGone_2 : List UInt8 := dkwX1_teethGone_2 ++ []
def dkwX1_teethGone_1 : List UInt8 := [180, 0, 243, 44, 180, 0, 227, 47, 184, 0, 1, 105, 44, 180, 0, 224, 133, 105, 45, 180, 0, 247, 44]
abbrev dktX1_teethGone_1 : List UInt8 := dkwX1_teethGone_1 ++ dktX1_teethGone_2
def dkwX1_teethGone_0 : List UInt8 := [42, 27, 182, 0, 220, 77, 42, 44, 180, 0, 227, 182, 0, 235, 78, 42, 180, 0, 56, 180, 0, 253, 133, 45]
abbrev dktX1_teethGone_0 : List UInt8 := dkwX1_teethGone_0 ++ dktX1_teethGone_1
theorem dksX1_teethGone_0 : cX1_teethGone.data.toList.drop 0 = dktX1_teethGone_0 := by decide +kernel
theorem dksX1_teethGone_1 : cX1_teethGone.data.toList.drop 24 = dktX1_teethGone_1 := dk_seg dksX1_teethGone_0 24 rfl rfl
theorem dksX1_teethGone_2 : cX1_teethGone.data.toList.drop 47 = dktX1_teethGone_2 := dk_seg dksX1_teethGone_1 23 rfl rfl
theorem dX1_teethGone_0 : decode cX1_teethGone 0 = .ok (.aload_n 0, 1) := dk_42 (dk_at dksX1_teethGone_0 0 rfl rfl)
theorem dX1_teethGone_1 : decode cX1_teethGone 1 = .ok (.iload_n 1, 1) := dk_27 (dk_at dksX1_teethGone_0 1 rfl rfl)
theorem dX1_teethGone_2 : decode cX1_teethGone 2 = .ok (.invokevirtual 220, 3) := dk_182 0 220 (dk_at dksX1_teethGone_0 2 rfl rfl)
theorem dX1_teethGone_5 : decode cX1_teethGone 5 = .ok (.astore_n 2, 1) := dk_77 (dk_at dksX1_teethGone_0 5 rfl rfl)
theorem dX1_teethGone_6 : decode cX1_teethGone 6 = .ok (.aload_n 0, 1) := dk_42 (dk_at dksX1_teethGone_0 6 rfl rfl)
theorem dX1_teethGone_7 : decode cX1_teethGone 7 = .ok (.aload_n 2, 1) := dk_44 (dk_at dksX1_teethGone_0 7 rfl rfl)
theorem dX1_teethGone_8 : decode cX1_teethGone 8 = .ok (.getfield 227, 3) := dk_180 0 227 (dk_at dksX1_teethGone_0 8 rfl rfl)
theorem dX1_teethGone_11 : decode cX1_teethGone 11 = .ok (.invokevirtual 235, 3) := dk_182 0 235 (dk_at dksX1_teethGone_0 11 rfl rfl)
theorem dX1_teethGone_14 : decode cX1_teethGone 14 = .ok (.astore_n 3, 1) := dk_78 (dk_at dksX1_teethGone_0 14 rfl rfl)
theorem dX1_teethGone_15 : decode cX1_teethGone 15 = .ok (.aload_n 0, 1) := dk_42 (dk_at dksX1_teethGone_0 15 rfl rfl)
theorem dX1_teethGone_16 : decode cX1_teethGone 16 = .ok (.getfield 56, 3) := dk_180 0 56 (dk_at dksX1_teethGone_0 16 rfl rfl)
theorem dX1_teethGone_19 : decode cX1_teethGone 19 = .ok (.getfield 253, 3) := dk_180 0 253 (dk_at dksX1_teethGone_0 19 rfl rfl)
theorem dX1_teethGone_22 : decode cX1_teethGone 22 = .ok (.i2l, 1) := dk_133 (dk_at dksX1_teethGone_0 22 rfl rfl)
theorem dX1_teethGone_23 : decode cX1_teethGone 23 = .ok (.aload_n 3, 1) := dk_45 (dk_at dksX1_teethGone_0 23 rfl rfl)
theorem dX1_teethGone_24 : decode cX1_teethGone 24 = .ok (.getfield 243, 3) := dk_180 0 243 (dk_at dksX1_teethGone_1 0 rfl rfl)
theorem dX1_teethGone_27 : decode cX1_teethGone 27 = .ok (.aload_n 2, 1) := dk_44 (dk_at dksX1_teethGone_1 3 rfl rfl)
theorem dX1_teethGone_28 : decode cX1_teethGone 28 = .ok (.getfield 227, 3) := dk_180 0 227 (dk_at dksX1_teethGone_1 4 rfl rfl)
theorem dX1_teethGone_31 : decode cX1_teethGone 31 = .ok (.laload, 1) := dk_47 (dk_at dksX1_teethGone_1 7 rfl rfl)
theorem dX1_teethGone_32 : decode cX1_teethGone 32 = .ok (.invokestatic 1, 3) := dk_184 0 1 (dk_at dksX1_teethGone_1 8 rfl rfl)
theorem dX1_teethGone_35 : decode cX1_teethGone 35 = .ok (.lmul, 1) := dk_105 (dk_at dksX1_teethGone_1 11 rfl rfl)
theorem dX1_teethGone_36 : decode cX1_teethGone 36 = .ok (.aload_n 2, 1) := dk_44 (dk_at dksX1_teethGone_1 12 rfl rfl)
theorem dX1_teethGone_37 : decode cX1_teethGone 37 = .ok (.getfield 224, 3) := dk_180 0 224 (dk_at dksX1_teethGone_1 13 rfl rfl)
theorem dX1_teethGone_40 : decode cX1_teethGone 40 = .ok (.i2l, 1) := dk_133 (dk_at dksX1_teethGone_1 16 rfl rfl)
theorem dX1_teethGone_41 : decode cX1_teethGone 41 = .ok (.lmul, 1) := dk_105 (dk_at dksX1_teethGone_1 17 rfl rfl)
theorem dX1_teethGone_42 : decode cX1_teethGone 42 = .ok (.aload_n 3, 1) := dk_45 (dk_at dksX1_teethGone_1 18 rfl rfl)
theorem dX1_teethGone_43 : decode cX1_teethGone 43 = .ok (.getfield 247, 3) := dk_180 0 247 (dk_at dksX1_teethGone_1 19 rfl rfl)
theorem dX1_teethGone_46 : decode cX1_teethGone 46 = .ok (.aload_n 2, 1) := dk_44 (dk_at dksX1_teethGone_1 22 rfl rfl)
theorem dX1_teethGone_47 : decode cX1_teethGone 47 = .ok (.getfield 227, 3) := dk_180 0 227 (dk_at dksX1_teethGone_2 0 rfl rfl)
theorem dX1_teethGone_50 : decode cX1_teethGone 50 = .ok (.laload, 1) := dk_47 (dk_at dksX1_teethGone_2 3 rfl rfl)
theorem dX1_teethGone_51 : decode cX1_teethGone 51 = .ok (.ldiv, 1) := dk_109 (dk_at dksX1_teethGone_2 4 rfl rfl)
theorem dX1_teethGone_52 : decode cX1_teethGone 52 = .ok (.lreturn, 1) := dk_173 (dk_at dksX1_teethGone_2 5 rfl rfl)
abbrev cX1_bendOf : ByteArray := prog_1_method_58_code
def yX1_bendOf : MethodName := ⟨RX1, "bendOf", "(I)I"⟩
def dkwX1_bendOf_0 : List UInt8 := [42, 27, 182, 1, 13, 180, 1, 17, 172]
abbrev dktX1_bendOf_0 : List UInt8 := dkwX1_bendOf_0 ++ []
theorem dksX1_bendOf_0 : cX1_bendOf.data.toList.drop 0 = dktX1_bendOf_0 := by decide +kernel
theorem dX1_bendOf_0 : decode cX1_bendOf 0 = .ok (.aload_n 0, 1) := dk_42 (dk_at dksX1_bendOf_0 0 rfl rfl)
theorem dX1_bendOf_1 : decode cX1_bendOf 1 = .ok (.iload_n 1, 1) := dk_27 (dk_at dksX1_bendOf_0 1 rfl rfl)
theorem dX1_bendOf_2 : decode cX1_bendOf 2 = .ok (.invokevirtual 269, 3) := dk_182 1 13 (dk_at dksX1_bendOf_0 2 rfl rfl)
theorem dX1_bendOf_5 : decode cX1_bendOf 5 = .ok (.getfield 273, 3) := dk_180 1 17 (dk_at dksX1_bendOf_0 5 rfl rfl)
theorem dX1_bendOf_8 : decode cX1_bendOf 8 = .ok (.ireturn, 1) := dk_172 (dk_at dksX1_bendOf_0 8 rfl rfl)
abbrev cX1_armAt : ByteArray := prog_1_method_34_code
def yX1_armAt : MethodName := ⟨RX1, "armAt", "(I)LClockworkOrreries$Arm;"⟩
def dkwX1_armAt_1 : List UInt8 := [192, 0, 180, 176]
abbrev dktX1_armAt_1 : List UInt8 := dkwX1_armAt_1 ++ []
def dkwX1_armAt_0 : List UInt8 := [42, 180, 0, 56, 27, 182, 0, 174, 184, 0, 158, 42, 180, 0, 56, 180, 0, 177, 27, 182, 0, 166]
abbrev dktX1_armAt_0 : List UInt8 := dkwX1_armAt_0 ++ dktX1_armAt_1
theorem dksX1_armAt_0 : cX1_armAt.data.toList.drop 0 = dktX1_armAt_0 := by decide +kernel
theorem dksX1_armAt_1 : cX1_armAt.data.toList.drop 22 = dktX1_armAt_1 := dk_seg dksX1_armAt_0 22 rfl rfl
theorem dX1_armAt_0 : decode cX1_armAt 0 = .ok (.aload_n 0, 1) := dk_42 (dk_at dksX1_armAt_0 0 rfl rfl)
theorem dX1_armAt_1 : decode cX1_armAt 1 = .ok (.getfield 56, 3) := dk_180 0 56 (dk_at dksX1_armAt_0 1 rfl rfl)
theorem dX1_armAt_4 : decode cX1_armAt 4 = .ok (.iload_n 1, 1) := dk_27 (dk_at dksX1_armAt_0 4 rfl rfl)
theorem dX1_armAt_5 : decode cX1_armAt 5 = .ok (.invokevirtual 174, 3) := dk_182 0 174 (dk_at dksX1_armAt_0 5 rfl rfl)
theorem dX1_armAt_8 : decode cX1_armAt 8 = .ok (.invokestatic 158, 3) := dk_184 0 158 (dk_at dksX1_armAt_0 8 rfl rfl)
theorem dX1_armAt_11 : decode cX1_armAt 11 = .ok (.aload_n 0, 1) := dk_42 (dk_at dksX1_armAt_0 11 rfl rfl)
theorem dX1_armAt_12 : decode cX1_armAt 12 = .ok (.getfield 56, 3) := dk_180 0 56 (dk_at dksX1_armAt_0 12 rfl rfl)
theorem dX1_armAt_15 : decode cX1_armAt 15 = .ok (.getfield 177, 3) := dk_180 0 177 (dk_at dksX1_armAt_0 15 rfl rfl)
theorem dX1_armAt_18 : decode cX1_armAt 18 = .ok (.iload_n 1, 1) := dk_27 (dk_at dksX1_armAt_0 18 rfl rfl)
theorem dX1_armAt_19 : decode cX1_armAt 19 = .ok (.invokevirtual 166, 3) := dk_182 0 166 (dk_at dksX1_armAt_0 19 rfl rfl)
theorem dX1_armAt_22 : decode cX1_armAt 22 = .ok (.checkcast 180, 3) := dk_192 0 180 (dk_at dksX1_armAt_1 0 rfl rfl)
theorem dX1_armAt_25 : decode cX1_armAt 25 = .ok (.areturn, 1) := dk_176 (dk_at dksX1_armAt_1 3 rfl rfl)
abbrev cX1_angleOf : ByteArray := prog_1_method_59_code
def yX1_angleOf : MethodName := ⟨RX1, "angleOf", "(I)I"⟩
def dkwX1_angleOf_1 : List UInt8 := [182, 1, 20, 172]
abbrev dktX1_angleOf_1 : List UInt8 := dkwX1_angleOf_1 ++ []
def dkwX1_angleOf_0 : List UInt8 := [42, 180, 0, 56, 27, 42, 42, 27, 182, 1, 13, 180, 0, 197, 182, 0, 235, 42, 180, 0, 56, 180, 0, 253]
abbrev dktX1_angleOf_0 : List UInt8 := dkwX1_angleOf_0 ++ dktX1_angleOf_1
theorem dksX1_angleOf_0 : cX1_angleOf.data.toList.drop 0 = dktX1_angleOf_0 := by decide +kernel
theorem dksX1_angleOf_1 : cX1_angleOf.data.toList.drop 24 = dktX1_angleOf_1 := dk_seg dksX1_angleOf_0 24 rfl rfl
theorem dX1_angleOf_0 : decode cX1_angleOf 0 = .ok (.aload_n 0, 1) := dk_42 (dk_at dksX1_angleOf_0 0 rfl rfl)
theorem dX1_angleOf_1 : decode cX1_angleOf 1 = .ok (.getfield 56, 3) := dk_180 0 56 (dk_at dksX1_angleOf_0 1 rfl rfl)
theorem dX1_angleOf_4 : decode cX1_angleOf 4 = .ok (.iload_n 1, 1) := dk_27 (dk_at dksX1_angleOf_0 4 rfl rfl)
theorem dX1_angleOf_5 : decode cX1_angleOf 5 = .ok (.aload_n 0, 1) := dk_42 (dk_at dksX1_angleOf_0 5 rfl rfl)
theorem dX1_angleOf_6 : decode cX1_angleOf 6 = .ok (.aload_n 0, 1) := dk_42 (dk_at dksX1_angleOf_0 6 rfl rfl)
theorem dX1_angleOf_7 : decode cX1_angleOf 7 = .ok (.iload_n 1, 1) := dk_27 (dk_at dksX1_angleOf_0 7 rfl rfl)
theorem dX1_angleOf_8 : decode cX1_angleOf 8 = .ok (.invokevirtual 269, 3) := dk_182 1 13 (dk_at dksX1_angleOf_0 8 rfl rfl)
theorem dX1_angleOf_11 : decode cX1_angleOf 11 = .ok (.getfield 197, 3) := dk_180 0 197 (dk_at dksX1_angleOf_0 11 rfl rfl)
theorem dX1_angleOf_14 : decode cX1_angleOf 14 = .ok (.invokevirtual 235, 3) := dk_182 0 235 (dk_at dksX1_angleOf_0 14 rfl rfl)
theorem dX1_angleOf_17 : decode cX1_angleOf 17 = .ok (.aload_n 0, 1) := dk_42 (dk_at dksX1_angleOf_0 17 rfl rfl)
theorem dX1_angleOf_18 : decode cX1_angleOf 18 = .ok (.getfield 56, 3) := dk_180 0 56 (dk_at dksX1_angleOf_0 18 rfl rfl)
theorem dX1_angleOf_21 : decode cX1_angleOf 21 = .ok (.getfield 253, 3) := dk_180 0 253 (dk_at dksX1_angleOf_0 21 rfl rfl)
theorem dX1_angleOf_24 : decode cX1_angleOf 24 = .ok (.invokevirtual 276, 3) := dk_182 1 20 (dk_at dksX1_angleOf_1 0 rfl rfl)
theorem dX1_angleOf_27 : decode cX1_angleOf 27 = .ok (.ireturn, 1) := dk_172 (dk_at dksX1_angleOf_1 3 rfl rfl)
abbrev cX1_angle : ByteArray := prog_1_method_5_code
def yX1_angle : MethodName := ⟨RX1, "angle", "(JJJ)I"⟩
def dkwX1_angle_0 : List UInt8 := [30, 32, 105, 22, 4, 113, 55, 6, 22, 6, 20, 0, 9, 105, 22, 4, 184, 0, 11, 184, 0, 15, 172]
abbrev dktX1_angle_0 : List UInt8 := dkwX1_angle_0 ++ []
theorem dksX1_angle_0 : cX1_angle.data.toList.drop 0 = dktX1_angle_0 := by decide +kernel
theorem dX1_angle_0 : decode cX1_angle 0 = .ok (.lload_n 0, 1) := dk_30 (dk_at dksX1_angle_0 0 rfl rfl)
theorem dX1_angle_1 : decode cX1_angle 1 = .ok (.lload_n 2, 1) := dk_32 (dk_at dksX1_angle_0 1 rfl rfl)
theorem dX1_angle_2 : decode cX1_angle 2 = .ok (.lmul, 1) := dk_105 (dk_at dksX1_angle_0 2 rfl rfl)
theorem dX1_angle_3 : decode cX1_angle 3 = .ok (.lload 4, 2) := dk_22 4 (dk_at dksX1_angle_0 3 rfl rfl)
theorem dX1_angle_5 : decode cX1_angle 5 = .ok (.lrem, 1) := dk_113 (dk_at dksX1_angle_0 5 rfl rfl)
theorem dX1_angle_6 : decode cX1_angle 6 = .ok (.lstore 6, 2) := dk_55 6 (dk_at dksX1_angle_0 6 rfl rfl)
theorem dX1_angle_8 : decode cX1_angle 8 = .ok (.lload 6, 2) := dk_22 6 (dk_at dksX1_angle_0 8 rfl rfl)
theorem dX1_angle_10 : decode cX1_angle 10 = .ok (.ldc2_w 9, 3) := dk_20 0 9 (dk_at dksX1_angle_0 10 rfl rfl)
theorem dX1_angle_13 : decode cX1_angle 13 = .ok (.lmul, 1) := dk_105 (dk_at dksX1_angle_0 13 rfl rfl)
theorem dX1_angle_14 : decode cX1_angle 14 = .ok (.lload 4, 2) := dk_22 4 (dk_at dksX1_angle_0 14 rfl rfl)
theorem dX1_angle_16 : decode cX1_angle 16 = .ok (.invokestatic 11, 3) := dk_184 0 11 (dk_at dksX1_angle_0 16 rfl rfl)
theorem dX1_angle_19 : decode cX1_angle 19 = .ok (.invokestatic 15, 3) := dk_184 0 15 (dk_at dksX1_angle_0 19 rfl rfl)
theorem dX1_angle_22 : decode cX1_angle 22 = .ok (.ireturn, 1) := dk_172 (dk_at dksX1_angle_0 22 rfl rfl)
abbrev cX1_floor : ByteArray := prog_1_method_3_code
def yX1_floor : MethodName := ⟨RX1, "floor", "(JJ)J"⟩
def dkwX1_floor_0 : List UInt8 := [30, 32, 109, 55, 4, 30, 32, 113, 9, 148, 156, 0, 10, 22, 4, 10, 101, 167, 0, 5, 22, 4, 173]
abbrev dktX1_floor_0 : List UInt8 := dkwX1_floor_0 ++ []
theorem dksX1_floor_0 : cX1_floor.data.toList.drop 0 = dktX1_floor_0 := by decide +kernel
theorem dX1_floor_0 : decode cX1_floor 0 = .ok (.lload_n 0, 1) := dk_30 (dk_at dksX1_floor_0 0 rfl rfl)
theorem dX1_floor_1 : decode cX1_floor 1 = .ok (.lload_n 2, 1) := dk_32 (dk_at dksX1_floor_0 1 rfl rfl)
theorem dX1_floor_2 : decode cX1_floor 2 = .ok (.ldiv, 1) := dk_109 (dk_at dksX1_floor_0 2 rfl rfl)
theorem dX1_floor_3 : decode cX1_floor 3 = .ok (.lstore 4, 2) := dk_55 4 (dk_at dksX1_floor_0 3 rfl rfl)
theorem dX1_floor_5 : decode cX1_floor 5 = .ok (.lload_n 0, 1) := dk_30 (dk_at dksX1_floor_0 5 rfl rfl)
theorem dX1_floor_6 : decode cX1_floor 6 = .ok (.lload_n 2, 1) := dk_32 (dk_at dksX1_floor_0 6 rfl rfl)
theorem dX1_floor_7 : decode cX1_floor 7 = .ok (.lrem, 1) := dk_113 (dk_at dksX1_floor_0 7 rfl rfl)
theorem dX1_floor_8 : decode cX1_floor 8 = .ok (.lconst 0, 1) := dk_9 (dk_at dksX1_floor_0 8 rfl rfl)
theorem dX1_floor_9 : decode cX1_floor 9 = .ok (.lcmp, 1) := dk_148 (dk_at dksX1_floor_0 9 rfl rfl)
theorem dX1_floor_10 : decode cX1_floor 10 = .ok (.ifCond .ge 10, 3) := dk_156 0 10 (dk_at dksX1_floor_0 10 rfl rfl)
theorem dX1_floor_13 : decode cX1_floor 13 = .ok (.lload 4, 2) := dk_22 4 (dk_at dksX1_floor_0 13 rfl rfl)
theorem dX1_floor_15 : decode cX1_floor 15 = .ok (.lconst 1, 1) := dk_10 (dk_at dksX1_floor_0 15 rfl rfl)
theorem dX1_floor_16 : decode cX1_floor 16 = .ok (.lsub, 1) := dk_101 (dk_at dksX1_floor_0 16 rfl rfl)
theorem dX1_floor_17 : decode cX1_floor 17 = .ok (.goto 5, 3) := dk_167 0 5 (dk_at dksX1_floor_0 17 rfl rfl)
theorem dX1_floor_20 : decode cX1_floor 20 = .ok (.lload 4, 2) := dk_22 4 (dk_at dksX1_floor_0 20 rfl rfl)
theorem dX1_floor_22 : decode cX1_floor 22 = .ok (.lreturn, 1) := dk_173 (dk_at dksX1_floor_0 22 rfl rfl)
abbrev cX1_around : ByteArray := prog_1_method_4_code
def yX1_around : MethodName := ⟨RX1, "around", "(J)I"⟩
def dkwX1_around_0 : List UInt8 := [30, 20, 0, 9, 113, 65, 32, 9, 148, 156, 0, 11, 32, 20, 0, 9, 97, 167, 0, 4, 32, 136, 172]
abbrev dktX1_around_0 : List UInt8 := dkwX1_around_0 ++ []
theorem dksX1_around_0 : cX1_around.data.toList.drop 0 = dktX1_around_0 := by decide +kernel
theorem dX1_around_0 : decode cX1_around 0 = .ok (.lload_n 0, 1) := dk_30 (dk_at dksX1_around_0 0 rfl rfl)
theorem dX1_around_1 : decode cX1_around 1 = .ok (.ldc2_w 9, 3) := dk_20 0 9 (dk_at dksX1_around_0 1 rfl rfl)
theorem dX1_around_4 : decode cX1_around 4 = .ok (.lrem, 1) := dk_113 (dk_at dksX1_around_0 4 rfl rfl)
theorem dX1_around_5 : decode cX1_around 5 = .ok (.lstore_n 2, 1) := dk_65 (dk_at dksX1_around_0 5 rfl rfl)
theorem dX1_around_6 : decode cX1_around 6 = .ok (.lload_n 2, 1) := dk_32 (dk_at dksX1_around_0 6 rfl rfl)
theorem dX1_around_7 : decode cX1_around 7 = .ok (.lconst 0, 1) := dk_9 (dk_at dksX1_around_0 7 rfl rfl)
theorem dX1_around_8 : decode cX1_around 8 = .ok (.lcmp, 1) := dk_148 (dk_at dksX1_around_0 8 rfl rfl)
theorem dX1_around_9 : decode cX1_around 9 = .ok (.ifCond .ge 11, 3) := dk_156 0 11 (dk_at dksX1_around_0 9 rfl rfl)
theorem dX1_around_12 : decode cX1_around 12 = .ok (.lload_n 2, 1) := dk_32 (dk_at dksX1_around_0 12 rfl rfl)
theorem dX1_around_13 : decode cX1_around 13 = .ok (.ldc2_w 9, 3) := dk_20 0 9 (dk_at dksX1_around_0 13 rfl rfl)
theorem dX1_around_16 : decode cX1_around 16 = .ok (.ladd, 1) := dk_97 (dk_at dksX1_around_0 16 rfl rfl)
theorem dX1_around_17 : decode cX1_around 17 = .ok (.goto 4, 3) := dk_167 0 4 (dk_at dksX1_around_0 17 rfl rfl)
theorem dX1_around_20 : decode cX1_around 20 = .ok (.lload_n 2, 1) := dk_32 (dk_at dksX1_around_0 20 rfl rfl)
theorem dX1_around_21 : decode cX1_around 21 = .ok (.l2i, 1) := dk_136 (dk_at dksX1_around_0 21 rfl rfl)
theorem dX1_around_22 : decode cX1_around 22 = .ok (.ireturn, 1) := dk_172 (dk_at dksX1_around_0 22 rfl rfl)
abbrev cX1_angleByTeeth : ByteArray := prog_1_method_60_code
def yX1_angleByTeeth : MethodName := ⟨RX1, "angleByTeeth", "(I)I"⟩
def dkwX1_angleByTeeth_0 : List UInt8 := [42, 180, 0, 56, 27, 42, 42, 27, 182, 1, 13, 180, 0, 197, 182, 0, 235, 182, 1, 24, 172]
abbrev dktX1_angleByTeeth_0 : List UInt8 := dkwX1_angleByTeeth_0 ++ []
theorem dksX1_angleByTeeth_0 : cX1_angleByTeeth.data.toList.drop 0 = dktX1_angleByTeeth_0 := by decide +kernel
theorem dX1_angleByTeeth_0 : decode cX1_angleByTeeth 0 = .ok (.aload_n 0, 1) := dk_42 (dk_at dksX1_angleByTeeth_0 0 rfl rfl)
theorem dX1_angleByTeeth_1 : decode cX1_angleByTeeth 1 = .ok (.getfield 56, 3) := dk_180 0 56 (dk_at dksX1_angleByTeeth_0 1 rfl rfl)
theorem dX1_angleByTeeth_4 : decode cX1_angleByTeeth 4 = .ok (.iload_n 1, 1) := dk_27 (dk_at dksX1_angleByTeeth_0 4 rfl rfl)
theorem dX1_angleByTeeth_5 : decode cX1_angleByTeeth 5 = .ok (.aload_n 0, 1) := dk_42 (dk_at dksX1_angleByTeeth_0 5 rfl rfl)
theorem dX1_angleByTeeth_6 : decode cX1_angleByTeeth 6 = .ok (.aload_n 0, 1) := dk_42 (dk_at dksX1_angleByTeeth_0 6 rfl rfl)
theorem dX1_angleByTeeth_7 : decode cX1_angleByTeeth 7 = .ok (.iload_n 1, 1) := dk_27 (dk_at dksX1_angleByTeeth_0 7 rfl rfl)
theorem dX1_angleByTeeth_8 : decode cX1_angleByTeeth 8 = .ok (.invokevirtual 269, 3) := dk_182 1 13 (dk_at dksX1_angleByTeeth_0 8 rfl rfl)
theorem dX1_angleByTeeth_11 : decode cX1_angleByTeeth 11 = .ok (.getfield 197, 3) := dk_180 0 197 (dk_at dksX1_angleByTeeth_0 11 rfl rfl)
theorem dX1_angleByTeeth_14 : decode cX1_angleByTeeth 14 = .ok (.invokevirtual 235, 3) := dk_182 0 235 (dk_at dksX1_angleByTeeth_0 14 rfl rfl)
theorem dX1_angleByTeeth_17 : decode cX1_angleByTeeth 17 = .ok (.invokevirtual 280, 3) := dk_182 1 24 (dk_at dksX1_angleByTeeth_0 17 rfl rfl)
theorem dX1_angleByTeeth_20 : decode cX1_angleByTeeth 20 = .ok (.ireturn, 1) := dk_172 (dk_at dksX1_angleByTeeth_0 20 rfl rfl)
abbrev cX1_moonAngle : ByteArray := prog_1_method_61_code
def yX1_moonAngle : MethodName := ⟨RX1, "moonAngle", "(I)I"⟩
def dkwX1_moonAngle_0 : List UInt8 := [42, 180, 0, 56, 27, 42, 27, 182, 1, 28, 182, 1, 31, 172]
abbrev dktX1_moonAngle_0 : List UInt8 := dkwX1_moonAngle_0 ++ []
theorem dksX1_moonAngle_0 : cX1_moonAngle.data.toList.drop 0 = dktX1_moonAngle_0 := by decide +kernel
theorem dX1_moonAngle_0 : decode cX1_moonAngle 0 = .ok (.aload_n 0, 1) := dk_42 (dk_at dksX1_moonAngle_0 0 rfl rfl)
theorem dX1_moonAngle_1 : decode cX1_moonAngle 1 = .ok (.getfield 56, 3) := dk_180 0 56 (dk_at dksX1_moonAngle_0 1 rfl rfl)
theorem dX1_moonAngle_4 : decode cX1_moonAngle 4 = .ok (.iload_n 1, 1) := dk_27 (dk_at dksX1_moonAngle_0 4 rfl rfl)
theorem dX1_moonAngle_5 : decode cX1_moonAngle 5 = .ok (.aload_n 0, 1) := dk_42 (dk_at dksX1_moonAngle_0 5 rfl rfl)
theorem dX1_moonAngle_6 : decode cX1_moonAngle 6 = .ok (.iload_n 1, 1) := dk_27 (dk_at dksX1_moonAngle_0 6 rfl rfl)
theorem dX1_moonAngle_7 : decode cX1_moonAngle 7 = .ok (.invokevirtual 284, 3) := dk_182 1 28 (dk_at dksX1_moonAngle_0 7 rfl rfl)
theorem dX1_moonAngle_10 : decode cX1_moonAngle 10 = .ok (.invokevirtual 287, 3) := dk_182 1 31 (dk_at dksX1_moonAngle_0 10 rfl rfl)
theorem dX1_moonAngle_13 : decode cX1_moonAngle 13 = .ok (.ireturn, 1) := dk_172 (dk_at dksX1_moonAngle_0 13 rfl rfl)
abbrev cX1_drivingMoon : ByteArray := prog_1_method_37_code
def yX1_drivingMoon : MethodName := ⟨RX1, "drivingMoon", "(I)LClockworkOrreries$Drive;"⟩
def dkwX1_drivingMoon_3 : List UInt8 := [192, 0, 180, 180, 0, 197, 182, 0, 189, 153, 0, 7, 4, 167, 0, 4, 3, 184, 0, 194, 45, 176]
abbrev dktX1_drivingMoon_3 : List UInt8 := dkwX1_drivingMoon_3 ++ []
def dkwX1_drivingMoon_2 : List UInt8 := [180, 0, 210, 182, 0, 189, 153, 0, 34, 45, 42, 180, 0, 56, 180, 0, 177, 44, 180, 0, 211, 182, 0, 166]
abbrev dktX1_drivingMoon_2 : List UInt8 := dkwX1_drivingMoon_2 ++ dktX1_drivingMoon_3
def dkwX1_drivingMoon_1 : List UInt8 := [180, 0, 56, 180, 0, 200, 27, 182, 0, 166, 192, 0, 208, 77, 42, 180, 0, 56, 182, 0, 185, 78, 45, 44]
abbrev dktX1_drivingMoon_1 : List UInt8 := dkwX1_drivingMoon_1 ++ dktX1_drivingMoon_2
def dkwX1_drivingMoon_0 : List UInt8 := [27, 133, 9, 42, 180, 0, 56, 180, 0, 200, 182, 0, 203, 4, 100, 133, 184, 0, 204, 184, 0, 158, 42]
abbrev dktX1_drivingMoon_0 : List UInt8 := dkwX1_drivingMoon_0 ++ dktX1_drivingMoon_1
theorem dksX1_drivingMoon_0 : cX1_drivingMoon.data.toList.drop 0 = dktX1_drivingMoon_0 := by decide +kernel
theorem dksX1_drivingMoon_1 : cX1_drivingMoon.data.toList.drop 23 = dktX1_drivingMoon_1 := dk_seg dksX1_drivingMoon_0 23 rfl rfl
theorem dksX1_drivingMoon_2 : cX1_drivingMoon.data.toList.drop 47 = dktX1_drivingMoon_2 := dk_seg dksX1_drivingMoon_1 24 rfl rfl
theorem dksX1_drivingMoon_3 : cX1_drivingMoon.data.toList.drop 71 = dktX1_drivingMoon_3 := dk_seg dksX1_drivingMoon_2 24 rfl rfl
theorem dX1_drivingMoon_0 : decode cX1_drivingMoon 0 = .ok (.iload_n 1, 1) := dk_27 (dk_at dksX1_drivingMoon_0 0 rfl rfl)
theorem dX1_drivingMoon_1 : decode cX1_drivingMoon 1 = .ok (.i2l, 1) := dk_133 (dk_at dksX1_drivingMoon_0 1 rfl rfl)
theorem dX1_drivingMoon_2 : decode cX1_drivingMoon 2 = .ok (.lconst 0, 1) := dk_9 (dk_at dksX1_drivingMoon_0 2 rfl rfl)
theorem dX1_drivingMoon_3 : decode cX1_drivingMoon 3 = .ok (.aload_n 0, 1) := dk_42 (dk_at dksX1_drivingMoon_0 3 rfl rfl)
theorem dX1_drivingMoon_4 : decode cX1_drivingMoon 4 = .ok (.getfield 56, 3) := dk_180 0 56 (dk_at dksX1_drivingMoon_0 4 rfl rfl)
theorem dX1_drivingMoon_7 : decode cX1_drivingMoon 7 = .ok (.getfield 200, 3) := dk_180 0 200 (dk_at dksX1_drivingMoon_0 7 rfl rfl)
theorem dX1_drivingMoon_10 : decode cX1_drivingMoon 10 = .ok (.invokevirtual 203, 3) := dk_182 0 203 (dk_at dksX1_drivingMoon_0 10 rfl rfl)
theorem dX1_drivingMoon_13 : decode cX1_drivingMoon 13 = .ok (.iconst 1, 1) := dk_4 (dk_at dksX1_drivingMoon_0 13 rfl rfl)
theorem dX1_drivingMoon_14 : decode cX1_drivingMoon 14 = .ok (.isub, 1) := dk_100 (dk_at dksX1_drivingMoon_0 14 rfl rfl)
theorem dX1_drivingMoon_15 : decode cX1_drivingMoon 15 = .ok (.i2l, 1) := dk_133 (dk_at dksX1_drivingMoon_0 15 rfl rfl)
theorem dX1_drivingMoon_16 : decode cX1_drivingMoon 16 = .ok (.invokestatic 204, 3) := dk_184 0 204 (dk_at dksX1_drivingMoon_0 16 rfl rfl)
theorem dX1_drivingMoon_19 : decode cX1_drivingMoon 19 = .ok (.invokestatic 158, 3) := dk_184 0 158 (dk_at dksX1_drivingMoon_0 19 rfl rfl)
theorem dX1_drivingMoon_22 : decode cX1_drivingMoon 22 = .ok (.aload_n 0, 1) := dk_42 (dk_at dksX1_drivingMoon_0 22 rfl rfl)
theorem dX1_drivingMoon_23 : decode cX1_drivingMoon 23 = .ok (.getfield 56, 3) := dk_180 0 56 (dk_at dksX1_drivingMoon_1 0 rfl rfl)
theorem dX1_drivingMoon_26 : decode cX1_drivingMoon 26 = .ok (.getfield 200, 3) := dk_180 0 200 (dk_at dksX1_drivingMoon_1 3 rfl rfl)
theorem dX1_drivingMoon_29 : decode cX1_drivingMoon 29 = .ok (.iload_n 1, 1) := dk_27 (dk_at dksX1_drivingMoon_1 6 rfl rfl)
theorem dX1_drivingMoon_30 : decode cX1_drivingMoon 30 = .ok (.invokevirtual 166, 3) := dk_182 0 166 (dk_at dksX1_drivingMoon_1 7 rfl rfl)
theorem dX1_drivingMoon_33 : decode cX1_drivingMoon 33 = .ok (.checkcast 208, 3) := dk_192 0 208 (dk_at dksX1_drivingMoon_1 10 rfl rfl)
theorem dX1_drivingMoon_36 : decode cX1_drivingMoon 36 = .ok (.astore_n 2, 1) := dk_77 (dk_at dksX1_drivingMoon_1 13 rfl rfl)
theorem dX1_drivingMoon_37 : decode cX1_drivingMoon 37 = .ok (.aload_n 0, 1) := dk_42 (dk_at dksX1_drivingMoon_1 14 rfl rfl)
theorem dX1_drivingMoon_38 : decode cX1_drivingMoon 38 = .ok (.getfield 56, 3) := dk_180 0 56 (dk_at dksX1_drivingMoon_1 15 rfl rfl)
theorem dX1_drivingMoon_41 : decode cX1_drivingMoon 41 = .ok (.invokevirtual 185, 3) := dk_182 0 185 (dk_at dksX1_drivingMoon_1 18 rfl rfl)
theorem dX1_drivingMoon_44 : decode cX1_drivingMoon 44 = .ok (.astore_n 3, 1) := dk_78 (dk_at dksX1_drivingMoon_1 21 rfl rfl)
theorem dX1_drivingMoon_45 : decode cX1_drivingMoon 45 = .ok (.aload_n 3, 1) := dk_45 (dk_at dksX1_drivingMoon_1 22 rfl rfl)
theorem dX1_drivingMoon_46 : decode cX1_drivingMoon 46 = .ok (.aload_n 2, 1) := dk_44 (dk_at dksX1_drivingMoon_1 23 rfl rfl)
theorem dX1_drivingMoon_47 : decode cX1_drivingMoon 47 = .ok (.getfield 210, 3) := dk_180 0 210 (dk_at dksX1_drivingMoon_2 0 rfl rfl)
theorem dX1_drivingMoon_50 : decode cX1_drivingMoon 50 = .ok (.invokevirtual 189, 3) := dk_182 0 189 (dk_at dksX1_drivingMoon_2 3 rfl rfl)
theorem dX1_drivingMoon_53 : decode cX1_drivingMoon 53 = .ok (.ifCond .eq 34, 3) := dk_153 0 34 (dk_at dksX1_drivingMoon_2 6 rfl rfl)
theorem dX1_drivingMoon_56 : decode cX1_drivingMoon 56 = .ok (.aload_n 3, 1) := dk_45 (dk_at dksX1_drivingMoon_2 9 rfl rfl)
theorem dX1_drivingMoon_57 : decode cX1_drivingMoon 57 = .ok (.aload_n 0, 1) := dk_42 (dk_at dksX1_drivingMoon_2 10 rfl rfl)
theorem dX1_drivingMoon_58 : decode cX1_drivingMoon 58 = .ok (.getfield 56, 3) := dk_180 0 56 (dk_at dksX1_drivingMoon_2 11 rfl rfl)
theorem dX1_drivingMoon_61 : decode cX1_drivingMoon 61 = .ok (.getfield 177, 3) := dk_180 0 177 (dk_at dksX1_drivingMoon_2 14 rfl rfl)
theorem dX1_drivingMoon_64 : decode cX1_drivingMoon 64 = .ok (.aload_n 2, 1) := dk_44 (dk_at dksX1_drivingMoon_2 17 rfl rfl)
theorem dX1_drivingMoon_65 : decode cX1_drivingMoon 65 = .ok (.getfield 211, 3) := dk_180 0 211 (dk_at dksX1_drivingMoon_2 18 rfl rfl)
theorem dX1_drivingMoon_68 : decode cX1_drivingMoon 68 = .ok (.invokevirtual 166, 3) := dk_182 0 166 (dk_at dksX1_drivingMoon_2 21 rfl rfl)
theorem dX1_drivingMoon_71 : decode cX1_drivingMoon 71 = .ok (.checkcast 180, 3) := dk_192 0 180 (dk_at dksX1_drivingMoon_3 0 rfl rfl)
theorem dX1_drivingMoon_74 : decode cX1_drivingMoon 74 = .ok (.getfield 197, 3) := dk_180 0 197 (dk_at dksX1_drivingMoon_3 3 rfl rfl)
theorem dX1_drivingMoon_77 : decode cX1_drivingMoon 77 = .ok (.invokevirtual 189, 3) := dk_182 0 189 (dk_at dksX1_drivingMoon_3 6 rfl rfl)
theorem dX1_drivingMoon_80 : decode cX1_drivingMoon 80 = .ok (.ifCond .eq 7, 3) := dk_153 0 7 (dk_at dksX1_drivingMoon_3 9 rfl rfl)
theorem dX1_drivingMoon_83 : decode cX1_drivingMoon 83 = .ok (.iconst 1, 1) := dk_4 (dk_at dksX1_drivingMoon_3 12 rfl rfl)
theorem dX1_drivingMoon_84 : decode cX1_drivingMoon 84 = .ok (.goto 4, 3) := dk_167 0 4 (dk_at dksX1_drivingMoon_3 13 rfl rfl)
theorem dX1_drivingMoon_87 : decode cX1_drivingMoon 87 = .ok (.iconst 0, 1) := dk_3 (dk_at dksX1_drivingMoon_3 16 rfl rfl)
theorem dX1_drivingMoon_88 : decode cX1_drivingMoon 88 = .ok (.invokestatic 194, 3) := dk_184 0 194 (dk_at dksX1_drivingMoon_3 17 rfl rfl)
theorem dX1_drivingMoon_91 : decode cX1_drivingMoon 91 = .ok (.aload_n 3, 1) := dk_45 (dk_at dksX1_drivingMoon_3 20 rfl rfl)
theorem dX1_drivingMoon_92 : decode cX1_drivingMoon 92 = .ok (.areturn, 1) := dk_176 (dk_at dksX1_drivingMoon_3 21 rfl rfl)
abbrev cX1_isSlow : ByteArray := prog_1_method_62_code
def yX1_isSlow : MethodName := ⟨RX1, "isSlow", "(I)Z"⟩
def dkwX1_isSlow_0 : List UInt8 := [42, 180, 0, 56, 27, 42, 27, 182, 1, 28, 182, 1, 34, 172]
abbrev dktX1_isSlow_0 : List UInt8 := dkwX1_isSlow_0 ++ []
theorem dksX1_isSlow_0 : cX1_isSlow.data.toList.drop 0 = dktX1_isSlow_0 := by decide +kernel
theorem dX1_isSlow_0 : decode cX1_isSlow 0 = .ok (.aload_n 0, 1) := dk_42 (dk_at dksX1_isSlow_0 0 rfl rfl)
theorem dX1_isSlow_1 : decode cX1_isSlow 1 = .ok (.getfield 56, 3) := dk_180 0 56 (dk_at dksX1_isSlow_0 1 rfl rfl)
theorem dX1_isSlow_4 : decode cX1_isSlow 4 = .ok (.iload_n 1, 1) := dk_27 (dk_at dksX1_isSlow_0 4 rfl rfl)
theorem dX1_isSlow_5 : decode cX1_isSlow 5 = .ok (.aload_n 0, 1) := dk_42 (dk_at dksX1_isSlow_0 5 rfl rfl)
theorem dX1_isSlow_6 : decode cX1_isSlow 6 = .ok (.iload_n 1, 1) := dk_27 (dk_at dksX1_isSlow_0 6 rfl rfl)
theorem dX1_isSlow_7 : decode cX1_isSlow 7 = .ok (.invokevirtual 284, 3) := dk_182 1 28 (dk_at dksX1_isSlow_0 7 rfl rfl)
theorem dX1_isSlow_10 : decode cX1_isSlow 10 = .ok (.invokevirtual 290, 3) := dk_182 1 34 (dk_at dksX1_isSlow_0 10 rfl rfl)
theorem dX1_isSlow_13 : decode cX1_isSlow 13 = .ok (.ireturn, 1) := dk_172 (dk_at dksX1_isSlow_0 13 rfl rfl)
abbrev cX1_meetIn : ByteArray := prog_1_method_63_code
def yX1_meetIn : MethodName := ⟨RX1, "meetIn", "(III)I"⟩
def dkwX1_meetIn_3 : List UInt8 := [21, 5, 2, 159, 0, 7, 4, 167, 0, 4, 3, 184, 0, 194, 21, 5, 172]
abbrev dktX1_meetIn_3 : List UInt8 := dkwX1_meetIn_3 ++ []
def dkwX1_meetIn_2 : List UInt8 := [25, 4, 21, 6, 182, 1, 44, 153, 0, 8, 21, 6, 167, 0, 4, 2, 54, 5, 132, 6, 1, 167, 255, 214]
abbrev dktX1_meetIn_2 : List UInt8 := dkwX1_meetIn_2 ++ dktX1_meetIn_3
def dkwX1_meetIn_1 : List UInt8 := [54, 6, 21, 6, 17, 3, 232, 163, 0, 40, 21, 5, 2, 160, 0, 34, 42, 180, 0, 56, 27, 28, 29]
abbrev dktX1_meetIn_1 : List UInt8 := dkwX1_meetIn_1 ++ dktX1_meetIn_2
def dkwX1_meetIn_0 : List UInt8 := [29, 133, 9, 20, 1, 38, 184, 0, 204, 184, 0, 158, 42, 27, 28, 182, 1, 40, 58, 4, 2, 54, 5, 4]
abbrev dktX1_meetIn_0 : List UInt8 := dkwX1_meetIn_0 ++ dktX1_meetIn_1
theorem dksX1_meetIn_0 : cX1_meetIn.data.toList.drop 0 = dktX1_meetIn_0 := by decide +kernel
theorem dksX1_meetIn_1 : cX1_meetIn.data.toList.drop 24 = dktX1_meetIn_1 := dk_seg dksX1_meetIn_0 24 rfl rfl
theorem dksX1_meetIn_2 : cX1_meetIn.data.toList.drop 47 = dktX1_meetIn_2 := dk_seg dksX1_meetIn_1 23 rfl rfl
theorem dksX1_meetIn_3 : cX1_meetIn.data.toList.drop 71 = dktX1_meetIn_3 := dk_seg dksX1_meetIn_2 24 rfl rfl
theorem dX1_meetIn_0 : decode cX1_meetIn 0 = .ok (.iload_n 3, 1) := dk_29 (dk_at dksX1_meetIn_0 0 rfl rfl)
theorem dX1_meetIn_1 : decode cX1_meetIn 1 = .ok (.i2l, 1) := dk_133 (dk_at dksX1_meetIn_0 1 rfl rfl)
theorem dX1_meetIn_2 : decode cX1_meetIn 2 = .ok (.lconst 0, 1) := dk_9 (dk_at dksX1_meetIn_0 2 rfl rfl)
theorem dX1_meetIn_3 : decode cX1_meetIn 3 = .ok (.ldc2_w 294, 3) := dk_20 1 38 (dk_at dksX1_meetIn_0 3 rfl rfl)
theorem dX1_meetIn_6 : decode cX1_meetIn 6 = .ok (.invokestatic 204, 3) := dk_184 0 204 (dk_at dksX1_meetIn_0 6 rfl rfl)
theorem dX1_meetIn_9 : decode cX1_meetIn 9 = .ok (.invokestatic 158, 3) := dk_184 0 158 (dk_at dksX1_meetIn_0 9 rfl rfl)
theorem dX1_meetIn_12 : decode cX1_meetIn 12 = .ok (.aload_n 0, 1) := dk_42 (dk_at dksX1_meetIn_0 12 rfl rfl)
theorem dX1_meetIn_13 : decode cX1_meetIn 13 = .ok (.iload_n 1, 1) := dk_27 (dk_at dksX1_meetIn_0 13 rfl rfl)
theorem dX1_meetIn_14 : decode cX1_meetIn 14 = .ok (.iload_n 2, 1) := dk_28 (dk_at dksX1_meetIn_0 14 rfl rfl)
theorem dX1_meetIn_15 : decode cX1_meetIn 15 = .ok (.invokevirtual 296, 3) := dk_182 1 40 (dk_at dksX1_meetIn_0 15 rfl rfl)
theorem dX1_meetIn_18 : decode cX1_meetIn 18 = .ok (.astore 4, 2) := dk_58 4 (dk_at dksX1_meetIn_0 18 rfl rfl)
theorem dX1_meetIn_20 : decode cX1_meetIn 20 = .ok (.iconst (-1), 1) := dk_2 (dk_at dksX1_meetIn_0 20 rfl rfl)
theorem dX1_meetIn_21 : decode cX1_meetIn 21 = .ok (.istore 5, 2) := dk_54 5 (dk_at dksX1_meetIn_0 21 rfl rfl)
theorem dX1_meetIn_23 : decode cX1_meetIn 23 = .ok (.iconst 1, 1) := dk_4 (dk_at dksX1_meetIn_0 23 rfl rfl)
theorem dX1_meetIn_24 : decode cX1_meetIn 24 = .ok (.istore 6, 2) := dk_54 6 (dk_at dksX1_meetIn_1 0 rfl rfl)
theorem dX1_meetIn_26 : decode cX1_meetIn 26 = .ok (.iload 6, 2) := dk_21 6 (dk_at dksX1_meetIn_1 2 rfl rfl)
theorem dX1_meetIn_28 : decode cX1_meetIn 28 = .ok (.sipush 1000, 3) := dk_17 3 232 (dk_at dksX1_meetIn_1 4 rfl rfl)
theorem dX1_meetIn_31 : decode cX1_meetIn 31 = .ok (.if_icmp .gt 40, 3) := dk_163 0 40 (dk_at dksX1_meetIn_1 7 rfl rfl)
theorem dX1_meetIn_34 : decode cX1_meetIn 34 = .ok (.iload 5, 2) := dk_21 5 (dk_at dksX1_meetIn_1 10 rfl rfl)
theorem dX1_meetIn_36 : decode cX1_meetIn 36 = .ok (.iconst (-1), 1) := dk_2 (dk_at dksX1_meetIn_1 12 rfl rfl)
theorem dX1_meetIn_37 : decode cX1_meetIn 37 = .ok (.if_icmp .ne 34, 3) := dk_160 0 34 (dk_at dksX1_meetIn_1 13 rfl rfl)
theorem dX1_meetIn_40 : decode cX1_meetIn 40 = .ok (.aload_n 0, 1) := dk_42 (dk_at dksX1_meetIn_1 16 rfl rfl)
theorem dX1_meetIn_41 : decode cX1_meetIn 41 = .ok (.getfield 56, 3) := dk_180 0 56 (dk_at dksX1_meetIn_1 17 rfl rfl)
theorem dX1_meetIn_44 : decode cX1_meetIn 44 = .ok (.iload_n 1, 1) := dk_27 (dk_at dksX1_meetIn_1 20 rfl rfl)
theorem dX1_meetIn_45 : decode cX1_meetIn 45 = .ok (.iload_n 2, 1) := dk_28 (dk_at dksX1_meetIn_1 21 rfl rfl)
theorem dX1_meetIn_46 : decode cX1_meetIn 46 = .ok (.iload_n 3, 1) := dk_29 (dk_at dksX1_meetIn_1 22 rfl rfl)
theorem dX1_meetIn_47 : decode cX1_meetIn 47 = .ok (.aload 4, 2) := dk_25 4 (dk_at dksX1_meetIn_2 0 rfl rfl)
theorem dX1_meetIn_49 : decode cX1_meetIn 49 = .ok (.iload 6, 2) := dk_21 6 (dk_at dksX1_meetIn_2 2 rfl rfl)
theorem dX1_meetIn_51 : decode cX1_meetIn 51 = .ok (.invokevirtual 300, 3) := dk_182 1 44 (dk_at dksX1_meetIn_2 4 rfl rfl)
theorem dX1_meetIn_54 : decode cX1_meetIn 54 = .ok (.ifCond .eq 8, 3) := dk_153 0 8 (dk_at dksX1_meetIn_2 7 rfl rfl)
theorem dX1_meetIn_57 : decode cX1_meetIn 57 = .ok (.iload 6, 2) := dk_21 6 (dk_at dksX1_meetIn_2 10 rfl rfl)
theorem dX1_meetIn_59 : decode cX1_meetIn 59 = .ok (.goto 4, 3) := dk_167 0 4 (dk_at dksX1_meetIn_2 12 rfl rfl)
theorem dX1_meetIn_62 : decode cX1_meetIn 62 = .ok (.iconst (-1), 1) := dk_2 (dk_at dksX1_meetIn_2 15 rfl rfl)
theorem dX1_meetIn_63 : decode cX1_meetIn 63 = .ok (.istore 5, 2) := dk_54 5 (dk_at dksX1_meetIn_2 16 rfl rfl)
theorem dX1_meetIn_65 : decode cX1_meetIn 65 = .ok (.iinc 6 1, 3) := dk_132 6 1 (dk_at dksX1_meetIn_2 18 rfl rfl)
theorem dX1_meetIn_68 : decode cX1_meetIn 68 = .ok (.goto (-42), 3) := dk_167 255 214 (dk_at dksX1_meetIn_2 21 rfl rfl)
theorem dX1_meetIn_71 : decode cX1_meetIn 71 = .ok (.iload 5, 2) := dk_21 5 (dk_at dksX1_meetIn_3 0 rfl rfl)
theorem dX1_meetIn_73 : decode cX1_meetIn 73 = .ok (.iconst (-1), 1) := dk_2 (dk_at dksX1_meetIn_3 2 rfl rfl)
theorem dX1_meetIn_74 : decode cX1_meetIn 74 = .ok (.if_icmp .eq 7, 3) := dk_159 0 7 (dk_at dksX1_meetIn_3 3 rfl rfl)
theorem dX1_meetIn_77 : decode cX1_meetIn 77 = .ok (.iconst 1, 1) := dk_4 (dk_at dksX1_meetIn_3 6 rfl rfl)
theorem dX1_meetIn_78 : decode cX1_meetIn 78 = .ok (.goto 4, 3) := dk_167 0 4 (dk_at dksX1_meetIn_3 7 rfl rfl)
theorem dX1_meetIn_81 : decode cX1_meetIn 81 = .ok (.iconst 0, 1) := dk_3 (dk_at dksX1_meetIn_3 10 rfl rfl)
theorem dX1_meetIn_82 : decode cX1_meetIn 82 = .ok (.invokestatic 194, 3) := dk_184 0 194 (dk_at dksX1_meetIn_3 11 rfl rfl)
theorem dX1_meetIn_85 : decode cX1_meetIn 85 = .ok (.iload 5, 2) := dk_21 5 (dk_at dksX1_meetIn_3 14 rfl rfl)
theorem dX1_meetIn_87 : decode cX1_meetIn 87 = .ok (.ireturn, 1) := dk_172 (dk_at dksX1_meetIn_3 16 rfl rfl)
abbrev cX1_drivingBoth : ByteArray := prog_1_method_36_code
def yX1_drivingBoth : MethodName := ⟨RX1, "drivingBoth", "(II)LClockworkOrreries$Drive;"⟩
def dkwX1_drivingBoth_4 : List UInt8 := [184, 0, 194, 45, 176]
abbrev dktX1_drivingBoth_4 : List UInt8 := dkwX1_drivingBoth_4 ++ []
def dkwX1_drivingBoth_3 : List UInt8 := [180, 0, 177, 28, 182, 0, 166, 192, 0, 180, 180, 0, 197, 182, 0, 189, 153, 0, 7, 4, 167, 0, 4, 3]
abbrev dktX1_drivingBoth_3 : List UInt8 := dkwX1_drivingBoth_3 ++ dktX1_drivingBoth_4
def dkwX1_drivingBoth_2 : List UInt8 := [180, 0, 177, 27, 182, 0, 166, 192, 0, 180, 180, 0, 197, 182, 0, 189, 153, 0, 31, 45, 42, 180, 0, 56]
abbrev dktX1_drivingBoth_2 : List UInt8 := dkwX1_drivingBoth_2 ++ dktX1_drivingBoth_3
def dkwX1_drivingBoth_1 : List UInt8 := [159, 0, 7, 4, 167, 0, 4, 3, 184, 0, 158, 42, 180, 0, 56, 182, 0, 185, 78, 45, 42, 180, 0, 56]
abbrev dktX1_drivingBoth_1 : List UInt8 := dkwX1_drivingBoth_1 ++ dktX1_drivingBoth_2
def dkwX1_drivingBoth_0 : List UInt8 := [42, 180, 0, 56, 27, 182, 0, 174, 153, 0, 23, 42, 180, 0, 56, 28, 182, 0, 174, 153, 0, 12, 27, 28]
abbrev dktX1_drivingBoth_0 : List UInt8 := dkwX1_drivingBoth_0 ++ dktX1_drivingBoth_1
theorem dksX1_drivingBoth_0 : cX1_drivingBoth.data.toList.drop 0 = dktX1_drivingBoth_0 := by decide +kernel
theorem dksX1_drivingBoth_1 : cX1_drivingBoth.data.toList.drop 24 = dktX1_drivingBoth_1 := dk_seg dksX1_drivingBoth_0 24 rfl rfl
theorem dksX1_drivingBoth_2 : cX1_drivingBoth.data.toList.drop 48 = dktX1_drivingBoth_2 := dk_seg dksX1_drivingBoth_1 24 rfl rfl
theorem dksX1_drivingBoth_3 : cX1_drivingBoth.data.toList.drop 72 = dktX1_drivingBoth_3 := dk_seg dksX1_drivingBoth_2 24 rfl rfl
theorem dksX1_drivingBoth_4 : cX1_drivingBoth.data.toList.drop 96 = dktX1_drivingBoth_4 := dk_seg dksX1_drivingBoth_3 24 rfl rfl
theorem dX1_drivingBoth_0 : decode cX1_drivingBoth 0 = .ok (.aload_n 0, 1) := dk_42 (dk_at dksX1_drivingBoth_0 0 rfl rfl)
theorem dX1_drivingBoth_1 : decode cX1_drivingBoth 1 = .ok (.getfield 56, 3) := dk_180 0 56 (dk_at dksX1_drivingBoth_0 1 rfl rfl)
theorem dX1_drivingBoth_4 : decode cX1_drivingBoth 4 = .ok (.iload_n 1, 1) := dk_27 (dk_at dksX1_drivingBoth_0 4 rfl rfl)
theorem dX1_drivingBoth_5 : decode cX1_drivingBoth 5 = .ok (.invokevirtual 174, 3) := dk_182 0 174 (dk_at dksX1_drivingBoth_0 5 rfl rfl)
theorem dX1_drivingBoth_8 : decode cX1_drivingBoth 8 = .ok (.ifCond .eq 23, 3) := dk_153 0 23 (dk_at dksX1_drivingBoth_0 8 rfl rfl)
theorem dX1_drivingBoth_11 : decode cX1_drivingBoth 11 = .ok (.aload_n 0, 1) := dk_42 (dk_at dksX1_drivingBoth_0 11 rfl rfl)
theorem dX1_drivingBoth_12 : decode cX1_drivingBoth 12 = .ok (.getfield 56, 3) := dk_180 0 56 (dk_at dksX1_drivingBoth_0 12 rfl rfl)
theorem dX1_drivingBoth_15 : decode cX1_drivingBoth 15 = .ok (.iload_n 2, 1) := dk_28 (dk_at dksX1_drivingBoth_0 15 rfl rfl)
theorem dX1_drivingBoth_16 : decode cX1_drivingBoth 16 = .ok (.invokevirtual 174, 3) := dk_182 0 174 (dk_at dksX1_drivingBoth_0 16 rfl rfl)
theorem dX1_drivingBoth_19 : decode cX1_drivingBoth 19 = .ok (.ifCond .eq 12, 3) := dk_153 0 12 (dk_at dksX1_drivingBoth_0 19 rfl rfl)
theorem dX1_drivingBoth_22 : decode cX1_drivingBoth 22 = .ok (.iload_n 1, 1) := dk_27 (dk_at dksX1_drivingBoth_0 22 rfl rfl)
theorem dX1_drivingBoth_23 : decode cX1_drivingBoth 23 = .ok (.iload_n 2, 1) := dk_28 (dk_at dksX1_drivingBoth_0 23 rfl rfl)
theorem dX1_drivingBoth_24 : decode cX1_drivingBoth 24 = .ok (.if_icmp .eq 7, 3) := dk_159 0 7 (dk_at dksX1_drivingBoth_1 0 rfl rfl)
theorem dX1_drivingBoth_27 : decode cX1_drivingBoth 27 = .ok (.iconst 1, 1) := dk_4 (dk_at dksX1_drivingBoth_1 3 rfl rfl)
theorem dX1_drivingBoth_28 : decode cX1_drivingBoth 28 = .ok (.goto 4, 3) := dk_167 0 4 (dk_at dksX1_drivingBoth_1 4 rfl rfl)
theorem dX1_drivingBoth_31 : decode cX1_drivingBoth 31 = .ok (.iconst 0, 1) := dk_3 (dk_at dksX1_drivingBoth_1 7 rfl rfl)
theorem dX1_drivingBoth_32 : decode cX1_drivingBoth 32 = .ok (.invokestatic 158, 3) := dk_184 0 158 (dk_at dksX1_drivingBoth_1 8 rfl rfl)
theorem dX1_drivingBoth_35 : decode cX1_drivingBoth 35 = .ok (.aload_n 0, 1) := dk_42 (dk_at dksX1_drivingBoth_1 11 rfl rfl)
theorem dX1_drivingBoth_36 : decode cX1_drivingBoth 36 = .ok (.getfield 56, 3) := dk_180 0 56 (dk_at dksX1_drivingBoth_1 12 rfl rfl)
theorem dX1_drivingBoth_39 : decode cX1_drivingBoth 39 = .ok (.invokevirtual 185, 3) := dk_182 0 185 (dk_at dksX1_drivingBoth_1 15 rfl rfl)
theorem dX1_drivingBoth_42 : decode cX1_drivingBoth 42 = .ok (.astore_n 3, 1) := dk_78 (dk_at dksX1_drivingBoth_1 18 rfl rfl)
theorem dX1_drivingBoth_43 : decode cX1_drivingBoth 43 = .ok (.aload_n 3, 1) := dk_45 (dk_at dksX1_drivingBoth_1 19 rfl rfl)
theorem dX1_drivingBoth_44 : decode cX1_drivingBoth 44 = .ok (.aload_n 0, 1) := dk_42 (dk_at dksX1_drivingBoth_1 20 rfl rfl)
theorem dX1_drivingBoth_45 : decode cX1_drivingBoth 45 = .ok (.getfield 56, 3) := dk_180 0 56 (dk_at dksX1_drivingBoth_1 21 rfl rfl)
theorem dX1_drivingBoth_48 : decode cX1_drivingBoth 48 = .ok (.getfield 177, 3) := dk_180 0 177 (dk_at dksX1_drivingBoth_2 0 rfl rfl)
theorem dX1_drivingBoth_51 : decode cX1_drivingBoth 51 = .ok (.iload_n 1, 1) := dk_27 (dk_at dksX1_drivingBoth_2 3 rfl rfl)
theorem dX1_drivingBoth_52 : decode cX1_drivingBoth 52 = .ok (.invokevirtual 166, 3) := dk_182 0 166 (dk_at dksX1_drivingBoth_2 4 rfl rfl)
theorem dX1_drivingBoth_55 : decode cX1_drivingBoth 55 = .ok (.checkcast 180, 3) := dk_192 0 180 (dk_at dksX1_drivingBoth_2 7 rfl rfl)
theorem dX1_drivingBoth_58 : decode cX1_drivingBoth 58 = .ok (.getfield 197, 3) := dk_180 0 197 (dk_at dksX1_drivingBoth_2 10 rfl rfl)
theorem dX1_drivingBoth_61 : decode cX1_drivingBoth 61 = .ok (.invokevirtual 189, 3) := dk_182 0 189 (dk_at dksX1_drivingBoth_2 13 rfl rfl)
theorem dX1_drivingBoth_64 : decode cX1_drivingBoth 64 = .ok (.ifCond .eq 31, 3) := dk_153 0 31 (dk_at dksX1_drivingBoth_2 16 rfl rfl)
theorem dX1_drivingBoth_67 : decode cX1_drivingBoth 67 = .ok (.aload_n 3, 1) := dk_45 (dk_at dksX1_drivingBoth_2 19 rfl rfl)
theorem dX1_drivingBoth_68 : decode cX1_drivingBoth 68 = .ok (.aload_n 0, 1) := dk_42 (dk_at dksX1_drivingBoth_2 20 rfl rfl)
theorem dX1_drivingBoth_69 : decode cX1_drivingBoth 69 = .ok (.getfield 56, 3) := dk_180 0 56 (dk_at dksX1_drivingBoth_2 21 rfl rfl)
theorem dX1_drivingBoth_72 : decode cX1_drivingBoth 72 = .ok (.getfield 177, 3) := dk_180 0 177 (dk_at dksX1_drivingBoth_3 0 rfl rfl)
theorem dX1_drivingBoth_75 : decode cX1_drivingBoth 75 = .ok (.iload_n 2, 1) := dk_28 (dk_at dksX1_drivingBoth_3 3 rfl rfl)
theorem dX1_drivingBoth_76 : decode cX1_drivingBoth 76 = .ok (.invokevirtual 166, 3) := dk_182 0 166 (dk_at dksX1_drivingBoth_3 4 rfl rfl)
theorem dX1_drivingBoth_79 : decode cX1_drivingBoth 79 = .ok (.checkcast 180, 3) := dk_192 0 180 (dk_at dksX1_drivingBoth_3 7 rfl rfl)
theorem dX1_drivingBoth_82 : decode cX1_drivingBoth 82 = .ok (.getfield 197, 3) := dk_180 0 197 (dk_at dksX1_drivingBoth_3 10 rfl rfl)
theorem dX1_drivingBoth_85 : decode cX1_drivingBoth 85 = .ok (.invokevirtual 189, 3) := dk_182 0 189 (dk_at dksX1_drivingBoth_3 13 rfl rfl)
theorem dX1_drivingBoth_88 : decode cX1_drivingBoth 88 = .ok (.ifCond .eq 7, 3) := dk_153 0 7 (dk_at dksX1_drivingBoth_3 16 rfl rfl)
theorem dX1_drivingBoth_91 : decode cX1_drivingBoth 91 = .ok (.iconst 1, 1) := dk_4 (dk_at dksX1_drivingBoth_3 19 rfl rfl)
theorem dX1_drivingBoth_92 : decode cX1_drivingBoth 92 = .ok (.goto 4, 3) := dk_167 0 4 (dk_at dksX1_drivingBoth_3 20 rfl rfl)
theorem dX1_drivingBoth_95 : decode cX1_drivingBoth 95 = .ok (.iconst 0, 1) := dk_3 (dk_at dksX1_drivingBoth_3 23 rfl rfl)
theorem dX1_drivingBoth_96 : decode cX1_drivingBoth 96 = .ok (.invokestatic 194, 3) := dk_184 0 194 (dk_at dksX1_drivingBoth_4 0 rfl rfl)
theorem dX1_drivingBoth_99 : decode cX1_drivingBoth 99 = .ok (.aload_n 3, 1) := dk_45 (dk_at dksX1_drivingBoth_4 3 rfl rfl)
theorem dX1_drivingBoth_100 : decode cX1_drivingBoth 100 = .ok (.areturn, 1) := dk_176 (dk_at dksX1_drivingBoth_4 4 rfl rfl)
abbrev cX1_apart : ByteArray := prog_1_method_6_code
def yX1_apart : MethodName := ⟨RX1, "apart", "(II)I"⟩
def dkwX1_apart_0 : List UInt8 := [26, 27, 100, 184, 0, 19, 61, 28, 17, 84, 96, 28, 100, 184, 0, 22, 172]
abbrev dktX1_apart_0 : List UInt8 := dkwX1_apart_0 ++ []
theorem dksX1_apart_0 : cX1_apart.data.toList.drop 0 = dktX1_apart_0 := by decide +kernel
theorem dX1_apart_0 : decode cX1_apart 0 = .ok (.iload_n 0, 1) := dk_26 (dk_at dksX1_apart_0 0 rfl rfl)
theorem dX1_apart_1 : decode cX1_apart 1 = .ok (.iload_n 1, 1) := dk_27 (dk_at dksX1_apart_0 1 rfl rfl)
theorem dX1_apart_2 : decode cX1_apart 2 = .ok (.isub, 1) := dk_100 (dk_at dksX1_apart_0 2 rfl rfl)
theorem dX1_apart_3 : decode cX1_apart 3 = .ok (.invokestatic 19, 3) := dk_184 0 19 (dk_at dksX1_apart_0 3 rfl rfl)
theorem dX1_apart_6 : decode cX1_apart 6 = .ok (.istore_n 2, 1) := dk_61 (dk_at dksX1_apart_0 6 rfl rfl)
theorem dX1_apart_7 : decode cX1_apart 7 = .ok (.iload_n 2, 1) := dk_28 (dk_at dksX1_apart_0 7 rfl rfl)
theorem dX1_apart_8 : decode cX1_apart 8 = .ok (.sipush 21600, 3) := dk_17 84 96 (dk_at dksX1_apart_0 8 rfl rfl)
theorem dX1_apart_11 : decode cX1_apart 11 = .ok (.iload_n 2, 1) := dk_28 (dk_at dksX1_apart_0 11 rfl rfl)
theorem dX1_apart_12 : decode cX1_apart 12 = .ok (.isub, 1) := dk_100 (dk_at dksX1_apart_0 12 rfl rfl)
theorem dX1_apart_13 : decode cX1_apart 13 = .ok (.invokestatic 22, 3) := dk_184 0 22 (dk_at dksX1_apart_0 13 rfl rfl)
theorem dX1_apart_16 : decode cX1_apart 16 = .ok (.ireturn, 1) := dk_172 (dk_at dksX1_apart_0 16 rfl rfl)
abbrev cX1_meetings : ByteArray := prog_1_method_64_code
def yX1_meetings : MethodName := ⟨RX1, "meetings", "(III)I"⟩
def dkwX1_meetings_2 : List UInt8 := [182, 1, 44, 153, 0, 7, 4, 167, 0, 4, 3, 96, 54, 5, 132, 6, 1, 167, 255, 218, 21, 5, 172]
abbrev dktX1_meetings_2 : List UInt8 := dkwX1_meetings_2 ++ []
def dkwX1_meetings_1 : List UInt8 := [54, 6, 21, 6, 17, 3, 232, 163, 0, 36, 21, 5, 42, 180, 0, 56, 27, 28, 29, 25, 4, 21, 6]
abbrev dktX1_meetings_1 : List UInt8 := dkwX1_meetings_1 ++ dktX1_meetings_2
def dkwX1_meetings_0 : List UInt8 := [29, 133, 9, 20, 1, 38, 184, 0, 204, 184, 0, 158, 42, 27, 28, 182, 1, 40, 58, 4, 3, 54, 5, 4]
abbrev dktX1_meetings_0 : List UInt8 := dkwX1_meetings_0 ++ dktX1_meetings_1
theorem dksX1_meetings_0 : cX1_meetings.data.toList.drop 0 = dktX1_meetings_0 := by decide +kernel
theorem dksX1_meetings_1 : cX1_meetings.data.toList.drop 24 = dktX1_meetings_1 := dk_seg dksX1_meetings_0 24 rfl rfl
theorem dksX1_meetings_2 : cX1_meetings.data.toList.drop 47 = dktX1_meetings_2 := dk_seg dksX1_meetings_1 23 rfl rfl
theorem dX1_meetings_0 : decode cX1_meetings 0 = .ok (.iload_n 3, 1) := dk_29 (dk_at dksX1_meetings_0 0 rfl rfl)
theorem dX1_meetings_1 : decode cX1_meetings 1 = .ok (.i2l, 1) := dk_133 (dk_at dksX1_meetings_0 1 rfl rfl)
theorem dX1_meetings_2 : decode cX1_meetings 2 = .ok (.lconst 0, 1) := dk_9 (dk_at dksX1_meetings_0 2 rfl rfl)
theorem dX1_meetings_3 : decode cX1_meetings 3 = .ok (.ldc2_w 294, 3) := dk_20 1 38 (dk_at dksX1_meetings_0 3 rfl rfl)
theorem dX1_meetings_6 : decode cX1_meetings 6 = .ok (.invokestatic 204, 3) := dk_184 0 204 (dk_at dksX1_meetings_0 6 rfl rfl)
theorem dX1_meetings_9 : decode cX1_meetings 9 = .ok (.invokestatic 158, 3) := dk_184 0 158 (dk_at dksX1_meetings_0 9 rfl rfl)
theorem dX1_meetings_12 : decode cX1_meetings 12 = .ok (.aload_n 0, 1) := dk_42 (dk_at dksX1_meetings_0 12 rfl rfl)
theorem dX1_meetings_13 : decode cX1_meetings 13 = .ok (.iload_n 1, 1) := dk_27 (dk_at dksX1_meetings_0 13 rfl rfl)
theorem dX1_meetings_14 : decode cX1_meetings 14 = .ok (.iload_n 2, 1) := dk_28 (dk_at dksX1_meetings_0 14 rfl rfl)
theorem dX1_meetings_15 : decode cX1_meetings 15 = .ok (.invokevirtual 296, 3) := dk_182 1 40 (dk_at dksX1_meetings_0 15 rfl rfl)
theorem dX1_meetings_18 : decode cX1_meetings 18 = .ok (.astore 4, 2) := dk_58 4 (dk_at dksX1_meetings_0 18 rfl rfl)
theorem dX1_meetings_20 : decode cX1_meetings 20 = .ok (.iconst 0, 1) := dk_3 (dk_at dksX1_meetings_0 20 rfl rfl)
theorem dX1_meetings_21 : decode cX1_meetings 21 = .ok (.istore 5, 2) := dk_54 5 (dk_at dksX1_meetings_0 21 rfl rfl)
theorem dX1_meetings_23 : decode cX1_meetings 23 = .ok (.iconst 1, 1) := dk_4 (dk_at dksX1_meetings_0 23 rfl rfl)
theorem dX1_meetings_24 : decode cX1_meetings 24 = .ok (.istore 6, 2) := dk_54 6 (dk_at dksX1_meetings_1 0 rfl rfl)
theorem dX1_meetings_26 : decode cX1_meetings 26 = .ok (.iload 6, 2) := dk_21 6 (dk_at dksX1_meetings_1 2 rfl rfl)
theorem dX1_meetings_28 : decode cX1_meetings 28 = .ok (.sipush 1000, 3) := dk_17 3 232 (dk_at dksX1_meetings_1 4 rfl rfl)
theorem dX1_meetings_31 : decode cX1_meetings 31 = .ok (.if_icmp .gt 36, 3) := dk_163 0 36 (dk_at dksX1_meetings_1 7 rfl rfl)
theorem dX1_meetings_34 : decode cX1_meetings 34 = .ok (.iload 5, 2) := dk_21 5 (dk_at dksX1_meetings_1 10 rfl rfl)
theorem dX1_meetings_36 : decode cX1_meetings 36 = .ok (.aload_n 0, 1) := dk_42 (dk_at dksX1_meetings_1 12 rfl rfl)
theorem dX1_meetings_37 : decode cX1_meetings 37 = .ok (.getfield 56, 3) := dk_180 0 56 (dk_at dksX1_meetings_1 13 rfl rfl)
theorem dX1_meetings_40 : decode cX1_meetings 40 = .ok (.iload_n 1, 1) := dk_27 (dk_at dksX1_meetings_1 16 rfl rfl)
theorem dX1_meetings_41 : decode cX1_meetings 41 = .ok (.iload_n 2, 1) := dk_28 (dk_at dksX1_meetings_1 17 rfl rfl)
theorem dX1_meetings_42 : decode cX1_meetings 42 = .ok (.iload_n 3, 1) := dk_29 (dk_at dksX1_meetings_1 18 rfl rfl)
theorem dX1_meetings_43 : decode cX1_meetings 43 = .ok (.aload 4, 2) := dk_25 4 (dk_at dksX1_meetings_1 19 rfl rfl)
theorem dX1_meetings_45 : decode cX1_meetings 45 = .ok (.iload 6, 2) := dk_21 6 (dk_at dksX1_meetings_1 21 rfl rfl)
theorem dX1_meetings_47 : decode cX1_meetings 47 = .ok (.invokevirtual 300, 3) := dk_182 1 44 (dk_at dksX1_meetings_2 0 rfl rfl)
theorem dX1_meetings_50 : decode cX1_meetings 50 = .ok (.ifCond .eq 7, 3) := dk_153 0 7 (dk_at dksX1_meetings_2 3 rfl rfl)
theorem dX1_meetings_53 : decode cX1_meetings 53 = .ok (.iconst 1, 1) := dk_4 (dk_at dksX1_meetings_2 6 rfl rfl)
theorem dX1_meetings_54 : decode cX1_meetings 54 = .ok (.goto 4, 3) := dk_167 0 4 (dk_at dksX1_meetings_2 7 rfl rfl)
theorem dX1_meetings_57 : decode cX1_meetings 57 = .ok (.iconst 0, 1) := dk_3 (dk_at dksX1_meetings_2 10 rfl rfl)
theorem dX1_meetings_58 : decode cX1_meetings 58 = .ok (.iadd, 1) := dk_96 (dk_at dksX1_meetings_2 11 rfl rfl)
theorem dX1_meetings_59 : decode cX1_meetings 59 = .ok (.istore 5, 2) := dk_54 5 (dk_at dksX1_meetings_2 12 rfl rfl)
theorem dX1_meetings_61 : decode cX1_meetings 61 = .ok (.iinc 6 1, 3) := dk_132 6 1 (dk_at dksX1_meetings_2 14 rfl rfl)
theorem dX1_meetings_64 : decode cX1_meetings 64 = .ok (.goto (-38), 3) := dk_167 255 218 (dk_at dksX1_meetings_2 17 rfl rfl)
theorem dX1_meetings_67 : decode cX1_meetings 67 = .ok (.iload 5, 2) := dk_21 5 (dk_at dksX1_meetings_2 20 rfl rfl)
theorem dX1_meetings_69 : decode cX1_meetings 69 = .ok (.ireturn, 1) := dk_172 (dk_at dksX1_meetings_2 22 rfl rfl)
abbrev cX1_differenceAbove : ByteArray := prog_1_method_69_code
def yX1_differenceAbove : MethodName := ⟨RX1, "differenceAbove", "(II)J"⟩
def dkwX1_differenceAbove_0 : List UInt8 := [42, 27, 28, 4, 182, 1, 56, 173]
abbrev dktX1_differenceAbove_0 : List UInt8 := dkwX1_differenceAbove_0 ++ []
theorem dksX1_differenceAbove_0 : cX1_differenceAbove.data.toList.drop 0 = dktX1_differenceAbove_0 := by decide +kernel
theorem dX1_differenceAbove_0 : decode cX1_differenceAbove 0 = .ok (.aload_n 0, 1) := dk_42 (dk_at dksX1_differenceAbove_0 0 rfl rfl)
theorem dX1_differenceAbove_1 : decode cX1_differenceAbove 1 = .ok (.iload_n 1, 1) := dk_27 (dk_at dksX1_differenceAbove_0 1 rfl rfl)
theorem dX1_differenceAbove_2 : decode cX1_differenceAbove 2 = .ok (.iload_n 2, 1) := dk_28 (dk_at dksX1_differenceAbove_0 2 rfl rfl)
theorem dX1_differenceAbove_3 : decode cX1_differenceAbove 3 = .ok (.iconst 1, 1) := dk_4 (dk_at dksX1_differenceAbove_0 3 rfl rfl)
theorem dX1_differenceAbove_4 : decode cX1_differenceAbove 4 = .ok (.invokevirtual 312, 3) := dk_182 1 56 (dk_at dksX1_differenceAbove_0 4 rfl rfl)
theorem dX1_differenceAbove_7 : decode cX1_differenceAbove 7 = .ok (.lreturn, 1) := dk_173 (dk_at dksX1_differenceAbove_0 7 rfl rfl)
abbrev cX1_difference : ByteArray := prog_1_method_68_code
def yX1_difference : MethodName := ⟨RX1, "difference", "(IIZ)J"⟩
def dkwX1_difference_6 : List UInt8 := [55, 13, 29, 153, 0, 11, 22, 9, 22, 13, 109, 167, 0, 8, 22, 11, 22, 13, 109, 173]
abbrev dktX1_difference_6 : List UInt8 := dkwX1_difference_6 ++ []
def dkwX1_difference_5 : List UInt8 := [21, 5, 47, 22, 7, 109, 25, 4, 180, 0, 247, 21, 6, 47, 105, 55, 11, 22, 9, 22, 11, 184, 1, 10]
abbrev dktX1_difference_5 : List UInt8 := dkwX1_difference_5 ++ dktX1_difference_6
def dkwX1_difference_4 : List UInt8 := [21, 6, 47, 25, 4, 180, 0, 247, 21, 5, 47, 22, 7, 109, 105, 101, 55, 9, 25, 4, 180, 0, 247]
abbrev dktX1_difference_4 : List UInt8 := dkwX1_difference_4 ++ dktX1_difference_5
def dkwX1_difference_3 : List UInt8 := [180, 0, 243, 21, 5, 47, 25, 4, 180, 0, 247, 21, 6, 47, 22, 7, 109, 105, 25, 4, 180, 0, 243]
abbrev dktX1_difference_3 : List UInt8 := dkwX1_difference_3 ++ dktX1_difference_4
def dkwX1_difference_2 : List UInt8 := [25, 4, 180, 0, 247, 21, 5, 47, 25, 4, 180, 0, 247, 21, 6, 47, 184, 1, 10, 55, 7, 25, 4]
abbrev dktX1_difference_2 : List UInt8 := dkwX1_difference_2 ++ dktX1_difference_3
def dkwX1_difference_1 : List UInt8 := [180, 0, 197, 54, 5, 42, 180, 0, 56, 180, 0, 177, 28, 182, 0, 166, 192, 0, 180, 180, 0, 197, 54, 6]
abbrev dktX1_difference_1 : List UInt8 := dkwX1_difference_1 ++ dktX1_difference_2
def dkwX1_difference_0 : List UInt8 := [42, 27, 28, 182, 1, 40, 58, 4, 42, 180, 0, 56, 180, 0, 177, 27, 182, 0, 166, 192, 0, 180]
abbrev dktX1_difference_0 : List UInt8 := dkwX1_difference_0 ++ dktX1_difference_1
theorem dksX1_difference_0 : cX1_difference.data.toList.drop 0 = dktX1_difference_0 := by decide +kernel
theorem dksX1_difference_1 : cX1_difference.data.toList.drop 22 = dktX1_difference_1 := dk_seg dksX1_difference_0 22 rfl rfl
theorem dksX1_difference_2 : cX1_difference.data.toList.drop 46 = dktX1_difference_2 := dk_seg dksX1_difference_1 24 rfl rfl
theorem dksX1_difference_3 : cX1_difference.data.toList.drop 69 = dktX1_difference_3 := dk_seg dksX1_difference_2 23 rfl rfl
theorem dksX1_difference_4 : cX1_difference.data.toList.drop 92 = dktX1_difference_4 := dk_seg dksX1_difference_3 23 rfl rfl
theorem dksX1_difference_5 : cX1_difference.data.toList.drop 115 = dktX1_difference_5 := dk_seg dksX1_difference_4 23 rfl rfl
theorem dksX1_difference_6 : cX1_difference.data.toList.drop 139 = dktX1_difference_6 := dk_seg dksX1_difference_5 24 rfl rfl
theorem dX1_difference_0 : decode cX1_difference 0 = .ok (.aload_n 0, 1) := dk_42 (dk_at dksX1_difference_0 0 rfl rfl)
theorem dX1_difference_1 : decode cX1_difference 1 = .ok (.iload_n 1, 1) := dk_27 (dk_at dksX1_difference_0 1 rfl rfl)
theorem dX1_difference_2 : decode cX1_difference 2 = .ok (.iload_n 2, 1) := dk_28 (dk_at dksX1_difference_0 2 rfl rfl)
theorem dX1_difference_3 : decode cX1_difference 3 = .ok (.invokevirtual 296, 3) := dk_182 1 40 (dk_at dksX1_difference_0 3 rfl rfl)
theorem dX1_difference_6 : decode cX1_difference 6 = .ok (.astore 4, 2) := dk_58 4 (dk_at dksX1_difference_0 6 rfl rfl)
theorem dX1_difference_8 : decode cX1_difference 8 = .ok (.aload_n 0, 1) := dk_42 (dk_at dksX1_difference_0 8 rfl rfl)
theorem dX1_difference_9 : decode cX1_difference 9 = .ok (.getfield 56, 3) := dk_180 0 56 (dk_at dksX1_difference_0 9 rfl rfl)
theorem dX1_difference_12 : decode cX1_difference 12 = .ok (.getfield 177, 3) := dk_180 0 177 (dk_at dksX1_difference_0 12 rfl rfl)
theorem dX1_difference_15 : decode cX1_difference 15 = .ok (.iload_n 1, 1) := dk_27 (dk_at dksX1_difference_0 15 rfl rfl)
theorem dX1_difference_16 : decode cX1_difference 16 = .ok (.invokevirtual 166, 3) := dk_182 0 166 (dk_at dksX1_difference_0 16 rfl rfl)
theorem dX1_difference_19 : decode cX1_difference 19 = .ok (.checkcast 180, 3) := dk_192 0 180 (dk_at dksX1_difference_0 19 rfl rfl)
theorem dX1_difference_22 : decode cX1_difference 22 = .ok (.getfield 197, 3) := dk_180 0 197 (dk_at dksX1_difference_1 0 rfl rfl)
theorem dX1_difference_25 : decode cX1_difference 25 = .ok (.istore 5, 2) := dk_54 5 (dk_at dksX1_difference_1 3 rfl rfl)
theorem dX1_difference_27 : decode cX1_difference 27 = .ok (.aload_n 0, 1) := dk_42 (dk_at dksX1_difference_1 5 rfl rfl)
theorem dX1_difference_28 : decode cX1_difference 28 = .ok (.getfield 56, 3) := dk_180 0 56 (dk_at dksX1_difference_1 6 rfl rfl)
theorem dX1_difference_31 : decode cX1_difference 31 = .ok (.getfield 177, 3) := dk_180 0 177 (dk_at dksX1_difference_1 9 rfl rfl)
theorem dX1_difference_34 : decode cX1_difference 34 = .ok (.iload_n 2, 1) := dk_28 (dk_at dksX1_difference_1 12 rfl rfl)
theorem dX1_difference_35 : decode cX1_difference 35 = .ok (.invokevirtual 166, 3) := dk_182 0 166 (dk_at dksX1_difference_1 13 rfl rfl)
theorem dX1_difference_38 : decode cX1_difference 38 = .ok (.checkcast 180, 3) := dk_192 0 180 (dk_at dksX1_difference_1 16 rfl rfl)
theorem dX1_difference_41 : decode cX1_difference 41 = .ok (.getfield 197, 3) := dk_180 0 197 (dk_at dksX1_difference_1 19 rfl rfl)
theorem dX1_difference_44 : decode cX1_difference 44 = .ok (.istore 6, 2) := dk_54 6 (dk_at dksX1_difference_1 22 rfl rfl)
theorem dX1_difference_46 : decode cX1_difference 46 = .ok (.aload 4, 2) := dk_25 4 (dk_at dksX1_difference_2 0 rfl rfl)
theorem dX1_difference_48 : decode cX1_difference 48 = .ok (.getfield 247, 3) := dk_180 0 247 (dk_at dksX1_difference_2 2 rfl rfl)
theorem dX1_difference_51 : decode cX1_difference 51 = .ok (.iload 5, 2) := dk_21 5 (dk_at dksX1_difference_2 5 rfl rfl)
theorem dX1_difference_53 : decode cX1_difference 53 = .ok (.laload, 1) := dk_47 (dk_at dksX1_difference_2 7 rfl rfl)
theorem dX1_difference_54 : decode cX1_difference 54 = .ok (.aload 4, 2) := dk_25 4 (dk_at dksX1_difference_2 8 rfl rfl)
theorem dX1_difference_56 : decode cX1_difference 56 = .ok (.getfield 247, 3) := dk_180 0 247 (dk_at dksX1_difference_2 10 rfl rfl)
theorem dX1_difference_59 : decode cX1_difference 59 = .ok (.iload 6, 2) := dk_21 6 (dk_at dksX1_difference_2 13 rfl rfl)
theorem dX1_difference_61 : decode cX1_difference 61 = .ok (.laload, 1) := dk_47 (dk_at dksX1_difference_2 15 rfl rfl)
theorem dX1_difference_62 : decode cX1_difference 62 = .ok (.invokestatic 266, 3) := dk_184 1 10 (dk_at dksX1_difference_2 16 rfl rfl)
theorem dX1_difference_65 : decode cX1_difference 65 = .ok (.lstore 7, 2) := dk_55 7 (dk_at dksX1_difference_2 19 rfl rfl)
theorem dX1_difference_67 : decode cX1_difference 67 = .ok (.aload 4, 2) := dk_25 4 (dk_at dksX1_difference_2 21 rfl rfl)
theorem dX1_difference_69 : decode cX1_difference 69 = .ok (.getfield 243, 3) := dk_180 0 243 (dk_at dksX1_difference_3 0 rfl rfl)
theorem dX1_difference_72 : decode cX1_difference 72 = .ok (.iload 5, 2) := dk_21 5 (dk_at dksX1_difference_3 3 rfl rfl)
theorem dX1_difference_74 : decode cX1_difference 74 = .ok (.laload, 1) := dk_47 (dk_at dksX1_difference_3 5 rfl rfl)
theorem dX1_difference_75 : decode cX1_difference 75 = .ok (.aload 4, 2) := dk_25 4 (dk_at dksX1_difference_3 6 rfl rfl)
theorem dX1_difference_77 : decode cX1_difference 77 = .ok (.getfield 247, 3) := dk_180 0 247 (dk_at dksX1_difference_3 8 rfl rfl)
theorem dX1_difference_80 : decode cX1_difference 80 = .ok (.iload 6, 2) := dk_21 6 (dk_at dksX1_difference_3 11 rfl rfl)
theorem dX1_difference_82 : decode cX1_difference 82 = .ok (.laload, 1) := dk_47 (dk_at dksX1_difference_3 13 rfl rfl)
theorem dX1_difference_83 : decode cX1_difference 83 = .ok (.lload 7, 2) := dk_22 7 (dk_at dksX1_difference_3 14 rfl rfl)
theorem dX1_difference_85 : decode cX1_difference 85 = .ok (.ldiv, 1) := dk_109 (dk_at dksX1_difference_3 16 rfl rfl)
theorem dX1_difference_86 : decode cX1_difference 86 = .ok (.lmul, 1) := dk_105 (dk_at dksX1_difference_3 17 rfl rfl)
theorem dX1_difference_87 : decode cX1_difference 87 = .ok (.aload 4, 2) := dk_25 4 (dk_at dksX1_difference_3 18 rfl rfl)
theorem dX1_difference_89 : decode cX1_difference 89 = .ok (.getfield 243, 3) := dk_180 0 243 (dk_at dksX1_difference_3 20 rfl rfl)
theorem dX1_difference_92 : decode cX1_difference 92 = .ok (.iload 6, 2) := dk_21 6 (dk_at dksX1_difference_4 0 rfl rfl)
theorem dX1_difference_94 : decode cX1_difference 94 = .ok (.laload, 1) := dk_47 (dk_at dksX1_difference_4 2 rfl rfl)
theorem dX1_difference_95 : decode cX1_difference 95 = .ok (.aload 4, 2) := dk_25 4 (dk_at dksX1_difference_4 3 rfl rfl)
theorem dX1_difference_97 : decode cX1_difference 97 = .ok (.getfield 247, 3) := dk_180 0 247 (dk_at dksX1_difference_4 5 rfl rfl)
theorem dX1_difference_100 : decode cX1_difference 100 = .ok (.iload 5, 2) := dk_21 5 (dk_at dksX1_difference_4 8 rfl rfl)
theorem dX1_difference_102 : decode cX1_difference 102 = .ok (.laload, 1) := dk_47 (dk_at dksX1_difference_4 10 rfl rfl)
theorem dX1_difference_103 : decode cX1_difference 103 = .ok (.lload 7, 2) := dk_22 7 (dk_at dksX1_difference_4 11 rfl rfl)
theorem dX1_difference_105 : decode cX1_difference 105 = .ok (.ldiv, 1) := dk_109 (dk_at dksX1_difference_4 13 rfl rfl)
theorem dX1_difference_106 : decode cX1_difference 106 = .ok (.lmul, 1) := dk_105 (dk_at dksX1_difference_4 14 rfl rfl)
theorem dX1_difference_107 : decode cX1_difference 107 = .ok (.lsub, 1) := dk_101 (dk_at dksX1_difference_4 15 rfl rfl)
theorem dX1_difference_108 : decode cX1_difference 108 = .ok (.lstore 9, 2) := dk_55 9 (dk_at dksX1_difference_4 16 rfl rfl)
theorem dX1_difference_110 : decode cX1_difference 110 = .ok (.aload 4, 2) := dk_25 4 (dk_at dksX1_difference_4 18 rfl rfl)
theorem dX1_difference_112 : decode cX1_difference 112 = .ok (.getfield 247, 3) := dk_180 0 247 (dk_at dksX1_difference_4 20 rfl rfl)
theorem dX1_difference_115 : decode cX1_difference 115 = .ok (.iload 5, 2) := dk_21 5 (dk_at dksX1_difference_5 0 rfl rfl)
theorem dX1_difference_117 : decode cX1_difference 117 = .ok (.laload, 1) := dk_47 (dk_at dksX1_difference_5 2 rfl rfl)
theorem dX1_difference_118 : decode cX1_difference 118 = .ok (.lload 7, 2) := dk_22 7 (dk_at dksX1_difference_5 3 rfl rfl)
theorem dX1_difference_120 : decode cX1_difference 120 = .ok (.ldiv, 1) := dk_109 (dk_at dksX1_difference_5 5 rfl rfl)
theorem dX1_difference_121 : decode cX1_difference 121 = .ok (.aload 4, 2) := dk_25 4 (dk_at dksX1_difference_5 6 rfl rfl)
theorem dX1_difference_123 : decode cX1_difference 123 = .ok (.getfield 247, 3) := dk_180 0 247 (dk_at dksX1_difference_5 8 rfl rfl)
theorem dX1_difference_126 : decode cX1_difference 126 = .ok (.iload 6, 2) := dk_21 6 (dk_at dksX1_difference_5 11 rfl rfl)
theorem dX1_difference_128 : decode cX1_difference 128 = .ok (.laload, 1) := dk_47 (dk_at dksX1_difference_5 13 rfl rfl)
theorem dX1_difference_129 : decode cX1_difference 129 = .ok (.lmul, 1) := dk_105 (dk_at dksX1_difference_5 14 rfl rfl)
theorem dX1_difference_130 : decode cX1_difference 130 = .ok (.lstore 11, 2) := dk_55 11 (dk_at dksX1_difference_5 15 rfl rfl)
theorem dX1_difference_132 : decode cX1_difference 132 = .ok (.lload 9, 2) := dk_22 9 (dk_at dksX1_difference_5 17 rfl rfl)
theorem dX1_difference_134 : decode cX1_difference 134 = .ok (.lload 11, 2) := dk_22 11 (dk_at dksX1_difference_5 19 rfl rfl)
theorem dX1_difference_136 : decode cX1_difference 136 = .ok (.invokestatic 266, 3) := dk_184 1 10 (dk_at dksX1_difference_5 21 rfl rfl)
theorem dX1_difference_139 : decode cX1_difference 139 = .ok (.lstore 13, 2) := dk_55 13 (dk_at dksX1_difference_6 0 rfl rfl)
theorem dX1_difference_141 : decode cX1_difference 141 = .ok (.iload_n 3, 1) := dk_29 (dk_at dksX1_difference_6 2 rfl rfl)
theorem dX1_difference_142 : decode cX1_difference 142 = .ok (.ifCond .eq 11, 3) := dk_153 0 11 (dk_at dksX1_difference_6 3 rfl rfl)
theorem dX1_difference_145 : decode cX1_difference 145 = .ok (.lload 9, 2) := dk_22 9 (dk_at dksX1_difference_6 6 rfl rfl)
theorem dX1_difference_147 : decode cX1_difference 147 = .ok (.lload 13, 2) := dk_22 13 (dk_at dksX1_difference_6 8 rfl rfl)
theorem dX1_difference_149 : decode cX1_difference 149 = .ok (.ldiv, 1) := dk_109 (dk_at dksX1_difference_6 10 rfl rfl)
theorem dX1_difference_150 : decode cX1_difference 150 = .ok (.goto 8, 3) := dk_167 0 8 (dk_at dksX1_difference_6 11 rfl rfl)
theorem dX1_difference_153 : decode cX1_difference 153 = .ok (.lload 11, 2) := dk_22 11 (dk_at dksX1_difference_6 14 rfl rfl)
theorem dX1_difference_155 : decode cX1_difference 155 = .ok (.lload 13, 2) := dk_22 13 (dk_at dksX1_difference_6 16 rfl rfl)
theorem dX1_difference_157 : decode cX1_difference 157 = .ok (.ldiv, 1) := dk_109 (dk_at dksX1_difference_6 18 rfl rfl)
theorem dX1_difference_158 : decode cX1_difference 158 = .ok (.lreturn, 1) := dk_173 (dk_at dksX1_difference_6 19 rfl rfl)
abbrev cX1_comeBackIn : ByteArray := prog_1_method_70_code
def yX1_comeBackIn : MethodName := ⟨RX1, "comeBackIn", "(II)J"⟩
def dkwX1_comeBackIn_0 : List UInt8 := [42, 27, 28, 3, 182, 1, 56, 173]
abbrev dktX1_comeBackIn_0 : List UInt8 := dkwX1_comeBackIn_0 ++ []
theorem dksX1_comeBackIn_0 : cX1_comeBackIn.data.toList.drop 0 = dktX1_comeBackIn_0 := by decide +kernel
theorem dX1_comeBackIn_0 : decode cX1_comeBackIn 0 = .ok (.aload_n 0, 1) := dk_42 (dk_at dksX1_comeBackIn_0 0 rfl rfl)
theorem dX1_comeBackIn_1 : decode cX1_comeBackIn 1 = .ok (.iload_n 1, 1) := dk_27 (dk_at dksX1_comeBackIn_0 1 rfl rfl)
theorem dX1_comeBackIn_2 : decode cX1_comeBackIn 2 = .ok (.iload_n 2, 1) := dk_28 (dk_at dksX1_comeBackIn_0 2 rfl rfl)
theorem dX1_comeBackIn_3 : decode cX1_comeBackIn 3 = .ok (.iconst 0, 1) := dk_3 (dk_at dksX1_comeBackIn_0 3 rfl rfl)
theorem dX1_comeBackIn_4 : decode cX1_comeBackIn 4 = .ok (.invokevirtual 312, 3) := dk_182 1 56 (dk_at dksX1_comeBackIn_0 4 rfl rfl)
theorem dX1_comeBackIn_7 : decode cX1_comeBackIn 7 = .ok (.lreturn, 1) := dk_173 (dk_at dksX1_comeBackIn_0 7 rfl rfl)
abbrev cX1_allMeetIn : ByteArray := prog_1_method_65_code
def yX1_allMeetIn : MethodName := ⟨RX1, "allMeetIn", "(IIII)I"⟩
def dkwX1_allMeetIn_8 : List UInt8 := [3, 184, 0, 194, 21, 6, 172]
abbrev dktX1_allMeetIn_8 : List UInt8 := dkwX1_allMeetIn_8 ++ []
def dkwX1_allMeetIn_7 : List UInt8 := [21, 7, 167, 0, 4, 2, 54, 6, 132, 7, 1, 167, 255, 161, 21, 6, 2, 159, 0, 7, 4, 167, 0, 4]
abbrev dktX1_allMeetIn_7 : List UInt8 := dkwX1_allMeetIn_7 ++ dktX1_allMeetIn_8
def dkwX1_allMeetIn_6 : List UInt8 := [21, 9, 153, 0, 26, 42, 180, 0, 56, 28, 29, 21, 4, 25, 5, 21, 7, 182, 1, 44, 153, 0, 8]
abbrev dktX1_allMeetIn_6 : List UInt8 := dkwX1_allMeetIn_6 ++ dktX1_allMeetIn_7
def dkwX1_allMeetIn_5 : List UInt8 := [180, 0, 56, 27, 29, 21, 4, 25, 5, 21, 7, 182, 1, 44, 153, 0, 7, 4, 167, 0, 4, 3, 54, 9]
abbrev dktX1_allMeetIn_5 : List UInt8 := dkwX1_allMeetIn_5 ++ dktX1_allMeetIn_6
def dkwX1_allMeetIn_4 : List UInt8 := [180, 0, 56, 27, 28, 21, 4, 25, 5, 21, 7, 182, 1, 44, 54, 8, 21, 8, 153, 0, 25, 42]
abbrev dktX1_allMeetIn_4 : List UInt8 := dkwX1_allMeetIn_4 ++ dktX1_allMeetIn_5
def dkwX1_allMeetIn_3 : List UInt8 := [184, 0, 194, 2, 54, 6, 4, 54, 7, 21, 7, 17, 3, 232, 163, 0, 93, 21, 6, 2, 160, 0, 87, 42]
abbrev dktX1_allMeetIn_3 : List UInt8 := dkwX1_allMeetIn_3 ++ dktX1_allMeetIn_4
def dkwX1_allMeetIn_2 : List UInt8 := [58, 5, 25, 5, 42, 180, 0, 56, 180, 0, 177, 29, 182, 0, 166, 192, 0, 180, 180, 0, 197, 182, 0, 189]
abbrev dktX1_allMeetIn_2 : List UInt8 := dkwX1_allMeetIn_2 ++ dktX1_allMeetIn_3
def dkwX1_allMeetIn_1 : List UInt8 := [29, 27, 159, 0, 12, 29, 28, 159, 0, 7, 4, 167, 0, 4, 3, 184, 0, 158, 42, 27, 28, 182, 1, 40]
abbrev dktX1_allMeetIn_1 : List UInt8 := dkwX1_allMeetIn_1 ++ dktX1_allMeetIn_2
def dkwX1_allMeetIn_0 : List UInt8 := [21, 4, 133, 9, 20, 1, 38, 184, 0, 204, 153, 0, 28, 42, 180, 0, 56, 29, 182, 0, 174, 153, 0, 17]
abbrev dktX1_allMeetIn_0 : List UInt8 := dkwX1_allMeetIn_0 ++ dktX1_allMeetIn_1
theorem dksX1_allMeetIn_0 : cX1_allMeetIn.data.toList.drop 0 = dktX1_allMeetIn_0 := by decide +kernel
theorem dksX1_allMeetIn_1 : cX1_allMeetIn.data.toList.drop 24 = dktX1_allMeetIn_1 := dk_seg dksX1_allMeetIn_0 24 rfl rfl
theorem dksX1_allMeetIn_2 : cX1_allMeetIn.data.toList.drop 48 = dktX1_allMeetIn_2 := dk_seg dksX1_allMeetIn_1 24 rfl rfl
theorem dksX1_allMeetIn_3 : cX1_allMeetIn.data.toList.drop 72 = dktX1_allMeetIn_3 := dk_seg dksX1_allMeetIn_2 24 rfl rfl
theorem dksX1_allMeetIn_4 : cX1_allMeetIn.data.toList.drop 96 = dktX1_allMeetIn_4 := dk_seg dksX1_allMeetIn_3 24 rfl rfl
theorem dksX1_allMeetIn_5 : cX1_allMeetIn.data.toList.drop 118 = dktX1_allMeetIn_5 := dk_seg dksX1_allMeetIn_4 22 rfl rfl
theorem dksX1_allMeetIn_6 : cX1_allMeetIn.data.toList.drop 142 = dktX1_allMeetIn_6 := dk_seg dksX1_allMeetIn_5 24 rfl rfl
theorem dksX1_allMeetIn_7 : cX1_allMeetIn.data.toList.drop 165 = dktX1_allMeetIn_7 := dk_seg dksX1_allMeetIn_6 23 rfl rfl
theorem dksX1_allMeetIn_8 : cX1_allMeetIn.data.toList.drop 189 = dktX1_allMeetIn_8 := dk_seg dksX1_allMeetIn_7 24 rfl rfl
theorem dX1_allMeetIn_0 : decode cX1_allMeetIn 0 = .ok (.iload 4, 2) := dk_21 4 (dk_at dksX1_allMeetIn_0 0 rfl rfl)
theorem dX1_allMeetIn_2 : decode cX1_allMeetIn 2 = .ok (.i2l, 1) := dk_133 (dk_at dksX1_allMeetIn_0 2 rfl rfl)
theorem dX1_allMeetIn_3 : decode cX1_allMeetIn 3 = .ok (.lconst 0, 1) := dk_9 (dk_at dksX1_allMeetIn_0 3 rfl rfl)
theorem dX1_allMeetIn_4 : decode cX1_allMeetIn 4 = .ok (.ldc2_w 294, 3) := dk_20 1 38 (dk_at dksX1_allMeetIn_0 4 rfl rfl)
theorem dX1_allMeetIn_7 : decode cX1_allMeetIn 7 = .ok (.invokestatic 204, 3) := dk_184 0 204 (dk_at dksX1_allMeetIn_0 7 rfl rfl)
theorem dX1_allMeetIn_10 : decode cX1_allMeetIn 10 = .ok (.ifCond .eq 28, 3) := dk_153 0 28 (dk_at dksX1_allMeetIn_0 10 rfl rfl)
theorem dX1_allMeetIn_13 : decode cX1_allMeetIn 13 = .ok (.aload_n 0, 1) := dk_42 (dk_at dksX1_allMeetIn_0 13 rfl rfl)
theorem dX1_allMeetIn_14 : decode cX1_allMeetIn 14 = .ok (.getfield 56, 3) := dk_180 0 56 (dk_at dksX1_allMeetIn_0 14 rfl rfl)
theorem dX1_allMeetIn_17 : decode cX1_allMeetIn 17 = .ok (.iload_n 3, 1) := dk_29 (dk_at dksX1_allMeetIn_0 17 rfl rfl)
theorem dX1_allMeetIn_18 : decode cX1_allMeetIn 18 = .ok (.invokevirtual 174, 3) := dk_182 0 174 (dk_at dksX1_allMeetIn_0 18 rfl rfl)
theorem dX1_allMeetIn_21 : decode cX1_allMeetIn 21 = .ok (.ifCond .eq 17, 3) := dk_153 0 17 (dk_at dksX1_allMeetIn_0 21 rfl rfl)
theorem dX1_allMeetIn_24 : decode cX1_allMeetIn 24 = .ok (.iload_n 3, 1) := dk_29 (dk_at dksX1_allMeetIn_1 0 rfl rfl)
theorem dX1_allMeetIn_25 : decode cX1_allMeetIn 25 = .ok (.iload_n 1, 1) := dk_27 (dk_at dksX1_allMeetIn_1 1 rfl rfl)
theorem dX1_allMeetIn_26 : decode cX1_allMeetIn 26 = .ok (.if_icmp .eq 12, 3) := dk_159 0 12 (dk_at dksX1_allMeetIn_1 2 rfl rfl)
theorem dX1_allMeetIn_29 : decode cX1_allMeetIn 29 = .ok (.iload_n 3, 1) := dk_29 (dk_at dksX1_allMeetIn_1 5 rfl rfl)
theorem dX1_allMeetIn_30 : decode cX1_allMeetIn 30 = .ok (.iload_n 2, 1) := dk_28 (dk_at dksX1_allMeetIn_1 6 rfl rfl)
theorem dX1_allMeetIn_31 : decode cX1_allMeetIn 31 = .ok (.if_icmp .eq 7, 3) := dk_159 0 7 (dk_at dksX1_allMeetIn_1 7 rfl rfl)
theorem dX1_allMeetIn_34 : decode cX1_allMeetIn 34 = .ok (.iconst 1, 1) := dk_4 (dk_at dksX1_allMeetIn_1 10 rfl rfl)
theorem dX1_allMeetIn_35 : decode cX1_allMeetIn 35 = .ok (.goto 4, 3) := dk_167 0 4 (dk_at dksX1_allMeetIn_1 11 rfl rfl)
theorem dX1_allMeetIn_38 : decode cX1_allMeetIn 38 = .ok (.iconst 0, 1) := dk_3 (dk_at dksX1_allMeetIn_1 14 rfl rfl)
theorem dX1_allMeetIn_39 : decode cX1_allMeetIn 39 = .ok (.invokestatic 158, 3) := dk_184 0 158 (dk_at dksX1_allMeetIn_1 15 rfl rfl)
theorem dX1_allMeetIn_42 : decode cX1_allMeetIn 42 = .ok (.aload_n 0, 1) := dk_42 (dk_at dksX1_allMeetIn_1 18 rfl rfl)
theorem dX1_allMeetIn_43 : decode cX1_allMeetIn 43 = .ok (.iload_n 1, 1) := dk_27 (dk_at dksX1_allMeetIn_1 19 rfl rfl)
theorem dX1_allMeetIn_44 : decode cX1_allMeetIn 44 = .ok (.iload_n 2, 1) := dk_28 (dk_at dksX1_allMeetIn_1 20 rfl rfl)
theorem dX1_allMeetIn_45 : decode cX1_allMeetIn 45 = .ok (.invokevirtual 296, 3) := dk_182 1 40 (dk_at dksX1_allMeetIn_1 21 rfl rfl)
theorem dX1_allMeetIn_48 : decode cX1_allMeetIn 48 = .ok (.astore 5, 2) := dk_58 5 (dk_at dksX1_allMeetIn_2 0 rfl rfl)
theorem dX1_allMeetIn_50 : decode cX1_allMeetIn 50 = .ok (.aload 5, 2) := dk_25 5 (dk_at dksX1_allMeetIn_2 2 rfl rfl)
theorem dX1_allMeetIn_52 : decode cX1_allMeetIn 52 = .ok (.aload_n 0, 1) := dk_42 (dk_at dksX1_allMeetIn_2 4 rfl rfl)
theorem dX1_allMeetIn_53 : decode cX1_allMeetIn 53 = .ok (.getfield 56, 3) := dk_180 0 56 (dk_at dksX1_allMeetIn_2 5 rfl rfl)
theorem dX1_allMeetIn_56 : decode cX1_allMeetIn 56 = .ok (.getfield 177, 3) := dk_180 0 177 (dk_at dksX1_allMeetIn_2 8 rfl rfl)
theorem dX1_allMeetIn_59 : decode cX1_allMeetIn 59 = .ok (.iload_n 3, 1) := dk_29 (dk_at dksX1_allMeetIn_2 11 rfl rfl)
theorem dX1_allMeetIn_60 : decode cX1_allMeetIn 60 = .ok (.invokevirtual 166, 3) := dk_182 0 166 (dk_at dksX1_allMeetIn_2 12 rfl rfl)
theorem dX1_allMeetIn_63 : decode cX1_allMeetIn 63 = .ok (.checkcast 180, 3) := dk_192 0 180 (dk_at dksX1_allMeetIn_2 15 rfl rfl)
theorem dX1_allMeetIn_66 : decode cX1_allMeetIn 66 = .ok (.getfield 197, 3) := dk_180 0 197 (dk_at dksX1_allMeetIn_2 18 rfl rfl)
theorem dX1_allMeetIn_69 : decode cX1_allMeetIn 69 = .ok (.invokevirtual 189, 3) := dk_182 0 189 (dk_at dksX1_allMeetIn_2 21 rfl rfl)
theorem dX1_allMeetIn_72 : decode cX1_allMeetIn 72 = .ok (.invokestatic 194, 3) := dk_184 0 194 (dk_at dksX1_allMeetIn_3 0 rfl rfl)
theorem dX1_allMeetIn_75 : decode cX1_allMeetIn 75 = .ok (.iconst (-1), 1) := dk_2 (dk_at dksX1_allMeetIn_3 3 rfl rfl)
theorem dX1_allMeetIn_76 : decode cX1_allMeetIn 76 = .ok (.istore 6, 2) := dk_54 6 (dk_at dksX1_allMeetIn_3 4 rfl rfl)
theorem dX1_allMeetIn_78 : decode cX1_allMeetIn 78 = .ok (.iconst 1, 1) := dk_4 (dk_at dksX1_allMeetIn_3 6 rfl rfl)
theorem dX1_allMeetIn_79 : decode cX1_allMeetIn 79 = .ok (.istore 7, 2) := dk_54 7 (dk_at dksX1_allMeetIn_3 7 rfl rfl)
theorem dX1_allMeetIn_81 : decode cX1_allMeetIn 81 = .ok (.iload 7, 2) := dk_21 7 (dk_at dksX1_allMeetIn_3 9 rfl rfl)
theorem dX1_allMeetIn_83 : decode cX1_allMeetIn 83 = .ok (.sipush 1000, 3) := dk_17 3 232 (dk_at dksX1_allMeetIn_3 11 rfl rfl)
theorem dX1_allMeetIn_86 : decode cX1_allMeetIn 86 = .ok (.if_icmp .gt 93, 3) := dk_163 0 93 (dk_at dksX1_allMeetIn_3 14 rfl rfl)
theorem dX1_allMeetIn_89 : decode cX1_allMeetIn 89 = .ok (.iload 6, 2) := dk_21 6 (dk_at dksX1_allMeetIn_3 17 rfl rfl)
theorem dX1_allMeetIn_91 : decode cX1_allMeetIn 91 = .ok (.iconst (-1), 1) := dk_2 (dk_at dksX1_allMeetIn_3 19 rfl rfl)
theorem dX1_allMeetIn_92 : decode cX1_allMeetIn 92 = .ok (.if_icmp .ne 87, 3) := dk_160 0 87 (dk_at dksX1_allMeetIn_3 20 rfl rfl)
theorem dX1_allMeetIn_95 : decode cX1_allMeetIn 95 = .ok (.aload_n 0, 1) := dk_42 (dk_at dksX1_allMeetIn_3 23 rfl rfl)
theorem dX1_allMeetIn_96 : decode cX1_allMeetIn 96 = .ok (.getfield 56, 3) := dk_180 0 56 (dk_at dksX1_allMeetIn_4 0 rfl rfl)
theorem dX1_allMeetIn_99 : decode cX1_allMeetIn 99 = .ok (.iload_n 1, 1) := dk_27 (dk_at dksX1_allMeetIn_4 3 rfl rfl)
theorem dX1_allMeetIn_100 : decode cX1_allMeetIn 100 = .ok (.iload_n 2, 1) := dk_28 (dk_at dksX1_allMeetIn_4 4 rfl rfl)
theorem dX1_allMeetIn_101 : decode cX1_allMeetIn 101 = .ok (.iload 4, 2) := dk_21 4 (dk_at dksX1_allMeetIn_4 5 rfl rfl)
theorem dX1_allMeetIn_103 : decode cX1_allMeetIn 103 = .ok (.aload 5, 2) := dk_25 5 (dk_at dksX1_allMeetIn_4 7 rfl rfl)
theorem dX1_allMeetIn_105 : decode cX1_allMeetIn 105 = .ok (.iload 7, 2) := dk_21 7 (dk_at dksX1_allMeetIn_4 9 rfl rfl)
theorem dX1_allMeetIn_107 : decode cX1_allMeetIn 107 = .ok (.invokevirtual 300, 3) := dk_182 1 44 (dk_at dksX1_allMeetIn_4 11 rfl rfl)
theorem dX1_allMeetIn_110 : decode cX1_allMeetIn 110 = .ok (.istore 8, 2) := dk_54 8 (dk_at dksX1_allMeetIn_4 14 rfl rfl)
theorem dX1_allMeetIn_112 : decode cX1_allMeetIn 112 = .ok (.iload 8, 2) := dk_21 8 (dk_at dksX1_allMeetIn_4 16 rfl rfl)
theorem dX1_allMeetIn_114 : decode cX1_allMeetIn 114 = .ok (.ifCond .eq 25, 3) := dk_153 0 25 (dk_at dksX1_allMeetIn_4 18 rfl rfl)
theorem dX1_allMeetIn_117 : decode cX1_allMeetIn 117 = .ok (.aload_n 0, 1) := dk_42 (dk_at dksX1_allMeetIn_4 21 rfl rfl)
theorem dX1_allMeetIn_118 : decode cX1_allMeetIn 118 = .ok (.getfield 56, 3) := dk_180 0 56 (dk_at dksX1_allMeetIn_5 0 rfl rfl)
theorem dX1_allMeetIn_121 : decode cX1_allMeetIn 121 = .ok (.iload_n 1, 1) := dk_27 (dk_at dksX1_allMeetIn_5 3 rfl rfl)
theorem dX1_allMeetIn_122 : decode cX1_allMeetIn 122 = .ok (.iload_n 3, 1) := dk_29 (dk_at dksX1_allMeetIn_5 4 rfl rfl)
theorem dX1_allMeetIn_123 : decode cX1_allMeetIn 123 = .ok (.iload 4, 2) := dk_21 4 (dk_at dksX1_allMeetIn_5 5 rfl rfl)
theorem dX1_allMeetIn_125 : decode cX1_allMeetIn 125 = .ok (.aload 5, 2) := dk_25 5 (dk_at dksX1_allMeetIn_5 7 rfl rfl)
theorem dX1_allMeetIn_127 : decode cX1_allMeetIn 127 = .ok (.iload 7, 2) := dk_21 7 (dk_at dksX1_allMeetIn_5 9 rfl rfl)
theorem dX1_allMeetIn_129 : decode cX1_allMeetIn 129 = .ok (.invokevirtual 300, 3) := dk_182 1 44 (dk_at dksX1_allMeetIn_5 11 rfl rfl)
theorem dX1_allMeetIn_132 : decode cX1_allMeetIn 132 = .ok (.ifCond .eq 7, 3) := dk_153 0 7 (dk_at dksX1_allMeetIn_5 14 rfl rfl)
theorem dX1_allMeetIn_135 : decode cX1_allMeetIn 135 = .ok (.iconst 1, 1) := dk_4 (dk_at dksX1_allMeetIn_5 17 rfl rfl)
theorem dX1_allMeetIn_136 : decode cX1_allMeetIn 136 = .ok (.goto 4, 3) := dk_167 0 4 (dk_at dksX1_allMeetIn_5 18 rfl rfl)
theorem dX1_allMeetIn_139 : decode cX1_allMeetIn 139 = .ok (.iconst 0, 1) := dk_3 (dk_at dksX1_allMeetIn_5 21 rfl rfl)
theorem dX1_allMeetIn_140 : decode cX1_allMeetIn 140 = .ok (.istore 9, 2) := dk_54 9 (dk_at dksX1_allMeetIn_5 22 rfl rfl)
theorem dX1_allMeetIn_142 : decode cX1_allMeetIn 142 = .ok (.iload 9, 2) := dk_21 9 (dk_at dksX1_allMeetIn_6 0 rfl rfl)
theorem dX1_allMeetIn_144 : decode cX1_allMeetIn 144 = .ok (.ifCond .eq 26, 3) := dk_153 0 26 (dk_at dksX1_allMeetIn_6 2 rfl rfl)
theorem dX1_allMeetIn_147 : decode cX1_allMeetIn 147 = .ok (.aload_n 0, 1) := dk_42 (dk_at dksX1_allMeetIn_6 5 rfl rfl)
theorem dX1_allMeetIn_148 : decode cX1_allMeetIn 148 = .ok (.getfield 56, 3) := dk_180 0 56 (dk_at dksX1_allMeetIn_6 6 rfl rfl)
theorem dX1_allMeetIn_151 : decode cX1_allMeetIn 151 = .ok (.iload_n 2, 1) := dk_28 (dk_at dksX1_allMeetIn_6 9 rfl rfl)
theorem dX1_allMeetIn_152 : decode cX1_allMeetIn 152 = .ok (.iload_n 3, 1) := dk_29 (dk_at dksX1_allMeetIn_6 10 rfl rfl)
theorem dX1_allMeetIn_153 : decode cX1_allMeetIn 153 = .ok (.iload 4, 2) := dk_21 4 (dk_at dksX1_allMeetIn_6 11 rfl rfl)
theorem dX1_allMeetIn_155 : decode cX1_allMeetIn 155 = .ok (.aload 5, 2) := dk_25 5 (dk_at dksX1_allMeetIn_6 13 rfl rfl)
theorem dX1_allMeetIn_157 : decode cX1_allMeetIn 157 = .ok (.iload 7, 2) := dk_21 7 (dk_at dksX1_allMeetIn_6 15 rfl rfl)
theorem dX1_allMeetIn_159 : decode cX1_allMeetIn 159 = .ok (.invokevirtual 300, 3) := dk_182 1 44 (dk_at dksX1_allMeetIn_6 17 rfl rfl)
theorem dX1_allMeetIn_162 : decode cX1_allMeetIn 162 = .ok (.ifCond .eq 8, 3) := dk_153 0 8 (dk_at dksX1_allMeetIn_6 20 rfl rfl)
theorem dX1_allMeetIn_165 : decode cX1_allMeetIn 165 = .ok (.iload 7, 2) := dk_21 7 (dk_at dksX1_allMeetIn_7 0 rfl rfl)
theorem dX1_allMeetIn_167 : decode cX1_allMeetIn 167 = .ok (.goto 4, 3) := dk_167 0 4 (dk_at dksX1_allMeetIn_7 2 rfl rfl)
theorem dX1_allMeetIn_170 : decode cX1_allMeetIn 170 = .ok (.iconst (-1), 1) := dk_2 (dk_at dksX1_allMeetIn_7 5 rfl rfl)
theorem dX1_allMeetIn_171 : decode cX1_allMeetIn 171 = .ok (.istore 6, 2) := dk_54 6 (dk_at dksX1_allMeetIn_7 6 rfl rfl)
theorem dX1_allMeetIn_173 : decode cX1_allMeetIn 173 = .ok (.iinc 7 1, 3) := dk_132 7 1 (dk_at dksX1_allMeetIn_7 8 rfl rfl)
theorem dX1_allMeetIn_176 : decode cX1_allMeetIn 176 = .ok (.goto (-95), 3) := dk_167 255 161 (dk_at dksX1_allMeetIn_7 11 rfl rfl)
theorem dX1_allMeetIn_179 : decode cX1_allMeetIn 179 = .ok (.iload 6, 2) := dk_21 6 (dk_at dksX1_allMeetIn_7 14 rfl rfl)
theorem dX1_allMeetIn_181 : decode cX1_allMeetIn 181 = .ok (.iconst (-1), 1) := dk_2 (dk_at dksX1_allMeetIn_7 16 rfl rfl)
theorem dX1_allMeetIn_182 : decode cX1_allMeetIn 182 = .ok (.if_icmp .eq 7, 3) := dk_159 0 7 (dk_at dksX1_allMeetIn_7 17 rfl rfl)
theorem dX1_allMeetIn_185 : decode cX1_allMeetIn 185 = .ok (.iconst 1, 1) := dk_4 (dk_at dksX1_allMeetIn_7 20 rfl rfl)
theorem dX1_allMeetIn_186 : decode cX1_allMeetIn 186 = .ok (.goto 4, 3) := dk_167 0 4 (dk_at dksX1_allMeetIn_7 21 rfl rfl)
theorem dX1_allMeetIn_189 : decode cX1_allMeetIn 189 = .ok (.iconst 0, 1) := dk_3 (dk_at dksX1_allMeetIn_8 0 rfl rfl)
theorem dX1_allMeetIn_190 : decode cX1_allMeetIn 190 = .ok (.invokestatic 194, 3) := dk_184 0 194 (dk_at dksX1_allMeetIn_8 1 rfl rfl)
theorem dX1_allMeetIn_193 : decode cX1_allMeetIn 193 = .ok (.iload 6, 2) := dk_21 6 (dk_at dksX1_allMeetIn_8 4 rfl rfl)
theorem dX1_allMeetIn_195 : decode cX1_allMeetIn 195 = .ok (.ireturn, 1) := dk_172 (dk_at dksX1_allMeetIn_8 6 rfl rfl)
abbrev cX1_farthestIn : ByteArray := prog_1_method_66_code
def yX1_farthestIn : MethodName := ⟨RX1, "farthestIn", "(II)I"⟩
def dkwX1_farthestIn_4 : List UInt8 := [167, 255, 177, 21, 4, 172]
abbrev dktX1_farthestIn_4 : List UInt8 := dkwX1_farthestIn_4 ++ []
def dkwX1_farthestIn_3 : List UInt8 := [164, 0, 8, 21, 6, 167, 0, 5, 21, 4, 54, 4, 21, 5, 21, 7, 184, 1, 51, 54, 5, 132, 6, 1]
abbrev dktX1_farthestIn_3 : List UInt8 := dkwX1_farthestIn_3 ++ dktX1_farthestIn_4
def dkwX1_farthestIn_2 : List UInt8 := [45, 42, 180, 0, 56, 180, 0, 253, 21, 6, 96, 182, 1, 20, 184, 1, 48, 54, 7, 21, 7, 21, 5]
abbrev dktX1_farthestIn_2 : List UInt8 := dkwX1_farthestIn_2 ++ dktX1_farthestIn_3
def dkwX1_farthestIn_1 : List UInt8 := [42, 180, 0, 56, 27, 45, 42, 180, 0, 56, 180, 0, 253, 21, 6, 96, 182, 1, 20, 42, 180, 0, 56, 28]
abbrev dktX1_farthestIn_1 : List UInt8 := dkwX1_farthestIn_1 ++ dktX1_farthestIn_2
def dkwX1_farthestIn_0 : List UInt8 := [42, 27, 28, 182, 1, 40, 78, 2, 54, 4, 2, 54, 5, 4, 54, 6, 21, 6, 17, 3, 232, 163, 0, 77]
abbrev dktX1_farthestIn_0 : List UInt8 := dkwX1_farthestIn_0 ++ dktX1_farthestIn_1
theorem dksX1_farthestIn_0 : cX1_farthestIn.data.toList.drop 0 = dktX1_farthestIn_0 := by decide +kernel
theorem dksX1_farthestIn_1 : cX1_farthestIn.data.toList.drop 24 = dktX1_farthestIn_1 := dk_seg dksX1_farthestIn_0 24 rfl rfl
theorem dksX1_farthestIn_2 : cX1_farthestIn.data.toList.drop 48 = dktX1_farthestIn_2 := dk_seg dksX1_farthestIn_1 24 rfl rfl
theorem dksX1_farthestIn_3 : cX1_farthestIn.data.toList.drop 71 = dktX1_farthestIn_3 := dk_seg dksX1_farthestIn_2 23 rfl rfl
theorem dksX1_farthestIn_4 : cX1_farthestIn.data.toList.drop 95 = dktX1_farthestIn_4 := dk_seg dksX1_farthestIn_3 24 rfl rfl
theorem dX1_farthestIn_0 : decode cX1_farthestIn 0 = .ok (.aload_n 0, 1) := dk_42 (dk_at dksX1_farthestIn_0 0 rfl rfl)
theorem dX1_farthestIn_1 : decode cX1_farthestIn 1 = .ok (.iload_n 1, 1) := dk_27 (dk_at dksX1_farthestIn_0 1 rfl rfl)
theorem dX1_farthestIn_2 : decode cX1_farthestIn 2 = .ok (.iload_n 2, 1) := dk_28 (dk_at dksX1_farthestIn_0 2 rfl rfl)
theorem dX1_farthestIn_3 : decode cX1_farthestIn 3 = .ok (.invokevirtual 296, 3) := dk_182 1 40 (dk_at dksX1_farthestIn_0 3 rfl rfl)
theorem dX1_farthestIn_6 : decode cX1_farthestIn 6 = .ok (.astore_n 3, 1) := dk_78 (dk_at dksX1_farthestIn_0 6 rfl rfl)
theorem dX1_farthestIn_7 : decode cX1_farthestIn 7 = .ok (.iconst (-1), 1) := dk_2 (dk_at dksX1_farthestIn_0 7 rfl rfl)
theorem dX1_farthestIn_8 : decode cX1_farthestIn 8 = .ok (.istore 4, 2) := dk_54 4 (dk_at dksX1_farthestIn_0 8 rfl rfl)
theorem dX1_farthestIn_10 : decode cX1_farthestIn 10 = .ok (.iconst (-1), 1) := dk_2 (dk_at dksX1_farthestIn_0 10 rfl rfl)
theorem dX1_farthestIn_11 : decode cX1_farthestIn 11 = .ok (.istore 5, 2) := dk_54 5 (dk_at dksX1_farthestIn_0 11 rfl rfl)
theorem dX1_farthestIn_13 : decode cX1_farthestIn 13 = .ok (.iconst 1, 1) := dk_4 (dk_at dksX1_farthestIn_0 13 rfl rfl)
theorem dX1_farthestIn_14 : decode cX1_farthestIn 14 = .ok (.istore 6, 2) := dk_54 6 (dk_at dksX1_farthestIn_0 14 rfl rfl)
theorem dX1_farthestIn_16 : decode cX1_farthestIn 16 = .ok (.iload 6, 2) := dk_21 6 (dk_at dksX1_farthestIn_0 16 rfl rfl)
theorem dX1_farthestIn_18 : decode cX1_farthestIn 18 = .ok (.sipush 1000, 3) := dk_17 3 232 (dk_at dksX1_farthestIn_0 18 rfl rfl)
theorem dX1_farthestIn_21 : decode cX1_farthestIn 21 = .ok (.if_icmp .gt 77, 3) := dk_163 0 77 (dk_at dksX1_farthestIn_0 21 rfl rfl)
theorem dX1_farthestIn_24 : decode cX1_farthestIn 24 = .ok (.aload_n 0, 1) := dk_42 (dk_at dksX1_farthestIn_1 0 rfl rfl)
theorem dX1_farthestIn_25 : decode cX1_farthestIn 25 = .ok (.getfield 56, 3) := dk_180 0 56 (dk_at dksX1_farthestIn_1 1 rfl rfl)
theorem dX1_farthestIn_28 : decode cX1_farthestIn 28 = .ok (.iload_n 1, 1) := dk_27 (dk_at dksX1_farthestIn_1 4 rfl rfl)
theorem dX1_farthestIn_29 : decode cX1_farthestIn 29 = .ok (.aload_n 3, 1) := dk_45 (dk_at dksX1_farthestIn_1 5 rfl rfl)
theorem dX1_farthestIn_30 : decode cX1_farthestIn 30 = .ok (.aload_n 0, 1) := dk_42 (dk_at dksX1_farthestIn_1 6 rfl rfl)
theorem dX1_farthestIn_31 : decode cX1_farthestIn 31 = .ok (.getfield 56, 3) := dk_180 0 56 (dk_at dksX1_farthestIn_1 7 rfl rfl)
theorem dX1_farthestIn_34 : decode cX1_farthestIn 34 = .ok (.getfield 253, 3) := dk_180 0 253 (dk_at dksX1_farthestIn_1 10 rfl rfl)
theorem dX1_farthestIn_37 : decode cX1_farthestIn 37 = .ok (.iload 6, 2) := dk_21 6 (dk_at dksX1_farthestIn_1 13 rfl rfl)
theorem dX1_farthestIn_39 : decode cX1_farthestIn 39 = .ok (.iadd, 1) := dk_96 (dk_at dksX1_farthestIn_1 15 rfl rfl)
theorem dX1_farthestIn_40 : decode cX1_farthestIn 40 = .ok (.invokevirtual 276, 3) := dk_182 1 20 (dk_at dksX1_farthestIn_1 16 rfl rfl)
theorem dX1_farthestIn_43 : decode cX1_farthestIn 43 = .ok (.aload_n 0, 1) := dk_42 (dk_at dksX1_farthestIn_1 19 rfl rfl)
theorem dX1_farthestIn_44 : decode cX1_farthestIn 44 = .ok (.getfield 56, 3) := dk_180 0 56 (dk_at dksX1_farthestIn_1 20 rfl rfl)
theorem dX1_farthestIn_47 : decode cX1_farthestIn 47 = .ok (.iload_n 2, 1) := dk_28 (dk_at dksX1_farthestIn_1 23 rfl rfl)
theorem dX1_farthestIn_48 : decode cX1_farthestIn 48 = .ok (.aload_n 3, 1) := dk_45 (dk_at dksX1_farthestIn_2 0 rfl rfl)
theorem dX1_farthestIn_49 : decode cX1_farthestIn 49 = .ok (.aload_n 0, 1) := dk_42 (dk_at dksX1_farthestIn_2 1 rfl rfl)
theorem dX1_farthestIn_50 : decode cX1_farthestIn 50 = .ok (.getfield 56, 3) := dk_180 0 56 (dk_at dksX1_farthestIn_2 2 rfl rfl)
theorem dX1_farthestIn_53 : decode cX1_farthestIn 53 = .ok (.getfield 253, 3) := dk_180 0 253 (dk_at dksX1_farthestIn_2 5 rfl rfl)
theorem dX1_farthestIn_56 : decode cX1_farthestIn 56 = .ok (.iload 6, 2) := dk_21 6 (dk_at dksX1_farthestIn_2 8 rfl rfl)
theorem dX1_farthestIn_58 : decode cX1_farthestIn 58 = .ok (.iadd, 1) := dk_96 (dk_at dksX1_farthestIn_2 10 rfl rfl)
theorem dX1_farthestIn_59 : decode cX1_farthestIn 59 = .ok (.invokevirtual 276, 3) := dk_182 1 20 (dk_at dksX1_farthestIn_2 11 rfl rfl)
theorem dX1_farthestIn_62 : decode cX1_farthestIn 62 = .ok (.invokestatic 304, 3) := dk_184 1 48 (dk_at dksX1_farthestIn_2 14 rfl rfl)
theorem dX1_farthestIn_65 : decode cX1_farthestIn 65 = .ok (.istore 7, 2) := dk_54 7 (dk_at dksX1_farthestIn_2 17 rfl rfl)
theorem dX1_farthestIn_67 : decode cX1_farthestIn 67 = .ok (.iload 7, 2) := dk_21 7 (dk_at dksX1_farthestIn_2 19 rfl rfl)
theorem dX1_farthestIn_69 : decode cX1_farthestIn 69 = .ok (.iload 5, 2) := dk_21 5 (dk_at dksX1_farthestIn_2 21 rfl rfl)
theorem dX1_farthestIn_71 : decode cX1_farthestIn 71 = .ok (.if_icmp .le 8, 3) := dk_164 0 8 (dk_at dksX1_farthestIn_3 0 rfl rfl)
theorem dX1_farthestIn_74 : decode cX1_farthestIn 74 = .ok (.iload 6, 2) := dk_21 6 (dk_at dksX1_farthestIn_3 3 rfl rfl)
theorem dX1_farthestIn_76 : decode cX1_farthestIn 76 = .ok (.goto 5, 3) := dk_167 0 5 (dk_at dksX1_farthestIn_3 5 rfl rfl)
theorem dX1_farthestIn_79 : decode cX1_farthestIn 79 = .ok (.iload 4, 2) := dk_21 4 (dk_at dksX1_farthestIn_3 8 rfl rfl)
theorem dX1_farthestIn_81 : decode cX1_farthestIn 81 = .ok (.istore 4, 2) := dk_54 4 (dk_at dksX1_farthestIn_3 10 rfl rfl)
theorem dX1_farthestIn_83 : decode cX1_farthestIn 83 = .ok (.iload 5, 2) := dk_21 5 (dk_at dksX1_farthestIn_3 12 rfl rfl)
theorem dX1_farthestIn_85 : decode cX1_farthestIn 85 = .ok (.iload 7, 2) := dk_21 7 (dk_at dksX1_farthestIn_3 14 rfl rfl)
theorem dX1_farthestIn_87 : decode cX1_farthestIn 87 = .ok (.invokestatic 307, 3) := dk_184 1 51 (dk_at dksX1_farthestIn_3 16 rfl rfl)
theorem dX1_farthestIn_90 : decode cX1_farthestIn 90 = .ok (.istore 5, 2) := dk_54 5 (dk_at dksX1_farthestIn_3 19 rfl rfl)
theorem dX1_farthestIn_92 : decode cX1_farthestIn 92 = .ok (.iinc 6 1, 3) := dk_132 6 1 (dk_at dksX1_farthestIn_3 21 rfl rfl)
theorem dX1_farthestIn_95 : decode cX1_farthestIn 95 = .ok (.goto (-79), 3) := dk_167 255 177 (dk_at dksX1_farthestIn_4 0 rfl rfl)
theorem dX1_farthestIn_98 : decode cX1_farthestIn 98 = .ok (.iload 4, 2) := dk_21 4 (dk_at dksX1_farthestIn_4 3 rfl rfl)
theorem dX1_farthestIn_100 : decode cX1_farthestIn 100 = .ok (.ireturn, 1) := dk_172 (dk_at dksX1_farthestIn_4 5 rfl rfl)
abbrev cX1_bendFor : ByteArray := prog_1_method_67_code
def yX1_bendFor : MethodName := ⟨RX1, "bendFor", "(II)I"⟩
def dkwX1_bendFor_7 : List UInt8 := [21, 5, 54, 5, 132, 6, 1, 167, 255, 193, 21, 5, 172]
abbrev dktX1_bendFor_7 : List UInt8 := dkwX1_bendFor_7 ++ []
def dkwX1_bendFor_6 : List UInt8 := [104, 96, 133, 184, 0, 15, 28, 184, 1, 48, 54, 8, 21, 7, 21, 8, 162, 0, 8, 21, 6, 167, 0, 5]
abbrev dktX1_bendFor_6 : List UInt8 := dkwX1_bendFor_6 ++ dktX1_bendFor_7
def dkwX1_bendFor_5 : List UInt8 := [21, 4, 16, 60, 21, 6, 104, 96, 133, 184, 0, 15, 28, 184, 1, 48, 54, 7, 21, 4, 16, 60, 21, 5]
abbrev dktX1_bendFor_5 : List UInt8 := dkwX1_bendFor_5 ++ dktX1_bendFor_6
def dkwX1_bendFor_4 : List UInt8 := [184, 0, 15, 54, 4, 17, 255, 76, 54, 5, 17, 255, 76, 54, 6, 21, 6, 17, 0, 180, 163, 0, 61]
abbrev dktX1_bendFor_4 : List UInt8 := dkwX1_bendFor_4 ++ dktX1_bendFor_5
def dkwX1_bendFor_3 : List UInt8 := [16, 60, 42, 180, 0, 56, 180, 0, 177, 27, 182, 0, 166, 192, 0, 180, 180, 1, 17, 104, 100, 133]
abbrev dktX1_bendFor_3 : List UInt8 := dkwX1_bendFor_3 ++ dktX1_bendFor_4
def dkwX1_bendFor_2 : List UInt8 := [180, 0, 197, 182, 0, 235, 78, 42, 180, 0, 56, 27, 45, 42, 180, 0, 56, 180, 0, 253, 182, 1, 20]
abbrev dktX1_bendFor_2 : List UInt8 := dkwX1_bendFor_2 ++ dktX1_bendFor_3
def dkwX1_bendFor_1 : List UInt8 := [167, 0, 4, 3, 184, 0, 158, 42, 42, 180, 0, 56, 180, 0, 177, 27, 182, 0, 166, 192, 0, 180]
abbrev dktX1_bendFor_1 : List UInt8 := dkwX1_bendFor_1 ++ dktX1_bendFor_2
def dkwX1_bendFor_0 : List UInt8 := [42, 180, 0, 56, 27, 182, 0, 174, 153, 0, 19, 28, 133, 9, 20, 1, 54, 184, 0, 204, 153, 0, 7, 4]
abbrev dktX1_bendFor_0 : List UInt8 := dkwX1_bendFor_0 ++ dktX1_bendFor_1
theorem dksX1_bendFor_0 : cX1_bendFor.data.toList.drop 0 = dktX1_bendFor_0 := by decide +kernel
theorem dksX1_bendFor_1 : cX1_bendFor.data.toList.drop 24 = dktX1_bendFor_1 := dk_seg dksX1_bendFor_0 24 rfl rfl
theorem dksX1_bendFor_2 : cX1_bendFor.data.toList.drop 46 = dktX1_bendFor_2 := dk_seg dksX1_bendFor_1 22 rfl rfl
theorem dksX1_bendFor_3 : cX1_bendFor.data.toList.drop 69 = dktX1_bendFor_3 := dk_seg dksX1_bendFor_2 23 rfl rfl
theorem dksX1_bendFor_4 : cX1_bendFor.data.toList.drop 91 = dktX1_bendFor_4 := dk_seg dksX1_bendFor_3 22 rfl rfl
theorem dksX1_bendFor_5 : cX1_bendFor.data.toList.drop 114 = dktX1_bendFor_5 := dk_seg dksX1_bendFor_4 23 rfl rfl
theorem dksX1_bendFor_6 : cX1_bendFor.data.toList.drop 138 = dktX1_bendFor_6 := dk_seg dksX1_bendFor_5 24 rfl rfl
theorem dksX1_bendFor_7 : cX1_bendFor.data.toList.drop 162 = dktX1_bendFor_7 := dk_seg dksX1_bendFor_6 24 rfl rfl
theorem dX1_bendFor_0 : decode cX1_bendFor 0 = .ok (.aload_n 0, 1) := dk_42 (dk_at dksX1_bendFor_0 0 rfl rfl)
theorem dX1_bendFor_1 : decode cX1_bendFor 1 = .ok (.getfield 56, 3) := dk_180 0 56 (dk_at dksX1_bendFor_0 1 rfl rfl)
theorem dX1_bendFor_4 : decode cX1_bendFor 4 = .ok (.iload_n 1, 1) := dk_27 (dk_at dksX1_bendFor_0 4 rfl rfl)
theorem dX1_bendFor_5 : decode cX1_bendFor 5 = .ok (.invokevirtual 174, 3) := dk_182 0 174 (dk_at dksX1_bendFor_0 5 rfl rfl)
theorem dX1_bendFor_8 : decode cX1_bendFor 8 = .ok (.ifCond .eq 19, 3) := dk_153 0 19 (dk_at dksX1_bendFor_0 8 rfl rfl)
theorem dX1_bendFor_11 : decode cX1_bendFor 11 = .ok (.iload_n 2, 1) := dk_28 (dk_at dksX1_bendFor_0 11 rfl rfl)
theorem dX1_bendFor_12 : decode cX1_bendFor 12 = .ok (.i2l, 1) := dk_133 (dk_at dksX1_bendFor_0 12 rfl rfl)
theorem dX1_bendFor_13 : decode cX1_bendFor 13 = .ok (.lconst 0, 1) := dk_9 (dk_at dksX1_bendFor_0 13 rfl rfl)
theorem dX1_bendFor_14 : decode cX1_bendFor 14 = .ok (.ldc2_w 310, 3) := dk_20 1 54 (dk_at dksX1_bendFor_0 14 rfl rfl)
theorem dX1_bendFor_17 : decode cX1_bendFor 17 = .ok (.invokestatic 204, 3) := dk_184 0 204 (dk_at dksX1_bendFor_0 17 rfl rfl)
theorem dX1_bendFor_20 : decode cX1_bendFor 20 = .ok (.ifCond .eq 7, 3) := dk_153 0 7 (dk_at dksX1_bendFor_0 20 rfl rfl)
theorem dX1_bendFor_23 : decode cX1_bendFor 23 = .ok (.iconst 1, 1) := dk_4 (dk_at dksX1_bendFor_0 23 rfl rfl)
theorem dX1_bendFor_24 : decode cX1_bendFor 24 = .ok (.goto 4, 3) := dk_167 0 4 (dk_at dksX1_bendFor_1 0 rfl rfl)
theorem dX1_bendFor_27 : decode cX1_bendFor 27 = .ok (.iconst 0, 1) := dk_3 (dk_at dksX1_bendFor_1 3 rfl rfl)
theorem dX1_bendFor_28 : decode cX1_bendFor 28 = .ok (.invokestatic 158, 3) := dk_184 0 158 (dk_at dksX1_bendFor_1 4 rfl rfl)
theorem dX1_bendFor_31 : decode cX1_bendFor 31 = .ok (.aload_n 0, 1) := dk_42 (dk_at dksX1_bendFor_1 7 rfl rfl)
theorem dX1_bendFor_32 : decode cX1_bendFor 32 = .ok (.aload_n 0, 1) := dk_42 (dk_at dksX1_bendFor_1 8 rfl rfl)
theorem dX1_bendFor_33 : decode cX1_bendFor 33 = .ok (.getfield 56, 3) := dk_180 0 56 (dk_at dksX1_bendFor_1 9 rfl rfl)
theorem dX1_bendFor_36 : decode cX1_bendFor 36 = .ok (.getfield 177, 3) := dk_180 0 177 (dk_at dksX1_bendFor_1 12 rfl rfl)
theorem dX1_bendFor_39 : decode cX1_bendFor 39 = .ok (.iload_n 1, 1) := dk_27 (dk_at dksX1_bendFor_1 15 rfl rfl)
theorem dX1_bendFor_40 : decode cX1_bendFor 40 = .ok (.invokevirtual 166, 3) := dk_182 0 166 (dk_at dksX1_bendFor_1 16 rfl rfl)
theorem dX1_bendFor_43 : decode cX1_bendFor 43 = .ok (.checkcast 180, 3) := dk_192 0 180 (dk_at dksX1_bendFor_1 19 rfl rfl)
theorem dX1_bendFor_46 : decode cX1_bendFor 46 = .ok (.getfield 197, 3) := dk_180 0 197 (dk_at dksX1_bendFor_2 0 rfl rfl)
theorem dX1_bendFor_49 : decode cX1_bendFor 49 = .ok (.invokevirtual 235, 3) := dk_182 0 235 (dk_at dksX1_bendFor_2 3 rfl rfl)
theorem dX1_bendFor_52 : decode cX1_bendFor 52 = .ok (.astore_n 3, 1) := dk_78 (dk_at dksX1_bendFor_2 6 rfl rfl)
theorem dX1_bendFor_53 : decode cX1_bendFor 53 = .ok (.aload_n 0, 1) := dk_42 (dk_at dksX1_bendFor_2 7 rfl rfl)
theorem dX1_bendFor_54 : decode cX1_bendFor 54 = .ok (.getfield 56, 3) := dk_180 0 56 (dk_at dksX1_bendFor_2 8 rfl rfl)
theorem dX1_bendFor_57 : decode cX1_bendFor 57 = .ok (.iload_n 1, 1) := dk_27 (dk_at dksX1_bendFor_2 11 rfl rfl)
theorem dX1_bendFor_58 : decode cX1_bendFor 58 = .ok (.aload_n 3, 1) := dk_45 (dk_at dksX1_bendFor_2 12 rfl rfl)
theorem dX1_bendFor_59 : decode cX1_bendFor 59 = .ok (.aload_n 0, 1) := dk_42 (dk_at dksX1_bendFor_2 13 rfl rfl)
theorem dX1_bendFor_60 : decode cX1_bendFor 60 = .ok (.getfield 56, 3) := dk_180 0 56 (dk_at dksX1_bendFor_2 14 rfl rfl)
theorem dX1_bendFor_63 : decode cX1_bendFor 63 = .ok (.getfield 253, 3) := dk_180 0 253 (dk_at dksX1_bendFor_2 17 rfl rfl)
theorem dX1_bendFor_66 : decode cX1_bendFor 66 = .ok (.invokevirtual 276, 3) := dk_182 1 20 (dk_at dksX1_bendFor_2 20 rfl rfl)
theorem dX1_bendFor_69 : decode cX1_bendFor 69 = .ok (.bipush 60, 2) := dk_16 60 (dk_at dksX1_bendFor_3 0 rfl rfl)
theorem dX1_bendFor_71 : decode cX1_bendFor 71 = .ok (.aload_n 0, 1) := dk_42 (dk_at dksX1_bendFor_3 2 rfl rfl)
theorem dX1_bendFor_72 : decode cX1_bendFor 72 = .ok (.getfield 56, 3) := dk_180 0 56 (dk_at dksX1_bendFor_3 3 rfl rfl)
theorem dX1_bendFor_75 : decode cX1_bendFor 75 = .ok (.getfield 177, 3) := dk_180 0 177 (dk_at dksX1_bendFor_3 6 rfl rfl)
theorem dX1_bendFor_78 : decode cX1_bendFor 78 = .ok (.iload_n 1, 1) := dk_27 (dk_at dksX1_bendFor_3 9 rfl rfl)
theorem dX1_bendFor_79 : decode cX1_bendFor 79 = .ok (.invokevirtual 166, 3) := dk_182 0 166 (dk_at dksX1_bendFor_3 10 rfl rfl)
theorem dX1_bendFor_82 : decode cX1_bendFor 82 = .ok (.checkcast 180, 3) := dk_192 0 180 (dk_at dksX1_bendFor_3 13 rfl rfl)
theorem dX1_bendFor_85 : decode cX1_bendFor 85 = .ok (.getfield 273, 3) := dk_180 1 17 (dk_at dksX1_bendFor_3 16 rfl rfl)
theorem dX1_bendFor_88 : decode cX1_bendFor 88 = .ok (.imul, 1) := dk_104 (dk_at dksX1_bendFor_3 19 rfl rfl)
theorem dX1_bendFor_89 : decode cX1_bendFor 89 = .ok (.isub, 1) := dk_100 (dk_at dksX1_bendFor_3 20 rfl rfl)
theorem dX1_bendFor_90 : decode cX1_bendFor 90 = .ok (.i2l, 1) := dk_133 (dk_at dksX1_bendFor_3 21 rfl rfl)
theorem dX1_bendFor_91 : decode cX1_bendFor 91 = .ok (.invokestatic 15, 3) := dk_184 0 15 (dk_at dksX1_bendFor_4 0 rfl rfl)
theorem dX1_bendFor_94 : decode cX1_bendFor 94 = .ok (.istore 4, 2) := dk_54 4 (dk_at dksX1_bendFor_4 3 rfl rfl)
theorem dX1_bendFor_96 : decode cX1_bendFor 96 = .ok (.sipush (-180), 3) := dk_17 255 76 (dk_at dksX1_bendFor_4 5 rfl rfl)
theorem dX1_bendFor_99 : decode cX1_bendFor 99 = .ok (.istore 5, 2) := dk_54 5 (dk_at dksX1_bendFor_4 8 rfl rfl)
theorem dX1_bendFor_101 : decode cX1_bendFor 101 = .ok (.sipush (-180), 3) := dk_17 255 76 (dk_at dksX1_bendFor_4 10 rfl rfl)
theorem dX1_bendFor_104 : decode cX1_bendFor 104 = .ok (.istore 6, 2) := dk_54 6 (dk_at dksX1_bendFor_4 13 rfl rfl)
theorem dX1_bendFor_106 : decode cX1_bendFor 106 = .ok (.iload 6, 2) := dk_21 6 (dk_at dksX1_bendFor_4 15 rfl rfl)
theorem dX1_bendFor_108 : decode cX1_bendFor 108 = .ok (.sipush 180, 3) := dk_17 0 180 (dk_at dksX1_bendFor_4 17 rfl rfl)
theorem dX1_bendFor_111 : decode cX1_bendFor 111 = .ok (.if_icmp .gt 61, 3) := dk_163 0 61 (dk_at dksX1_bendFor_4 20 rfl rfl)
theorem dX1_bendFor_114 : decode cX1_bendFor 114 = .ok (.iload 4, 2) := dk_21 4 (dk_at dksX1_bendFor_5 0 rfl rfl)
theorem dX1_bendFor_116 : decode cX1_bendFor 116 = .ok (.bipush 60, 2) := dk_16 60 (dk_at dksX1_bendFor_5 2 rfl rfl)
theorem dX1_bendFor_118 : decode cX1_bendFor 118 = .ok (.iload 6, 2) := dk_21 6 (dk_at dksX1_bendFor_5 4 rfl rfl)
theorem dX1_bendFor_120 : decode cX1_bendFor 120 = .ok (.imul, 1) := dk_104 (dk_at dksX1_bendFor_5 6 rfl rfl)
theorem dX1_bendFor_121 : decode cX1_bendFor 121 = .ok (.iadd, 1) := dk_96 (dk_at dksX1_bendFor_5 7 rfl rfl)
theorem dX1_bendFor_122 : decode cX1_bendFor 122 = .ok (.i2l, 1) := dk_133 (dk_at dksX1_bendFor_5 8 rfl rfl)
theorem dX1_bendFor_123 : decode cX1_bendFor 123 = .ok (.invokestatic 15, 3) := dk_184 0 15 (dk_at dksX1_bendFor_5 9 rfl rfl)
theorem dX1_bendFor_126 : decode cX1_bendFor 126 = .ok (.iload_n 2, 1) := dk_28 (dk_at dksX1_bendFor_5 12 rfl rfl)
theorem dX1_bendFor_127 : decode cX1_bendFor 127 = .ok (.invokestatic 304, 3) := dk_184 1 48 (dk_at dksX1_bendFor_5 13 rfl rfl)
theorem dX1_bendFor_130 : decode cX1_bendFor 130 = .ok (.istore 7, 2) := dk_54 7 (dk_at dksX1_bendFor_5 16 rfl rfl)
theorem dX1_bendFor_132 : decode cX1_bendFor 132 = .ok (.iload 4, 2) := dk_21 4 (dk_at dksX1_bendFor_5 18 rfl rfl)
theorem dX1_bendFor_134 : decode cX1_bendFor 134 = .ok (.bipush 60, 2) := dk_16 60 (dk_at dksX1_bendFor_5 20 rfl rfl)
theorem dX1_bendFor_136 : decode cX1_bendFor 136 = .ok (.iload 5, 2) := dk_21 5 (dk_at dksX1_bendFor_5 22 rfl rfl)
theorem dX1_bendFor_138 : decode cX1_bendFor 138 = .ok (.imul, 1) := dk_104 (dk_at dksX1_bendFor_6 0 rfl rfl)
theorem dX1_bendFor_139 : decode cX1_bendFor 139 = .ok (.iadd, 1) := dk_96 (dk_at dksX1_bendFor_6 1 rfl rfl)
theorem dX1_bendFor_140 : decode cX1_bendFor 140 = .ok (.i2l, 1) := dk_133 (dk_at dksX1_bendFor_6 2 rfl rfl)
theorem dX1_bendFor_141 : decode cX1_bendFor 141 = .ok (.invokestatic 15, 3) := dk_184 0 15 (dk_at dksX1_bendFor_6 3 rfl rfl)
theorem dX1_bendFor_144 : decode cX1_bendFor 144 = .ok (.iload_n 2, 1) := dk_28 (dk_at dksX1_bendFor_6 6 rfl rfl)
theorem dX1_bendFor_145 : decode cX1_bendFor 145 = .ok (.invokestatic 304, 3) := dk_184 1 48 (dk_at dksX1_bendFor_6 7 rfl rfl)
theorem dX1_bendFor_148 : decode cX1_bendFor 148 = .ok (.istore 8, 2) := dk_54 8 (dk_at dksX1_bendFor_6 10 rfl rfl)
theorem dX1_bendFor_150 : decode cX1_bendFor 150 = .ok (.iload 7, 2) := dk_21 7 (dk_at dksX1_bendFor_6 12 rfl rfl)
theorem dX1_bendFor_152 : decode cX1_bendFor 152 = .ok (.iload 8, 2) := dk_21 8 (dk_at dksX1_bendFor_6 14 rfl rfl)
theorem dX1_bendFor_154 : decode cX1_bendFor 154 = .ok (.if_icmp .ge 8, 3) := dk_162 0 8 (dk_at dksX1_bendFor_6 16 rfl rfl)
theorem dX1_bendFor_157 : decode cX1_bendFor 157 = .ok (.iload 6, 2) := dk_21 6 (dk_at dksX1_bendFor_6 19 rfl rfl)
theorem dX1_bendFor_159 : decode cX1_bendFor 159 = .ok (.goto 5, 3) := dk_167 0 5 (dk_at dksX1_bendFor_6 21 rfl rfl)
theorem dX1_bendFor_162 : decode cX1_bendFor 162 = .ok (.iload 5, 2) := dk_21 5 (dk_at dksX1_bendFor_7 0 rfl rfl)
theorem dX1_bendFor_164 : decode cX1_bendFor 164 = .ok (.istore 5, 2) := dk_54 5 (dk_at dksX1_bendFor_7 2 rfl rfl)
theorem dX1_bendFor_166 : decode cX1_bendFor 166 = .ok (.iinc 6 1, 3) := dk_132 6 1 (dk_at dksX1_bendFor_7 4 rfl rfl)
theorem dX1_bendFor_169 : decode cX1_bendFor 169 = .ok (.goto (-63), 3) := dk_167 255 193 (dk_at dksX1_bendFor_7 7 rfl rfl)
theorem dX1_bendFor_172 : decode cX1_bendFor 172 = .ok (.iload 5, 2) := dk_21 5 (dk_at dksX1_bendFor_7 10 rfl rfl)
theorem dX1_bendFor_174 : decode cX1_bendFor 174 = .ok (.ireturn, 1) := dk_172 (dk_at dksX1_bendFor_7 12 rfl rfl)
abbrev cX1_dayOf : ByteArray := prog_1_method_74_code
def yX1_dayOf : MethodName := ⟨RX1, "dayOf", "(III)I"⟩
def dkwX1_dayOf_2 : List UInt8 := [28, 184, 1, 70, 29, 96, 4, 100, 172]
abbrev dktX1_dayOf_2 : List UInt8 := dkwX1_dayOf_2 ++ []
def dkwX1_dayOf_1 : List UInt8 := [4, 167, 0, 4, 3, 184, 0, 158, 29, 133, 10, 27, 28, 184, 0, 30, 133, 184, 0, 204, 184, 0, 158, 27]
abbrev dktX1_dayOf_1 : List UInt8 := dkwX1_dayOf_1 ++ dktX1_dayOf_2
def dkwX1_dayOf_0 : List UInt8 := [27, 133, 10, 20, 1, 66, 184, 0, 204, 153, 0, 19, 28, 133, 10, 20, 1, 68, 184, 0, 204, 153, 0, 7]
abbrev dktX1_dayOf_0 : List UInt8 := dkwX1_dayOf_0 ++ dktX1_dayOf_1
theorem dksX1_dayOf_0 : cX1_dayOf.data.toList.drop 0 = dktX1_dayOf_0 := by decide +kernel
theorem dksX1_dayOf_1 : cX1_dayOf.data.toList.drop 24 = dktX1_dayOf_1 := dk_seg dksX1_dayOf_0 24 rfl rfl
theorem dksX1_dayOf_2 : cX1_dayOf.data.toList.drop 48 = dktX1_dayOf_2 := dk_seg dksX1_dayOf_1 24 rfl rfl
theorem dX1_dayOf_0 : decode cX1_dayOf 0 = .ok (.iload_n 1, 1) := dk_27 (dk_at dksX1_dayOf_0 0 rfl rfl)
theorem dX1_dayOf_1 : decode cX1_dayOf 1 = .ok (.i2l, 1) := dk_133 (dk_at dksX1_dayOf_0 1 rfl rfl)
theorem dX1_dayOf_2 : decode cX1_dayOf 2 = .ok (.lconst 1, 1) := dk_10 (dk_at dksX1_dayOf_0 2 rfl rfl)
theorem dX1_dayOf_3 : decode cX1_dayOf 3 = .ok (.ldc2_w 322, 3) := dk_20 1 66 (dk_at dksX1_dayOf_0 3 rfl rfl)
theorem dX1_dayOf_6 : decode cX1_dayOf 6 = .ok (.invokestatic 204, 3) := dk_184 0 204 (dk_at dksX1_dayOf_0 6 rfl rfl)
theorem dX1_dayOf_9 : decode cX1_dayOf 9 = .ok (.ifCond .eq 19, 3) := dk_153 0 19 (dk_at dksX1_dayOf_0 9 rfl rfl)
theorem dX1_dayOf_12 : decode cX1_dayOf 12 = .ok (.iload_n 2, 1) := dk_28 (dk_at dksX1_dayOf_0 12 rfl rfl)
theorem dX1_dayOf_13 : decode cX1_dayOf 13 = .ok (.i2l, 1) := dk_133 (dk_at dksX1_dayOf_0 13 rfl rfl)
theorem dX1_dayOf_14 : decode cX1_dayOf 14 = .ok (.lconst 1, 1) := dk_10 (dk_at dksX1_dayOf_0 14 rfl rfl)
theorem dX1_dayOf_15 : decode cX1_dayOf 15 = .ok (.ldc2_w 324, 3) := dk_20 1 68 (dk_at dksX1_dayOf_0 15 rfl rfl)
theorem dX1_dayOf_18 : decode cX1_dayOf 18 = .ok (.invokestatic 204, 3) := dk_184 0 204 (dk_at dksX1_dayOf_0 18 rfl rfl)
theorem dX1_dayOf_21 : decode cX1_dayOf 21 = .ok (.ifCond .eq 7, 3) := dk_153 0 7 (dk_at dksX1_dayOf_0 21 rfl rfl)
theorem dX1_dayOf_24 : decode cX1_dayOf 24 = .ok (.iconst 1, 1) := dk_4 (dk_at dksX1_dayOf_1 0 rfl rfl)
theorem dX1_dayOf_25 : decode cX1_dayOf 25 = .ok (.goto 4, 3) := dk_167 0 4 (dk_at dksX1_dayOf_1 1 rfl rfl)
theorem dX1_dayOf_28 : decode cX1_dayOf 28 = .ok (.iconst 0, 1) := dk_3 (dk_at dksX1_dayOf_1 4 rfl rfl)
theorem dX1_dayOf_29 : decode cX1_dayOf 29 = .ok (.invokestatic 158, 3) := dk_184 0 158 (dk_at dksX1_dayOf_1 5 rfl rfl)
theorem dX1_dayOf_32 : decode cX1_dayOf 32 = .ok (.iload_n 3, 1) := dk_29 (dk_at dksX1_dayOf_1 8 rfl rfl)
theorem dX1_dayOf_33 : decode cX1_dayOf 33 = .ok (.i2l, 1) := dk_133 (dk_at dksX1_dayOf_1 9 rfl rfl)
theorem dX1_dayOf_34 : decode cX1_dayOf 34 = .ok (.lconst 1, 1) := dk_10 (dk_at dksX1_dayOf_1 10 rfl rfl)
theorem dX1_dayOf_35 : decode cX1_dayOf 35 = .ok (.iload_n 1, 1) := dk_27 (dk_at dksX1_dayOf_1 11 rfl rfl)
theorem dX1_dayOf_36 : decode cX1_dayOf 36 = .ok (.iload_n 2, 1) := dk_28 (dk_at dksX1_dayOf_1 12 rfl rfl)
theorem dX1_dayOf_37 : decode cX1_dayOf 37 = .ok (.invokestatic 30, 3) := dk_184 0 30 (dk_at dksX1_dayOf_1 13 rfl rfl)
theorem dX1_dayOf_40 : decode cX1_dayOf 40 = .ok (.i2l, 1) := dk_133 (dk_at dksX1_dayOf_1 16 rfl rfl)
theorem dX1_dayOf_41 : decode cX1_dayOf 41 = .ok (.invokestatic 204, 3) := dk_184 0 204 (dk_at dksX1_dayOf_1 17 rfl rfl)
theorem dX1_dayOf_44 : decode cX1_dayOf 44 = .ok (.invokestatic 158, 3) := dk_184 0 158 (dk_at dksX1_dayOf_1 20 rfl rfl)
theorem dX1_dayOf_47 : decode cX1_dayOf 47 = .ok (.iload_n 1, 1) := dk_27 (dk_at dksX1_dayOf_1 23 rfl rfl)
theorem dX1_dayOf_48 : decode cX1_dayOf 48 = .ok (.iload_n 2, 1) := dk_28 (dk_at dksX1_dayOf_2 0 rfl rfl)
theorem dX1_dayOf_49 : decode cX1_dayOf 49 = .ok (.invokestatic 326, 3) := dk_184 1 70 (dk_at dksX1_dayOf_2 1 rfl rfl)
theorem dX1_dayOf_52 : decode cX1_dayOf 52 = .ok (.iload_n 3, 1) := dk_29 (dk_at dksX1_dayOf_2 4 rfl rfl)
theorem dX1_dayOf_53 : decode cX1_dayOf 53 = .ok (.iadd, 1) := dk_96 (dk_at dksX1_dayOf_2 5 rfl rfl)
theorem dX1_dayOf_54 : decode cX1_dayOf 54 = .ok (.iconst 1, 1) := dk_4 (dk_at dksX1_dayOf_2 6 rfl rfl)
theorem dX1_dayOf_55 : decode cX1_dayOf 55 = .ok (.isub, 1) := dk_100 (dk_at dksX1_dayOf_2 7 rfl rfl)
theorem dX1_dayOf_56 : decode cX1_dayOf 56 = .ok (.ireturn, 1) := dk_172 (dk_at dksX1_dayOf_2 8 rfl rfl)
abbrev cX1_daysUntil : ByteArray := prog_1_method_76_code
def yX1_daysUntil : MethodName := ⟨RX1, "daysUntil", "(II)I"⟩
def dkwX1_daysUntil_5 : List UInt8 := [180, 0, 56, 180, 0, 253, 100, 167, 0, 4, 2, 54, 4, 132, 5, 1, 167, 255, 193, 21, 4, 172]
abbrev dktX1_daysUntil_5 : List UInt8 := dkwX1_daysUntil_5 ++ []
def dkwX1_daysUntil_4 : List UInt8 := [4, 100, 167, 0, 4, 2, 54, 6, 21, 6, 42, 180, 0, 56, 180, 0, 253, 164, 0, 16, 21, 6, 42]
abbrev dktX1_daysUntil_4 : List UInt8 := dkwX1_daysUntil_4 ++ dktX1_daysUntil_5
def dkwX1_daysUntil_3 : List UInt8 := [21, 4, 2, 160, 0, 63, 28, 21, 5, 27, 184, 0, 30, 163, 0, 16, 21, 5, 27, 184, 1, 70, 28, 96]
abbrev dktX1_daysUntil_3 : List UInt8 := dkwX1_daysUntil_3 ++ dktX1_daysUntil_4
def dkwX1_daysUntil_2 : List UInt8 := [184, 0, 194, 42, 180, 0, 56, 180, 0, 253, 184, 1, 60, 17, 39, 16, 108, 62, 2, 54, 4, 29, 54, 5]
abbrev dktX1_daysUntil_2 : List UInt8 := dkwX1_daysUntil_2 ++ dktX1_daysUntil_3
def dkwX1_daysUntil_1 : List UInt8 := [4, 167, 0, 4, 3, 184, 0, 158, 28, 7, 27, 184, 0, 30, 163, 0, 7, 4, 167, 0, 4, 3]
abbrev dktX1_daysUntil_1 : List UInt8 := dkwX1_daysUntil_1 ++ dktX1_daysUntil_2
def dkwX1_daysUntil_0 : List UInt8 := [27, 133, 10, 20, 1, 68, 184, 0, 204, 153, 0, 19, 28, 133, 10, 20, 1, 73, 184, 0, 204, 153, 0, 7]
abbrev dktX1_daysUntil_0 : List UInt8 := dkwX1_daysUntil_0 ++ dktX1_daysUntil_1
theorem dksX1_daysUntil_0 : cX1_daysUntil.data.toList.drop 0 = dktX1_daysUntil_0 := by decide +kernel
theorem dksX1_daysUntil_1 : cX1_daysUntil.data.toList.drop 24 = dktX1_daysUntil_1 := dk_seg dksX1_daysUntil_0 24 rfl rfl
theorem dksX1_daysUntil_2 : cX1_daysUntil.data.toList.drop 46 = dktX1_daysUntil_2 := dk_seg dksX1_daysUntil_1 22 rfl rfl
theorem dksX1_daysUntil_3 : cX1_daysUntil.data.toList.drop 70 = dktX1_daysUntil_3 := dk_seg dksX1_daysUntil_2 24 rfl rfl
theorem dksX1_daysUntil_4 : cX1_daysUntil.data.toList.drop 94 = dktX1_daysUntil_4 := dk_seg dksX1_daysUntil_3 24 rfl rfl
theorem dksX1_daysUntil_5 : cX1_daysUntil.data.toList.drop 117 = dktX1_daysUntil_5 := dk_seg dksX1_daysUntil_4 23 rfl rfl
theorem dX1_daysUntil_0 : decode cX1_daysUntil 0 = .ok (.iload_n 1, 1) := dk_27 (dk_at dksX1_daysUntil_0 0 rfl rfl)
theorem dX1_daysUntil_1 : decode cX1_daysUntil 1 = .ok (.i2l, 1) := dk_133 (dk_at dksX1_daysUntil_0 1 rfl rfl)
theorem dX1_daysUntil_2 : decode cX1_daysUntil 2 = .ok (.lconst 1, 1) := dk_10 (dk_at dksX1_daysUntil_0 2 rfl rfl)
theorem dX1_daysUntil_3 : decode cX1_daysUntil 3 = .ok (.ldc2_w 324, 3) := dk_20 1 68 (dk_at dksX1_daysUntil_0 3 rfl rfl)
theorem dX1_daysUntil_6 : decode cX1_daysUntil 6 = .ok (.invokestatic 204, 3) := dk_184 0 204 (dk_at dksX1_daysUntil_0 6 rfl rfl)
theorem dX1_daysUntil_9 : decode cX1_daysUntil 9 = .ok (.ifCond .eq 19, 3) := dk_153 0 19 (dk_at dksX1_daysUntil_0 9 rfl rfl)
theorem dX1_daysUntil_12 : decode cX1_daysUntil 12 = .ok (.iload_n 2, 1) := dk_28 (dk_at dksX1_daysUntil_0 12 rfl rfl)
theorem dX1_daysUntil_13 : decode cX1_daysUntil 13 = .ok (.i2l, 1) := dk_133 (dk_at dksX1_daysUntil_0 13 rfl rfl)
theorem dX1_daysUntil_14 : decode cX1_daysUntil 14 = .ok (.lconst 1, 1) := dk_10 (dk_at dksX1_daysUntil_0 14 rfl rfl)
theorem dX1_daysUntil_15 : decode cX1_daysUntil 15 = .ok (.ldc2_w 329, 3) := dk_20 1 73 (dk_at dksX1_daysUntil_0 15 rfl rfl)
theorem dX1_daysUntil_18 : decode cX1_daysUntil 18 = .ok (.invokestatic 204, 3) := dk_184 0 204 (dk_at dksX1_daysUntil_0 18 rfl rfl)
theorem dX1_daysUntil_21 : decode cX1_daysUntil 21 = .ok (.ifCond .eq 7, 3) := dk_153 0 7 (dk_at dksX1_daysUntil_0 21 rfl rfl)
theorem dX1_daysUntil_24 : decode cX1_daysUntil 24 = .ok (.iconst 1, 1) := dk_4 (dk_at dksX1_daysUntil_1 0 rfl rfl)
theorem dX1_daysUntil_25 : decode cX1_daysUntil 25 = .ok (.goto 4, 3) := dk_167 0 4 (dk_at dksX1_daysUntil_1 1 rfl rfl)
theorem dX1_daysUntil_28 : decode cX1_daysUntil 28 = .ok (.iconst 0, 1) := dk_3 (dk_at dksX1_daysUntil_1 4 rfl rfl)
theorem dX1_daysUntil_29 : decode cX1_daysUntil 29 = .ok (.invokestatic 158, 3) := dk_184 0 158 (dk_at dksX1_daysUntil_1 5 rfl rfl)
theorem dX1_daysUntil_32 : decode cX1_daysUntil 32 = .ok (.iload_n 2, 1) := dk_28 (dk_at dksX1_daysUntil_1 8 rfl rfl)
theorem dX1_daysUntil_33 : decode cX1_daysUntil 33 = .ok (.iconst 4, 1) := dk_7 (dk_at dksX1_daysUntil_1 9 rfl rfl)
theorem dX1_daysUntil_34 : decode cX1_daysUntil 34 = .ok (.iload_n 1, 1) := dk_27 (dk_at dksX1_daysUntil_1 10 rfl rfl)
theorem dX1_daysUntil_35 : decode cX1_daysUntil 35 = .ok (.invokestatic 30, 3) := dk_184 0 30 (dk_at dksX1_daysUntil_1 11 rfl rfl)
theorem dX1_daysUntil_38 : decode cX1_daysUntil 38 = .ok (.if_icmp .gt 7, 3) := dk_163 0 7 (dk_at dksX1_daysUntil_1 14 rfl rfl)
theorem dX1_daysUntil_41 : decode cX1_daysUntil 41 = .ok (.iconst 1, 1) := dk_4 (dk_at dksX1_daysUntil_1 17 rfl rfl)
theorem dX1_daysUntil_42 : decode cX1_daysUntil 42 = .ok (.goto 4, 3) := dk_167 0 4 (dk_at dksX1_daysUntil_1 18 rfl rfl)
theorem dX1_daysUntil_45 : decode cX1_daysUntil 45 = .ok (.iconst 0, 1) := dk_3 (dk_at dksX1_daysUntil_1 21 rfl rfl)
theorem dX1_daysUntil_46 : decode cX1_daysUntil 46 = .ok (.invokestatic 194, 3) := dk_184 0 194 (dk_at dksX1_daysUntil_2 0 rfl rfl)
theorem dX1_daysUntil_49 : decode cX1_daysUntil 49 = .ok (.aload_n 0, 1) := dk_42 (dk_at dksX1_daysUntil_2 3 rfl rfl)
theorem dX1_daysUntil_50 : decode cX1_daysUntil 50 = .ok (.getfield 56, 3) := dk_180 0 56 (dk_at dksX1_daysUntil_2 4 rfl rfl)
theorem dX1_daysUntil_53 : decode cX1_daysUntil 53 = .ok (.getfield 253, 3) := dk_180 0 253 (dk_at dksX1_daysUntil_2 7 rfl rfl)
theorem dX1_daysUntil_56 : decode cX1_daysUntil 56 = .ok (.invokestatic 316, 3) := dk_184 1 60 (dk_at dksX1_daysUntil_2 10 rfl rfl)
theorem dX1_daysUntil_59 : decode cX1_daysUntil 59 = .ok (.sipush 10000, 3) := dk_17 39 16 (dk_at dksX1_daysUntil_2 13 rfl rfl)
theorem dX1_daysUntil_62 : decode cX1_daysUntil 62 = .ok (.idiv, 1) := dk_108 (dk_at dksX1_daysUntil_2 16 rfl rfl)
theorem dX1_daysUntil_63 : decode cX1_daysUntil 63 = .ok (.istore_n 3, 1) := dk_62 (dk_at dksX1_daysUntil_2 17 rfl rfl)
theorem dX1_daysUntil_64 : decode cX1_daysUntil 64 = .ok (.iconst (-1), 1) := dk_2 (dk_at dksX1_daysUntil_2 18 rfl rfl)
theorem dX1_daysUntil_65 : decode cX1_daysUntil 65 = .ok (.istore 4, 2) := dk_54 4 (dk_at dksX1_daysUntil_2 19 rfl rfl)
theorem dX1_daysUntil_67 : decode cX1_daysUntil 67 = .ok (.iload_n 3, 1) := dk_29 (dk_at dksX1_daysUntil_2 21 rfl rfl)
theorem dX1_daysUntil_68 : decode cX1_daysUntil 68 = .ok (.istore 5, 2) := dk_54 5 (dk_at dksX1_daysUntil_2 22 rfl rfl)
theorem dX1_daysUntil_70 : decode cX1_daysUntil 70 = .ok (.iload 4, 2) := dk_21 4 (dk_at dksX1_daysUntil_3 0 rfl rfl)
theorem dX1_daysUntil_72 : decode cX1_daysUntil 72 = .ok (.iconst (-1), 1) := dk_2 (dk_at dksX1_daysUntil_3 2 rfl rfl)
theorem dX1_daysUntil_73 : decode cX1_daysUntil 73 = .ok (.if_icmp .ne 63, 3) := dk_160 0 63 (dk_at dksX1_daysUntil_3 3 rfl rfl)
theorem dX1_daysUntil_76 : decode cX1_daysUntil 76 = .ok (.iload_n 2, 1) := dk_28 (dk_at dksX1_daysUntil_3 6 rfl rfl)
theorem dX1_daysUntil_77 : decode cX1_daysUntil 77 = .ok (.iload 5, 2) := dk_21 5 (dk_at dksX1_daysUntil_3 7 rfl rfl)
theorem dX1_daysUntil_79 : decode cX1_daysUntil 79 = .ok (.iload_n 1, 1) := dk_27 (dk_at dksX1_daysUntil_3 9 rfl rfl)
theorem dX1_daysUntil_80 : decode cX1_daysUntil 80 = .ok (.invokestatic 30, 3) := dk_184 0 30 (dk_at dksX1_daysUntil_3 10 rfl rfl)
theorem dX1_daysUntil_83 : decode cX1_daysUntil 83 = .ok (.if_icmp .gt 16, 3) := dk_163 0 16 (dk_at dksX1_daysUntil_3 13 rfl rfl)
theorem dX1_daysUntil_86 : decode cX1_daysUntil 86 = .ok (.iload 5, 2) := dk_21 5 (dk_at dksX1_daysUntil_3 16 rfl rfl)
theorem dX1_daysUntil_88 : decode cX1_daysUntil 88 = .ok (.iload_n 1, 1) := dk_27 (dk_at dksX1_daysUntil_3 18 rfl rfl)
theorem dX1_daysUntil_89 : decode cX1_daysUntil 89 = .ok (.invokestatic 326, 3) := dk_184 1 70 (dk_at dksX1_daysUntil_3 19 rfl rfl)
theorem dX1_daysUntil_92 : decode cX1_daysUntil 92 = .ok (.iload_n 2, 1) := dk_28 (dk_at dksX1_daysUntil_3 22 rfl rfl)
theorem dX1_daysUntil_93 : decode cX1_daysUntil 93 = .ok (.iadd, 1) := dk_96 (dk_at dksX1_daysUntil_3 23 rfl rfl)
theorem dX1_daysUntil_94 : decode cX1_daysUntil 94 = .ok (.iconst 1, 1) := dk_4 (dk_at dksX1_daysUntil_4 0 rfl rfl)
theorem dX1_daysUntil_95 : decode cX1_daysUntil 95 = .ok (.isub, 1) := dk_100 (dk_at dksX1_daysUntil_4 1 rfl rfl)
theorem dX1_daysUntil_96 : decode cX1_daysUntil 96 = .ok (.goto 4, 3) := dk_167 0 4 (dk_at dksX1_daysUntil_4 2 rfl rfl)
theorem dX1_daysUntil_99 : decode cX1_daysUntil 99 = .ok (.iconst (-1), 1) := dk_2 (dk_at dksX1_daysUntil_4 5 rfl rfl)
theorem dX1_daysUntil_100 : decode cX1_daysUntil 100 = .ok (.istore 6, 2) := dk_54 6 (dk_at dksX1_daysUntil_4 6 rfl rfl)
theorem dX1_daysUntil_102 : decode cX1_daysUntil 102 = .ok (.iload 6, 2) := dk_21 6 (dk_at dksX1_daysUntil_4 8 rfl rfl)
theorem dX1_daysUntil_104 : decode cX1_daysUntil 104 = .ok (.aload_n 0, 1) := dk_42 (dk_at dksX1_daysUntil_4 10 rfl rfl)
theorem dX1_daysUntil_105 : decode cX1_daysUntil 105 = .ok (.getfield 56, 3) := dk_180 0 56 (dk_at dksX1_daysUntil_4 11 rfl rfl)
theorem dX1_daysUntil_108 : decode cX1_daysUntil 108 = .ok (.getfield 253, 3) := dk_180 0 253 (dk_at dksX1_daysUntil_4 14 rfl rfl)
theorem dX1_daysUntil_111 : decode cX1_daysUntil 111 = .ok (.if_icmp .le 16, 3) := dk_164 0 16 (dk_at dksX1_daysUntil_4 17 rfl rfl)
theorem dX1_daysUntil_114 : decode cX1_daysUntil 114 = .ok (.iload 6, 2) := dk_21 6 (dk_at dksX1_daysUntil_4 20 rfl rfl)
theorem dX1_daysUntil_116 : decode cX1_daysUntil 116 = .ok (.aload_n 0, 1) := dk_42 (dk_at dksX1_daysUntil_4 22 rfl rfl)
theorem dX1_daysUntil_117 : decode cX1_daysUntil 117 = .ok (.getfield 56, 3) := dk_180 0 56 (dk_at dksX1_daysUntil_5 0 rfl rfl)
theorem dX1_daysUntil_120 : decode cX1_daysUntil 120 = .ok (.getfield 253, 3) := dk_180 0 253 (dk_at dksX1_daysUntil_5 3 rfl rfl)
theorem dX1_daysUntil_123 : decode cX1_daysUntil 123 = .ok (.isub, 1) := dk_100 (dk_at dksX1_daysUntil_5 6 rfl rfl)
theorem dX1_daysUntil_124 : decode cX1_daysUntil 124 = .ok (.goto 4, 3) := dk_167 0 4 (dk_at dksX1_daysUntil_5 7 rfl rfl)
theorem dX1_daysUntil_127 : decode cX1_daysUntil 127 = .ok (.iconst (-1), 1) := dk_2 (dk_at dksX1_daysUntil_5 10 rfl rfl)
theorem dX1_daysUntil_128 : decode cX1_daysUntil 128 = .ok (.istore 4, 2) := dk_54 4 (dk_at dksX1_daysUntil_5 11 rfl rfl)
theorem dX1_daysUntil_130 : decode cX1_daysUntil 130 = .ok (.iinc 5 1, 3) := dk_132 5 1 (dk_at dksX1_daysUntil_5 13 rfl rfl)
theorem dX1_daysUntil_133 : decode cX1_daysUntil 133 = .ok (.goto (-63), 3) := dk_167 255 193 (dk_at dksX1_daysUntil_5 16 rfl rfl)
theorem dX1_daysUntil_136 : decode cX1_daysUntil 136 = .ok (.iload 4, 2) := dk_21 4 (dk_at dksX1_daysUntil_5 19 rfl rfl)
theorem dX1_daysUntil_138 : decode cX1_daysUntil 138 = .ok (.ireturn, 1) := dk_172 (dk_at dksX1_daysUntil_5 21 rfl rfl)
abbrev cX1_periodOf : ByteArray := prog_1_method_78_code
def yX1_periodOf : MethodName := ⟨RX1, "periodOf", "(I)I"⟩
def dkwX1_periodOf_0 : List UInt8 := [42, 27, 182, 1, 13, 180, 1, 75, 61, 28, 158, 0, 7, 4, 167, 0, 4, 3, 184, 0, 194, 28, 172]
abbrev dktX1_periodOf_0 : List UInt8 := dkwX1_periodOf_0 ++ []
theorem dksX1_periodOf_0 : cX1_periodOf.data.toList.drop 0 = dktX1_periodOf_0 := by decide +kernel
theorem dX1_periodOf_0 : decode cX1_periodOf 0 = .ok (.aload_n 0, 1) := dk_42 (dk_at dksX1_periodOf_0 0 rfl rfl)
theorem dX1_periodOf_1 : decode cX1_periodOf 1 = .ok (.iload_n 1, 1) := dk_27 (dk_at dksX1_periodOf_0 1 rfl rfl)
theorem dX1_periodOf_2 : decode cX1_periodOf 2 = .ok (.invokevirtual 269, 3) := dk_182 1 13 (dk_at dksX1_periodOf_0 2 rfl rfl)
theorem dX1_periodOf_5 : decode cX1_periodOf 5 = .ok (.getfield 331, 3) := dk_180 1 75 (dk_at dksX1_periodOf_0 5 rfl rfl)
theorem dX1_periodOf_8 : decode cX1_periodOf 8 = .ok (.istore_n 2, 1) := dk_61 (dk_at dksX1_periodOf_0 8 rfl rfl)
theorem dX1_periodOf_9 : decode cX1_periodOf 9 = .ok (.iload_n 2, 1) := dk_28 (dk_at dksX1_periodOf_0 9 rfl rfl)
theorem dX1_periodOf_10 : decode cX1_periodOf 10 = .ok (.ifCond .le 7, 3) := dk_158 0 7 (dk_at dksX1_periodOf_0 10 rfl rfl)
theorem dX1_periodOf_13 : decode cX1_periodOf 13 = .ok (.iconst 1, 1) := dk_4 (dk_at dksX1_periodOf_0 13 rfl rfl)
theorem dX1_periodOf_14 : decode cX1_periodOf 14 = .ok (.goto 4, 3) := dk_167 0 4 (dk_at dksX1_periodOf_0 14 rfl rfl)
theorem dX1_periodOf_17 : decode cX1_periodOf 17 = .ok (.iconst 0, 1) := dk_3 (dk_at dksX1_periodOf_0 17 rfl rfl)
theorem dX1_periodOf_18 : decode cX1_periodOf 18 = .ok (.invokestatic 194, 3) := dk_184 0 194 (dk_at dksX1_periodOf_0 18 rfl rfl)
theorem dX1_periodOf_21 : decode cX1_periodOf 21 = .ok (.iload_n 2, 1) := dk_28 (dk_at dksX1_periodOf_0 21 rfl rfl)
theorem dX1_periodOf_22 : decode cX1_periodOf 22 = .ok (.ireturn, 1) := dk_172 (dk_at dksX1_periodOf_0 22 rfl rfl)
abbrev cX1_errorBits : ByteArray := prog_1_method_79_code
def yX1_errorBits : MethodName := ⟨RX1, "errorBits", "(I)J"⟩
def dkwX1_errorBits_3 : List UInt8 := [180, 0, 56, 180, 0, 253, 135, 107, 184, 1, 80, 173]
abbrev dktX1_errorBits_3 : List UInt8 := dkwX1_errorBits_3 ++ []
def dkwX1_errorBits_2 : List UInt8 := [44, 180, 0, 197, 47, 138, 111, 57, 4, 24, 4, 20, 1, 78, 44, 180, 1, 75, 135, 111, 103, 42]
abbrev dktX1_errorBits_2 : List UInt8 := dkwX1_errorBits_2 ++ dktX1_errorBits_3
def dkwX1_errorBits_1 : List UInt8 := [167, 0, 4, 3, 184, 0, 194, 45, 180, 0, 243, 44, 180, 0, 197, 47, 184, 0, 1, 138, 45, 180, 0, 247]
abbrev dktX1_errorBits_1 : List UInt8 := dkwX1_errorBits_1 ++ dktX1_errorBits_2
def dkwX1_errorBits_0 : List UInt8 := [42, 27, 182, 1, 13, 77, 42, 44, 180, 0, 197, 182, 0, 235, 78, 44, 180, 1, 75, 158, 0, 7, 4]
abbrev dktX1_errorBits_0 : List UInt8 := dkwX1_errorBits_0 ++ dktX1_errorBits_1
theorem dksX1_errorBits_0 : cX1_errorBits.data.toList.drop 0 = dktX1_errorBits_0 := by decide +kernel
theorem dksX1_errorBits_1 : cX1_errorBits.data.toList.drop 23 = dktX1_errorBits_1 := dk_seg dksX1_errorBits_0 23 rfl rfl
theorem dksX1_errorBits_2 : cX1_errorBits.data.toList.drop 47 = dktX1_errorBits_2 := dk_seg dksX1_errorBits_1 24 rfl rfl
theorem dksX1_errorBits_3 : cX1_errorBits.data.toList.drop 69 = dktX1_errorBits_3 := dk_seg dksX1_errorBits_2 22 rfl rfl
theorem dX1_errorBits_0 : decode cX1_errorBits 0 = .ok (.aload_n 0, 1) := dk_42 (dk_at dksX1_errorBits_0 0 rfl rfl)
theorem dX1_errorBits_1 : decode cX1_errorBits 1 = .ok (.iload_n 1, 1) := dk_27 (dk_at dksX1_errorBits_0 1 rfl rfl)
theorem dX1_errorBits_2 : decode cX1_errorBits 2 = .ok (.invokevirtual 269, 3) := dk_182 1 13 (dk_at dksX1_errorBits_0 2 rfl rfl)
theorem dX1_errorBits_5 : decode cX1_errorBits 5 = .ok (.astore_n 2, 1) := dk_77 (dk_at dksX1_errorBits_0 5 rfl rfl)
theorem dX1_errorBits_6 : decode cX1_errorBits 6 = .ok (.aload_n 0, 1) := dk_42 (dk_at dksX1_errorBits_0 6 rfl rfl)
theorem dX1_errorBits_7 : decode cX1_errorBits 7 = .ok (.aload_n 2, 1) := dk_44 (dk_at dksX1_errorBits_0 7 rfl rfl)
theorem dX1_errorBits_8 : decode cX1_errorBits 8 = .ok (.getfield 197, 3) := dk_180 0 197 (dk_at dksX1_errorBits_0 8 rfl rfl)
theorem dX1_errorBits_11 : decode cX1_errorBits 11 = .ok (.invokevirtual 235, 3) := dk_182 0 235 (dk_at dksX1_errorBits_0 11 rfl rfl)
theorem dX1_errorBits_14 : decode cX1_errorBits 14 = .ok (.astore_n 3, 1) := dk_78 (dk_at dksX1_errorBits_0 14 rfl rfl)
theorem dX1_errorBits_15 : decode cX1_errorBits 15 = .ok (.aload_n 2, 1) := dk_44 (dk_at dksX1_errorBits_0 15 rfl rfl)
theorem dX1_errorBits_16 : decode cX1_errorBits 16 = .ok (.getfield 331, 3) := dk_180 1 75 (dk_at dksX1_errorBits_0 16 rfl rfl)
theorem dX1_errorBits_19 : decode cX1_errorBits 19 = .ok (.ifCond .le 7, 3) := dk_158 0 7 (dk_at dksX1_errorBits_0 19 rfl rfl)
theorem dX1_errorBits_22 : decode cX1_errorBits 22 = .ok (.iconst 1, 1) := dk_4 (dk_at dksX1_errorBits_0 22 rfl rfl)
theorem dX1_errorBits_23 : decode cX1_errorBits 23 = .ok (.goto 4, 3) := dk_167 0 4 (dk_at dksX1_errorBits_1 0 rfl rfl)
theorem dX1_errorBits_26 : decode cX1_errorBits 26 = .ok (.iconst 0, 1) := dk_3 (dk_at dksX1_errorBits_1 3 rfl rfl)
theorem dX1_errorBits_27 : decode cX1_errorBits 27 = .ok (.invokestatic 194, 3) := dk_184 0 194 (dk_at dksX1_errorBits_1 4 rfl rfl)
theorem dX1_errorBits_30 : decode cX1_errorBits 30 = .ok (.aload_n 3, 1) := dk_45 (dk_at dksX1_errorBits_1 7 rfl rfl)
theorem dX1_errorBits_31 : decode cX1_errorBits 31 = .ok (.getfield 243, 3) := dk_180 0 243 (dk_at dksX1_errorBits_1 8 rfl rfl)
theorem dX1_errorBits_34 : decode cX1_errorBits 34 = .ok (.aload_n 2, 1) := dk_44 (dk_at dksX1_errorBits_1 11 rfl rfl)
theorem dX1_errorBits_35 : decode cX1_errorBits 35 = .ok (.getfield 197, 3) := dk_180 0 197 (dk_at dksX1_errorBits_1 12 rfl rfl)
theorem dX1_errorBits_38 : decode cX1_errorBits 38 = .ok (.laload, 1) := dk_47 (dk_at dksX1_errorBits_1 15 rfl rfl)
theorem dX1_errorBits_39 : decode cX1_errorBits 39 = .ok (.invokestatic 1, 3) := dk_184 0 1 (dk_at dksX1_errorBits_1 16 rfl rfl)
theorem dX1_errorBits_42 : decode cX1_errorBits 42 = .ok (.l2d, 1) := dk_138 (dk_at dksX1_errorBits_1 19 rfl rfl)
theorem dX1_errorBits_43 : decode cX1_errorBits 43 = .ok (.aload_n 3, 1) := dk_45 (dk_at dksX1_errorBits_1 20 rfl rfl)
theorem dX1_errorBits_44 : decode cX1_errorBits 44 = .ok (.getfield 247, 3) := dk_180 0 247 (dk_at dksX1_errorBits_1 21 rfl rfl)
theorem dX1_errorBits_47 : decode cX1_errorBits 47 = .ok (.aload_n 2, 1) := dk_44 (dk_at dksX1_errorBits_2 0 rfl rfl)
theorem dX1_errorBits_48 : decode cX1_errorBits 48 = .ok (.getfield 197, 3) := dk_180 0 197 (dk_at dksX1_errorBits_2 1 rfl rfl)
theorem dX1_errorBits_51 : decode cX1_errorBits 51 = .ok (.laload, 1) := dk_47 (dk_at dksX1_errorBits_2 4 rfl rfl)
theorem dX1_errorBits_52 : decode cX1_errorBits 52 = .ok (.l2d, 1) := dk_138 (dk_at dksX1_errorBits_2 5 rfl rfl)
theorem dX1_errorBits_53 : decode cX1_errorBits 53 = .ok (.ddiv, 1) := dk_111 (dk_at dksX1_errorBits_2 6 rfl rfl)
theorem dX1_errorBits_54 : decode cX1_errorBits 54 = .ok (.dstore 4, 2) := dk_57 4 (dk_at dksX1_errorBits_2 7 rfl rfl)
theorem dX1_errorBits_56 : decode cX1_errorBits 56 = .ok (.dload 4, 2) := dk_24 4 (dk_at dksX1_errorBits_2 9 rfl rfl)
theorem dX1_errorBits_58 : decode cX1_errorBits 58 = .ok (.ldc2_w 334, 3) := dk_20 1 78 (dk_at dksX1_errorBits_2 11 rfl rfl)
theorem dX1_errorBits_61 : decode cX1_errorBits 61 = .ok (.aload_n 2, 1) := dk_44 (dk_at dksX1_errorBits_2 14 rfl rfl)
theorem dX1_errorBits_62 : decode cX1_errorBits 62 = .ok (.getfield 331, 3) := dk_180 1 75 (dk_at dksX1_errorBits_2 15 rfl rfl)
theorem dX1_errorBits_65 : decode cX1_errorBits 65 = .ok (.i2d, 1) := dk_135 (dk_at dksX1_errorBits_2 18 rfl rfl)
theorem dX1_errorBits_66 : decode cX1_errorBits 66 = .ok (.ddiv, 1) := dk_111 (dk_at dksX1_errorBits_2 19 rfl rfl)
theorem dX1_errorBits_67 : decode cX1_errorBits 67 = .ok (.dsub, 1) := dk_103 (dk_at dksX1_errorBits_2 20 rfl rfl)
theorem dX1_errorBits_68 : decode cX1_errorBits 68 = .ok (.aload_n 0, 1) := dk_42 (dk_at dksX1_errorBits_2 21 rfl rfl)
theorem dX1_errorBits_69 : decode cX1_errorBits 69 = .ok (.getfield 56, 3) := dk_180 0 56 (dk_at dksX1_errorBits_3 0 rfl rfl)
theorem dX1_errorBits_72 : decode cX1_errorBits 72 = .ok (.getfield 253, 3) := dk_180 0 253 (dk_at dksX1_errorBits_3 3 rfl rfl)
theorem dX1_errorBits_75 : decode cX1_errorBits 75 = .ok (.i2d, 1) := dk_135 (dk_at dksX1_errorBits_3 6 rfl rfl)
theorem dX1_errorBits_76 : decode cX1_errorBits 76 = .ok (.dmul, 1) := dk_107 (dk_at dksX1_errorBits_3 7 rfl rfl)
theorem dX1_errorBits_77 : decode cX1_errorBits 77 = .ok (.invokestatic 336, 3) := dk_184 1 80 (dk_at dksX1_errorBits_3 8 rfl rfl)
theorem dX1_errorBits_80 : decode cX1_errorBits 80 = .ok (.lreturn, 1) := dk_173 (dk_at dksX1_errorBits_3 11 rfl rfl)
abbrev cX1_bestPair : ByteArray := prog_1_method_80_code
def yX1_bestPair : MethodName := ⟨RX1, "bestPair", "(II)I"⟩
def dkwX1_bestPair_7 : List UInt8 := [132, 6, 1, 167, 255, 144, 132, 5, 1, 167, 255, 127, 17, 3, 232, 29, 104, 21, 4, 96, 172]
abbrev dktX1_bestPair_7 : List UInt8 := dkwX1_bestPair_7 ++ []
def dkwX1_bestPair_6 : List UInt8 := [155, 0, 16, 22, 7, 22, 9, 148, 154, 0, 15, 21, 11, 153, 0, 10, 21, 5, 62, 21, 6, 54, 4]
abbrev dktX1_bestPair_6 : List UInt8 := dkwX1_bestPair_6 ++ dktX1_bestPair_7
def dkwX1_bestPair_5 : List UInt8 := [96, 160, 0, 13, 21, 5, 29, 162, 0, 7, 4, 167, 0, 4, 3, 54, 11, 22, 7, 22, 9, 148]
abbrev dktX1_bestPair_5 : List UInt8 := dkwX1_bestPair_5 ++ dktX1_bestPair_6
def dkwX1_bestPair_4 : List UInt8 := [133, 105, 55, 9, 21, 5, 21, 6, 96, 29, 21, 4, 96, 161, 0, 21, 21, 5, 21, 6, 96, 29, 21, 4]
abbrev dktX1_bestPair_4 : List UInt8 := dkwX1_bestPair_4 ++ dktX1_bestPair_5
def dkwX1_bestPair_3 : List UInt8 := [184, 0, 19, 133, 21, 4, 133, 105, 55, 7, 29, 28, 104, 27, 21, 4, 104, 100, 184, 0, 19, 133, 21, 6]
abbrev dktX1_bestPair_3 : List UInt8 := dkwX1_bestPair_3 ++ dktX1_bestPair_4
def dkwX1_bestPair_2 : List UInt8 := [163, 0, 128, 16, 8, 54, 6, 21, 6, 16, 120, 163, 0, 111, 21, 5, 28, 104, 27, 21, 6, 104, 100]
abbrev dktX1_bestPair_2 : List UInt8 := dkwX1_bestPair_2 ++ dktX1_bestPair_3
def dkwX1_bestPair_1 : List UInt8 := [4, 167, 0, 4, 3, 184, 0, 158, 16, 8, 62, 16, 8, 54, 4, 16, 8, 54, 5, 21, 5, 16, 120]
abbrev dktX1_bestPair_1 : List UInt8 := dkwX1_bestPair_1 ++ dktX1_bestPair_2
def dkwX1_bestPair_0 : List UInt8 := [27, 133, 10, 20, 1, 86, 184, 0, 204, 153, 0, 19, 28, 133, 10, 20, 1, 86, 184, 0, 204, 153, 0, 7]
abbrev dktX1_bestPair_0 : List UInt8 := dkwX1_bestPair_0 ++ dktX1_bestPair_1
theorem dksX1_bestPair_0 : cX1_bestPair.data.toList.drop 0 = dktX1_bestPair_0 := by decide +kernel
theorem dksX1_bestPair_1 : cX1_bestPair.data.toList.drop 24 = dktX1_bestPair_1 := dk_seg dksX1_bestPair_0 24 rfl rfl
theorem dksX1_bestPair_2 : cX1_bestPair.data.toList.drop 47 = dktX1_bestPair_2 := dk_seg dksX1_bestPair_1 23 rfl rfl
theorem dksX1_bestPair_3 : cX1_bestPair.data.toList.drop 70 = dktX1_bestPair_3 := dk_seg dksX1_bestPair_2 23 rfl rfl
theorem dksX1_bestPair_4 : cX1_bestPair.data.toList.drop 94 = dktX1_bestPair_4 := dk_seg dksX1_bestPair_3 24 rfl rfl
theorem dksX1_bestPair_5 : cX1_bestPair.data.toList.drop 118 = dktX1_bestPair_5 := dk_seg dksX1_bestPair_4 24 rfl rfl
theorem dksX1_bestPair_6 : cX1_bestPair.data.toList.drop 140 = dktX1_bestPair_6 := dk_seg dksX1_bestPair_5 22 rfl rfl
theorem dksX1_bestPair_7 : cX1_bestPair.data.toList.drop 163 = dktX1_bestPair_7 := dk_seg dksX1_bestPair_6 23 rfl rfl
theorem dX1_bestPair_0 : decode cX1_bestPair 0 = .ok (.iload_n 1, 1) := dk_27 (dk_at dksX1_bestPair_0 0 rfl rfl)
theorem dX1_bestPair_1 : decode cX1_bestPair 1 = .ok (.i2l, 1) := dk_133 (dk_at dksX1_bestPair_0 1 rfl rfl)
theorem dX1_bestPair_2 : decode cX1_bestPair 2 = .ok (.lconst 1, 1) := dk_10 (dk_at dksX1_bestPair_0 2 rfl rfl)
theorem dX1_bestPair_3 : decode cX1_bestPair 3 = .ok (.ldc2_w 342, 3) := dk_20 1 86 (dk_at dksX1_bestPair_0 3 rfl rfl)
theorem dX1_bestPair_6 : decode cX1_bestPair 6 = .ok (.invokestatic 204, 3) := dk_184 0 204 (dk_at dksX1_bestPair_0 6 rfl rfl)
theorem dX1_bestPair_9 : decode cX1_bestPair 9 = .ok (.ifCond .eq 19, 3) := dk_153 0 19 (dk_at dksX1_bestPair_0 9 rfl rfl)
theorem dX1_bestPair_12 : decode cX1_bestPair 12 = .ok (.iload_n 2, 1) := dk_28 (dk_at dksX1_bestPair_0 12 rfl rfl)
theorem dX1_bestPair_13 : decode cX1_bestPair 13 = .ok (.i2l, 1) := dk_133 (dk_at dksX1_bestPair_0 13 rfl rfl)
theorem dX1_bestPair_14 : decode cX1_bestPair 14 = .ok (.lconst 1, 1) := dk_10 (dk_at dksX1_bestPair_0 14 rfl rfl)
theorem dX1_bestPair_15 : decode cX1_bestPair 15 = .ok (.ldc2_w 342, 3) := dk_20 1 86 (dk_at dksX1_bestPair_0 15 rfl rfl)
theorem dX1_bestPair_18 : decode cX1_bestPair 18 = .ok (.invokestatic 204, 3) := dk_184 0 204 (dk_at dksX1_bestPair_0 18 rfl rfl)
theorem dX1_bestPair_21 : decode cX1_bestPair 21 = .ok (.ifCond .eq 7, 3) := dk_153 0 7 (dk_at dksX1_bestPair_0 21 rfl rfl)
theorem dX1_bestPair_24 : decode cX1_bestPair 24 = .ok (.iconst 1, 1) := dk_4 (dk_at dksX1_bestPair_1 0 rfl rfl)
theorem dX1_bestPair_25 : decode cX1_bestPair 25 = .ok (.goto 4, 3) := dk_167 0 4 (dk_at dksX1_bestPair_1 1 rfl rfl)
theorem dX1_bestPair_28 : decode cX1_bestPair 28 = .ok (.iconst 0, 1) := dk_3 (dk_at dksX1_bestPair_1 4 rfl rfl)
theorem dX1_bestPair_29 : decode cX1_bestPair 29 = .ok (.invokestatic 158, 3) := dk_184 0 158 (dk_at dksX1_bestPair_1 5 rfl rfl)
theorem dX1_bestPair_32 : decode cX1_bestPair 32 = .ok (.bipush 8, 2) := dk_16 8 (dk_at dksX1_bestPair_1 8 rfl rfl)
theorem dX1_bestPair_34 : decode cX1_bestPair 34 = .ok (.istore_n 3, 1) := dk_62 (dk_at dksX1_bestPair_1 10 rfl rfl)
theorem dX1_bestPair_35 : decode cX1_bestPair 35 = .ok (.bipush 8, 2) := dk_16 8 (dk_at dksX1_bestPair_1 11 rfl rfl)
theorem dX1_bestPair_37 : decode cX1_bestPair 37 = .ok (.istore 4, 2) := dk_54 4 (dk_at dksX1_bestPair_1 13 rfl rfl)
theorem dX1_bestPair_39 : decode cX1_bestPair 39 = .ok (.bipush 8, 2) := dk_16 8 (dk_at dksX1_bestPair_1 15 rfl rfl)
theorem dX1_bestPair_41 : decode cX1_bestPair 41 = .ok (.istore 5, 2) := dk_54 5 (dk_at dksX1_bestPair_1 17 rfl rfl)
theorem dX1_bestPair_43 : decode cX1_bestPair 43 = .ok (.iload 5, 2) := dk_21 5 (dk_at dksX1_bestPair_1 19 rfl rfl)
theorem dX1_bestPair_45 : decode cX1_bestPair 45 = .ok (.bipush 120, 2) := dk_16 120 (dk_at dksX1_bestPair_1 21 rfl rfl)
theorem dX1_bestPair_47 : decode cX1_bestPair 47 = .ok (.if_icmp .gt 128, 3) := dk_163 0 128 (dk_at dksX1_bestPair_2 0 rfl rfl)
theorem dX1_bestPair_50 : decode cX1_bestPair 50 = .ok (.bipush 8, 2) := dk_16 8 (dk_at dksX1_bestPair_2 3 rfl rfl)
theorem dX1_bestPair_52 : decode cX1_bestPair 52 = .ok (.istore 6, 2) := dk_54 6 (dk_at dksX1_bestPair_2 5 rfl rfl)
theorem dX1_bestPair_54 : decode cX1_bestPair 54 = .ok (.iload 6, 2) := dk_21 6 (dk_at dksX1_bestPair_2 7 rfl rfl)
theorem dX1_bestPair_56 : decode cX1_bestPair 56 = .ok (.bipush 120, 2) := dk_16 120 (dk_at dksX1_bestPair_2 9 rfl rfl)
theorem dX1_bestPair_58 : decode cX1_bestPair 58 = .ok (.if_icmp .gt 111, 3) := dk_163 0 111 (dk_at dksX1_bestPair_2 11 rfl rfl)
theorem dX1_bestPair_61 : decode cX1_bestPair 61 = .ok (.iload 5, 2) := dk_21 5 (dk_at dksX1_bestPair_2 14 rfl rfl)
theorem dX1_bestPair_63 : decode cX1_bestPair 63 = .ok (.iload_n 2, 1) := dk_28 (dk_at dksX1_bestPair_2 16 rfl rfl)
theorem dX1_bestPair_64 : decode cX1_bestPair 64 = .ok (.imul, 1) := dk_104 (dk_at dksX1_bestPair_2 17 rfl rfl)
theorem dX1_bestPair_65 : decode cX1_bestPair 65 = .ok (.iload_n 1, 1) := dk_27 (dk_at dksX1_bestPair_2 18 rfl rfl)
theorem dX1_bestPair_66 : decode cX1_bestPair 66 = .ok (.iload 6, 2) := dk_21 6 (dk_at dksX1_bestPair_2 19 rfl rfl)
theorem dX1_bestPair_68 : decode cX1_bestPair 68 = .ok (.imul, 1) := dk_104 (dk_at dksX1_bestPair_2 21 rfl rfl)
theorem dX1_bestPair_69 : decode cX1_bestPair 69 = .ok (.isub, 1) := dk_100 (dk_at dksX1_bestPair_2 22 rfl rfl)
theorem dX1_bestPair_70 : decode cX1_bestPair 70 = .ok (.invokestatic 19, 3) := dk_184 0 19 (dk_at dksX1_bestPair_3 0 rfl rfl)
theorem dX1_bestPair_73 : decode cX1_bestPair 73 = .ok (.i2l, 1) := dk_133 (dk_at dksX1_bestPair_3 3 rfl rfl)
theorem dX1_bestPair_74 : decode cX1_bestPair 74 = .ok (.iload 4, 2) := dk_21 4 (dk_at dksX1_bestPair_3 4 rfl rfl)
theorem dX1_bestPair_76 : decode cX1_bestPair 76 = .ok (.i2l, 1) := dk_133 (dk_at dksX1_bestPair_3 6 rfl rfl)
theorem dX1_bestPair_77 : decode cX1_bestPair 77 = .ok (.lmul, 1) := dk_105 (dk_at dksX1_bestPair_3 7 rfl rfl)
theorem dX1_bestPair_78 : decode cX1_bestPair 78 = .ok (.lstore 7, 2) := dk_55 7 (dk_at dksX1_bestPair_3 8 rfl rfl)
theorem dX1_bestPair_80 : decode cX1_bestPair 80 = .ok (.iload_n 3, 1) := dk_29 (dk_at dksX1_bestPair_3 10 rfl rfl)
theorem dX1_bestPair_81 : decode cX1_bestPair 81 = .ok (.iload_n 2, 1) := dk_28 (dk_at dksX1_bestPair_3 11 rfl rfl)
theorem dX1_bestPair_82 : decode cX1_bestPair 82 = .ok (.imul, 1) := dk_104 (dk_at dksX1_bestPair_3 12 rfl rfl)
theorem dX1_bestPair_83 : decode cX1_bestPair 83 = .ok (.iload_n 1, 1) := dk_27 (dk_at dksX1_bestPair_3 13 rfl rfl)
theorem dX1_bestPair_84 : decode cX1_bestPair 84 = .ok (.iload 4, 2) := dk_21 4 (dk_at dksX1_bestPair_3 14 rfl rfl)
theorem dX1_bestPair_86 : decode cX1_bestPair 86 = .ok (.imul, 1) := dk_104 (dk_at dksX1_bestPair_3 16 rfl rfl)
theorem dX1_bestPair_87 : decode cX1_bestPair 87 = .ok (.isub, 1) := dk_100 (dk_at dksX1_bestPair_3 17 rfl rfl)
theorem dX1_bestPair_88 : decode cX1_bestPair 88 = .ok (.invokestatic 19, 3) := dk_184 0 19 (dk_at dksX1_bestPair_3 18 rfl rfl)
theorem dX1_bestPair_91 : decode cX1_bestPair 91 = .ok (.i2l, 1) := dk_133 (dk_at dksX1_bestPair_3 21 rfl rfl)
theorem dX1_bestPair_92 : decode cX1_bestPair 92 = .ok (.iload 6, 2) := dk_21 6 (dk_at dksX1_bestPair_3 22 rfl rfl)
theorem dX1_bestPair_94 : decode cX1_bestPair 94 = .ok (.i2l, 1) := dk_133 (dk_at dksX1_bestPair_4 0 rfl rfl)
theorem dX1_bestPair_95 : decode cX1_bestPair 95 = .ok (.lmul, 1) := dk_105 (dk_at dksX1_bestPair_4 1 rfl rfl)
theorem dX1_bestPair_96 : decode cX1_bestPair 96 = .ok (.lstore 9, 2) := dk_55 9 (dk_at dksX1_bestPair_4 2 rfl rfl)
theorem dX1_bestPair_98 : decode cX1_bestPair 98 = .ok (.iload 5, 2) := dk_21 5 (dk_at dksX1_bestPair_4 4 rfl rfl)
theorem dX1_bestPair_100 : decode cX1_bestPair 100 = .ok (.iload 6, 2) := dk_21 6 (dk_at dksX1_bestPair_4 6 rfl rfl)
theorem dX1_bestPair_102 : decode cX1_bestPair 102 = .ok (.iadd, 1) := dk_96 (dk_at dksX1_bestPair_4 8 rfl rfl)
theorem dX1_bestPair_103 : decode cX1_bestPair 103 = .ok (.iload_n 3, 1) := dk_29 (dk_at dksX1_bestPair_4 9 rfl rfl)
theorem dX1_bestPair_104 : decode cX1_bestPair 104 = .ok (.iload 4, 2) := dk_21 4 (dk_at dksX1_bestPair_4 10 rfl rfl)
theorem dX1_bestPair_106 : decode cX1_bestPair 106 = .ok (.iadd, 1) := dk_96 (dk_at dksX1_bestPair_4 12 rfl rfl)
theorem dX1_bestPair_107 : decode cX1_bestPair 107 = .ok (.if_icmp .lt 21, 3) := dk_161 0 21 (dk_at dksX1_bestPair_4 13 rfl rfl)
theorem dX1_bestPair_110 : decode cX1_bestPair 110 = .ok (.iload 5, 2) := dk_21 5 (dk_at dksX1_bestPair_4 16 rfl rfl)
theorem dX1_bestPair_112 : decode cX1_bestPair 112 = .ok (.iload 6, 2) := dk_21 6 (dk_at dksX1_bestPair_4 18 rfl rfl)
theorem dX1_bestPair_114 : decode cX1_bestPair 114 = .ok (.iadd, 1) := dk_96 (dk_at dksX1_bestPair_4 20 rfl rfl)
theorem dX1_bestPair_115 : decode cX1_bestPair 115 = .ok (.iload_n 3, 1) := dk_29 (dk_at dksX1_bestPair_4 21 rfl rfl)
theorem dX1_bestPair_116 : decode cX1_bestPair 116 = .ok (.iload 4, 2) := dk_21 4 (dk_at dksX1_bestPair_4 22 rfl rfl)
theorem dX1_bestPair_118 : decode cX1_bestPair 118 = .ok (.iadd, 1) := dk_96 (dk_at dksX1_bestPair_5 0 rfl rfl)
theorem dX1_bestPair_119 : decode cX1_bestPair 119 = .ok (.if_icmp .ne 13, 3) := dk_160 0 13 (dk_at dksX1_bestPair_5 1 rfl rfl)
theorem dX1_bestPair_122 : decode cX1_bestPair 122 = .ok (.iload 5, 2) := dk_21 5 (dk_at dksX1_bestPair_5 4 rfl rfl)
theorem dX1_bestPair_124 : decode cX1_bestPair 124 = .ok (.iload_n 3, 1) := dk_29 (dk_at dksX1_bestPair_5 6 rfl rfl)
theorem dX1_bestPair_125 : decode cX1_bestPair 125 = .ok (.if_icmp .ge 7, 3) := dk_162 0 7 (dk_at dksX1_bestPair_5 7 rfl rfl)
theorem dX1_bestPair_128 : decode cX1_bestPair 128 = .ok (.iconst 1, 1) := dk_4 (dk_at dksX1_bestPair_5 10 rfl rfl)
theorem dX1_bestPair_129 : decode cX1_bestPair 129 = .ok (.goto 4, 3) := dk_167 0 4 (dk_at dksX1_bestPair_5 11 rfl rfl)
theorem dX1_bestPair_132 : decode cX1_bestPair 132 = .ok (.iconst 0, 1) := dk_3 (dk_at dksX1_bestPair_5 14 rfl rfl)
theorem dX1_bestPair_133 : decode cX1_bestPair 133 = .ok (.istore 11, 2) := dk_54 11 (dk_at dksX1_bestPair_5 15 rfl rfl)
theorem dX1_bestPair_135 : decode cX1_bestPair 135 = .ok (.lload 7, 2) := dk_22 7 (dk_at dksX1_bestPair_5 17 rfl rfl)
theorem dX1_bestPair_137 : decode cX1_bestPair 137 = .ok (.lload 9, 2) := dk_22 9 (dk_at dksX1_bestPair_5 19 rfl rfl)
theorem dX1_bestPair_139 : decode cX1_bestPair 139 = .ok (.lcmp, 1) := dk_148 (dk_at dksX1_bestPair_5 21 rfl rfl)
theorem dX1_bestPair_140 : decode cX1_bestPair 140 = .ok (.ifCond .lt 16, 3) := dk_155 0 16 (dk_at dksX1_bestPair_6 0 rfl rfl)
theorem dX1_bestPair_143 : decode cX1_bestPair 143 = .ok (.lload 7, 2) := dk_22 7 (dk_at dksX1_bestPair_6 3 rfl rfl)
theorem dX1_bestPair_145 : decode cX1_bestPair 145 = .ok (.lload 9, 2) := dk_22 9 (dk_at dksX1_bestPair_6 5 rfl rfl)
theorem dX1_bestPair_147 : decode cX1_bestPair 147 = .ok (.lcmp, 1) := dk_148 (dk_at dksX1_bestPair_6 7 rfl rfl)
theorem dX1_bestPair_148 : decode cX1_bestPair 148 = .ok (.ifCond .ne 15, 3) := dk_154 0 15 (dk_at dksX1_bestPair_6 8 rfl rfl)
theorem dX1_bestPair_151 : decode cX1_bestPair 151 = .ok (.iload 11, 2) := dk_21 11 (dk_at dksX1_bestPair_6 11 rfl rfl)
theorem dX1_bestPair_153 : decode cX1_bestPair 153 = .ok (.ifCond .eq 10, 3) := dk_153 0 10 (dk_at dksX1_bestPair_6 13 rfl rfl)
theorem dX1_bestPair_156 : decode cX1_bestPair 156 = .ok (.iload 5, 2) := dk_21 5 (dk_at dksX1_bestPair_6 16 rfl rfl)
theorem dX1_bestPair_158 : decode cX1_bestPair 158 = .ok (.istore_n 3, 1) := dk_62 (dk_at dksX1_bestPair_6 18 rfl rfl)
theorem dX1_bestPair_159 : decode cX1_bestPair 159 = .ok (.iload 6, 2) := dk_21 6 (dk_at dksX1_bestPair_6 19 rfl rfl)
theorem dX1_bestPair_161 : decode cX1_bestPair 161 = .ok (.istore 4, 2) := dk_54 4 (dk_at dksX1_bestPair_6 21 rfl rfl)
theorem dX1_bestPair_163 : decode cX1_bestPair 163 = .ok (.iinc 6 1, 3) := dk_132 6 1 (dk_at dksX1_bestPair_7 0 rfl rfl)
theorem dX1_bestPair_166 : decode cX1_bestPair 166 = .ok (.goto (-112), 3) := dk_167 255 144 (dk_at dksX1_bestPair_7 3 rfl rfl)
theorem dX1_bestPair_169 : decode cX1_bestPair 169 = .ok (.iinc 5 1, 3) := dk_132 5 1 (dk_at dksX1_bestPair_7 6 rfl rfl)
theorem dX1_bestPair_172 : decode cX1_bestPair 172 = .ok (.goto (-129), 3) := dk_167 255 127 (dk_at dksX1_bestPair_7 9 rfl rfl)
theorem dX1_bestPair_175 : decode cX1_bestPair 175 = .ok (.sipush 1000, 3) := dk_17 3 232 (dk_at dksX1_bestPair_7 12 rfl rfl)
theorem dX1_bestPair_178 : decode cX1_bestPair 178 = .ok (.iload_n 3, 1) := dk_29 (dk_at dksX1_bestPair_7 15 rfl rfl)
theorem dX1_bestPair_179 : decode cX1_bestPair 179 = .ok (.imul, 1) := dk_104 (dk_at dksX1_bestPair_7 16 rfl rfl)
theorem dX1_bestPair_180 : decode cX1_bestPair 180 = .ok (.iload 4, 2) := dk_21 4 (dk_at dksX1_bestPair_7 17 rfl rfl)
theorem dX1_bestPair_182 : decode cX1_bestPair 182 = .ok (.iadd, 1) := dk_96 (dk_at dksX1_bestPair_7 19 rfl rfl)
theorem dX1_bestPair_183 : decode cX1_bestPair 183 = .ok (.ireturn, 1) := dk_172 (dk_at dksX1_bestPair_7 20 rfl rfl)
abbrev cX1_degrees : ByteArray := prog_1_method_81_code
def yX1_degrees : MethodName := ⟨RX1, "degrees", "(I)F"⟩
def dkwX1_degrees_0 : List UInt8 := [42, 27, 182, 1, 88, 134, 19, 1, 91, 110, 174]
abbrev dktX1_degrees_0 : List UInt8 := dkwX1_degrees_0 ++ []
theorem dksX1_degrees_0 : cX1_degrees.data.toList.drop 0 = dktX1_degrees_0 := by decide +kernel
theorem dX1_degrees_0 : decode cX1_degrees 0 = .ok (.aload_n 0, 1) := dk_42 (dk_at dksX1_degrees_0 0 rfl rfl)
theorem dX1_degrees_1 : decode cX1_degrees 1 = .ok (.iload_n 1, 1) := dk_27 (dk_at dksX1_degrees_0 1 rfl rfl)
theorem dX1_degrees_2 : decode cX1_degrees 2 = .ok (.invokevirtual 344, 3) := dk_182 1 88 (dk_at dksX1_degrees_0 2 rfl rfl)
theorem dX1_degrees_5 : decode cX1_degrees 5 = .ok (.i2f, 1) := dk_134 (dk_at dksX1_degrees_0 5 rfl rfl)
theorem dX1_degrees_6 : decode cX1_degrees 6 = .ok (.ldc_w 347, 3) := dk_19 1 91 (dk_at dksX1_degrees_0 6 rfl rfl)
theorem dX1_degrees_9 : decode cX1_degrees 9 = .ok (.fdiv, 1) := dk_110 (dk_at dksX1_degrees_0 9 rfl rfl)
theorem dX1_degrees_10 : decode cX1_degrees 10 = .ok (.freturn, 1) := dk_174 (dk_at dksX1_degrees_0 10 rfl rfl)
abbrev cX1_degreeBits : ByteArray := prog_1_method_82_code
def yX1_degreeBits : MethodName := ⟨RX1, "degreeBits", "(I)I"⟩
def dkwX1_degreeBits_0 : List UInt8 := [42, 27, 182, 1, 92, 184, 1, 96, 172]
abbrev dktX1_degreeBits_0 : List UInt8 := dkwX1_degreeBits_0 ++ []
theorem dksX1_degreeBits_0 : cX1_degreeBits.data.toList.drop 0 = dktX1_degreeBits_0 := by decide +kernel
theorem dX1_degreeBits_0 : decode cX1_degreeBits 0 = .ok (.aload_n 0, 1) := dk_42 (dk_at dksX1_degreeBits_0 0 rfl rfl)
theorem dX1_degreeBits_1 : decode cX1_degreeBits 1 = .ok (.iload_n 1, 1) := dk_27 (dk_at dksX1_degreeBits_0 1 rfl rfl)
theorem dX1_degreeBits_2 : decode cX1_degreeBits 2 = .ok (.invokevirtual 348, 3) := dk_182 1 92 (dk_at dksX1_degreeBits_0 2 rfl rfl)
theorem dX1_degreeBits_5 : decode cX1_degreeBits 5 = .ok (.invokestatic 352, 3) := dk_184 1 96 (dk_at dksX1_degreeBits_0 5 rfl rfl)
theorem dX1_degreeBits_8 : decode cX1_degreeBits 8 = .ok (.ireturn, 1) := dk_172 (dk_at dksX1_degreeBits_0 8 rfl rfl)
abbrev cX1_bestTrain : ByteArray := prog_1_method_86_code
def yX1_bestTrain : MethodName := ⟨RX1, "bestTrain", "(I)I"⟩
def dkwX1_bestTrain_8 : List UInt8 := [54, 4, 22, 16, 55, 5, 22, 14, 55, 7, 132, 9, 1, 167, 255, 103, 21, 4, 172]
abbrev dktX1_bestTrain_8 : List UInt8 := dkwX1_bestTrain_8 ++ []
def dkwX1_bestTrain_7 : List UInt8 := [156, 0, 33, 21, 10, 16, 24, 104, 21, 11, 96, 16, 24, 104, 21, 12, 96, 16, 24, 104, 21, 13, 96]
abbrev dktX1_bestTrain_7 : List UInt8 := dkwX1_bestTrain_7 ++ dktX1_bestTrain_8
def dkwX1_bestTrain_6 : List UInt8 := [28, 184, 1, 110, 55, 16, 21, 4, 2, 159, 0, 17, 22, 16, 22, 7, 105, 22, 5, 22, 14, 105, 148]
abbrev dktX1_bestTrain_6 : List UInt8 := dkwX1_bestTrain_6 ++ dktX1_bestTrain_7
def dkwX1_bestTrain_5 : List UInt8 := [182, 1, 108, 133, 105, 55, 14, 42, 21, 10, 182, 1, 108, 133, 42, 21, 12, 182, 1, 108, 133, 105, 22, 14]
abbrev dktX1_bestTrain_5 : List UInt8 := dkwX1_bestTrain_5 ++ dktX1_bestTrain_6
def dkwX1_bestTrain_4 : List UInt8 := [21, 10, 21, 11, 21, 12, 21, 13, 184, 1, 104, 153, 0, 93, 42, 21, 11, 182, 1, 108, 133, 42, 21, 13]
abbrev dktX1_bestTrain_4 : List UInt8 := dkwX1_bestTrain_4 ++ dktX1_bestTrain_5
def dkwX1_bestTrain_3 : List UInt8 := [21, 9, 29, 29, 104, 108, 29, 112, 54, 11, 21, 9, 29, 108, 29, 112, 54, 12, 21, 9, 29, 112, 54, 13]
abbrev dktX1_bestTrain_3 : List UInt8 := dkwX1_bestTrain_3 ++ dktX1_bestTrain_4
def dkwX1_bestTrain_2 : List UInt8 := [54, 9, 21, 9, 29, 29, 104, 29, 104, 29, 104, 162, 0, 147, 21, 9, 29, 29, 104, 29, 104, 108, 54, 10]
abbrev dktX1_bestTrain_2 : List UInt8 := dkwX1_bestTrain_2 ++ dktX1_bestTrain_3
def dkwX1_bestTrain_1 : List UInt8 := [29, 7, 161, 0, 7, 4, 167, 0, 4, 3, 184, 0, 194, 2, 54, 4, 9, 55, 5, 10, 55, 7, 3]
abbrev dktX1_bestTrain_1 : List UInt8 := dkwX1_bestTrain_1 ++ dktX1_bestTrain_2
def dkwX1_bestTrain_0 : List UInt8 := [42, 27, 182, 1, 13, 180, 1, 75, 61, 42, 180, 0, 56, 180, 0, 162, 182, 0, 203, 62, 28, 158, 0, 12]
abbrev dktX1_bestTrain_0 : List UInt8 := dkwX1_bestTrain_0 ++ dktX1_bestTrain_1
theorem dksX1_bestTrain_0 : cX1_bestTrain.data.toList.drop 0 = dktX1_bestTrain_0 := by decide +kernel
theorem dksX1_bestTrain_1 : cX1_bestTrain.data.toList.drop 24 = dktX1_bestTrain_1 := dk_seg dksX1_bestTrain_0 24 rfl rfl
theorem dksX1_bestTrain_2 : cX1_bestTrain.data.toList.drop 47 = dktX1_bestTrain_2 := dk_seg dksX1_bestTrain_1 23 rfl rfl
theorem dksX1_bestTrain_3 : cX1_bestTrain.data.toList.drop 71 = dktX1_bestTrain_3 := dk_seg dksX1_bestTrain_2 24 rfl rfl
theorem dksX1_bestTrain_4 : cX1_bestTrain.data.toList.drop 95 = dktX1_bestTrain_4 := dk_seg dksX1_bestTrain_3 24 rfl rfl
theorem dksX1_bestTrain_5 : cX1_bestTrain.data.toList.drop 119 = dktX1_bestTrain_5 := dk_seg dksX1_bestTrain_4 24 rfl rfl
theorem dksX1_bestTrain_6 : cX1_bestTrain.data.toList.drop 143 = dktX1_bestTrain_6 := dk_seg dksX1_bestTrain_5 24 rfl rfl
theorem dksX1_bestTrain_7 : cX1_bestTrain.data.toList.drop 166 = dktX1_bestTrain_7 := dk_seg dksX1_bestTrain_6 23 rfl rfl
theorem dksX1_bestTrain_8 : cX1_bestTrain.data.toList.drop 189 = dktX1_bestTrain_8 := dk_seg dksX1_bestTrain_7 23 rfl rfl
theorem dX1_bestTrain_0 : decode cX1_bestTrain 0 = .ok (.aload_n 0, 1) := dk_42 (dk_at dksX1_bestTrain_0 0 rfl rfl)
theorem dX1_bestTrain_1 : decode cX1_bestTrain 1 = .ok (.iload_n 1, 1) := dk_27 (dk_at dksX1_bestTrain_0 1 rfl rfl)
theorem dX1_bestTrain_2 : decode cX1_bestTrain 2 = .ok (.invokevirtual 269, 3) := dk_182 1 13 (dk_at dksX1_bestTrain_0 2 rfl rfl)
theorem dX1_bestTrain_5 : decode cX1_bestTrain 5 = .ok (.getfield 331, 3) := dk_180 1 75 (dk_at dksX1_bestTrain_0 5 rfl rfl)
theorem dX1_bestTrain_8 : decode cX1_bestTrain 8 = .ok (.istore_n 2, 1) := dk_61 (dk_at dksX1_bestTrain_0 8 rfl rfl)
theorem dX1_bestTrain_9 : decode cX1_bestTrain 9 = .ok (.aload_n 0, 1) := dk_42 (dk_at dksX1_bestTrain_0 9 rfl rfl)
theorem dX1_bestTrain_10 : decode cX1_bestTrain 10 = .ok (.getfield 56, 3) := dk_180 0 56 (dk_at dksX1_bestTrain_0 10 rfl rfl)
theorem dX1_bestTrain_13 : decode cX1_bestTrain 13 = .ok (.getfield 162, 3) := dk_180 0 162 (dk_at dksX1_bestTrain_0 13 rfl rfl)
theorem dX1_bestTrain_16 : decode cX1_bestTrain 16 = .ok (.invokevirtual 203, 3) := dk_182 0 203 (dk_at dksX1_bestTrain_0 16 rfl rfl)
theorem dX1_bestTrain_19 : decode cX1_bestTrain 19 = .ok (.istore_n 3, 1) := dk_62 (dk_at dksX1_bestTrain_0 19 rfl rfl)
theorem dX1_bestTrain_20 : decode cX1_bestTrain 20 = .ok (.iload_n 2, 1) := dk_28 (dk_at dksX1_bestTrain_0 20 rfl rfl)
theorem dX1_bestTrain_21 : decode cX1_bestTrain 21 = .ok (.ifCond .le 12, 3) := dk_158 0 12 (dk_at dksX1_bestTrain_0 21 rfl rfl)
theorem dX1_bestTrain_24 : decode cX1_bestTrain 24 = .ok (.iload_n 3, 1) := dk_29 (dk_at dksX1_bestTrain_1 0 rfl rfl)
theorem dX1_bestTrain_25 : decode cX1_bestTrain 25 = .ok (.iconst 4, 1) := dk_7 (dk_at dksX1_bestTrain_1 1 rfl rfl)
theorem dX1_bestTrain_26 : decode cX1_bestTrain 26 = .ok (.if_icmp .lt 7, 3) := dk_161 0 7 (dk_at dksX1_bestTrain_1 2 rfl rfl)
theorem dX1_bestTrain_29 : decode cX1_bestTrain 29 = .ok (.iconst 1, 1) := dk_4 (dk_at dksX1_bestTrain_1 5 rfl rfl)
theorem dX1_bestTrain_30 : decode cX1_bestTrain 30 = .ok (.goto 4, 3) := dk_167 0 4 (dk_at dksX1_bestTrain_1 6 rfl rfl)
theorem dX1_bestTrain_33 : decode cX1_bestTrain 33 = .ok (.iconst 0, 1) := dk_3 (dk_at dksX1_bestTrain_1 9 rfl rfl)
theorem dX1_bestTrain_34 : decode cX1_bestTrain 34 = .ok (.invokestatic 194, 3) := dk_184 0 194 (dk_at dksX1_bestTrain_1 10 rfl rfl)
theorem dX1_bestTrain_37 : decode cX1_bestTrain 37 = .ok (.iconst (-1), 1) := dk_2 (dk_at dksX1_bestTrain_1 13 rfl rfl)
theorem dX1_bestTrain_38 : decode cX1_bestTrain 38 = .ok (.istore 4, 2) := dk_54 4 (dk_at dksX1_bestTrain_1 14 rfl rfl)
theorem dX1_bestTrain_40 : decode cX1_bestTrain 40 = .ok (.lconst 0, 1) := dk_9 (dk_at dksX1_bestTrain_1 16 rfl rfl)
theorem dX1_bestTrain_41 : decode cX1_bestTrain 41 = .ok (.lstore 5, 2) := dk_55 5 (dk_at dksX1_bestTrain_1 17 rfl rfl)
theorem dX1_bestTrain_43 : decode cX1_bestTrain 43 = .ok (.lconst 1, 1) := dk_10 (dk_at dksX1_bestTrain_1 19 rfl rfl)
theorem dX1_bestTrain_44 : decode cX1_bestTrain 44 = .ok (.lstore 7, 2) := dk_55 7 (dk_at dksX1_bestTrain_1 20 rfl rfl)
theorem dX1_bestTrain_46 : decode cX1_bestTrain 46 = .ok (.iconst 0, 1) := dk_3 (dk_at dksX1_bestTrain_1 22 rfl rfl)
theorem dX1_bestTrain_47 : decode cX1_bestTrain 47 = .ok (.istore 9, 2) := dk_54 9 (dk_at dksX1_bestTrain_2 0 rfl rfl)
theorem dX1_bestTrain_49 : decode cX1_bestTrain 49 = .ok (.iload 9, 2) := dk_21 9 (dk_at dksX1_bestTrain_2 2 rfl rfl)
theorem dX1_bestTrain_51 : decode cX1_bestTrain 51 = .ok (.iload_n 3, 1) := dk_29 (dk_at dksX1_bestTrain_2 4 rfl rfl)
theorem dX1_bestTrain_52 : decode cX1_bestTrain 52 = .ok (.iload_n 3, 1) := dk_29 (dk_at dksX1_bestTrain_2 5 rfl rfl)
theorem dX1_bestTrain_53 : decode cX1_bestTrain 53 = .ok (.imul, 1) := dk_104 (dk_at dksX1_bestTrain_2 6 rfl rfl)
theorem dX1_bestTrain_54 : decode cX1_bestTrain 54 = .ok (.iload_n 3, 1) := dk_29 (dk_at dksX1_bestTrain_2 7 rfl rfl)
theorem dX1_bestTrain_55 : decode cX1_bestTrain 55 = .ok (.imul, 1) := dk_104 (dk_at dksX1_bestTrain_2 8 rfl rfl)
theorem dX1_bestTrain_56 : decode cX1_bestTrain 56 = .ok (.iload_n 3, 1) := dk_29 (dk_at dksX1_bestTrain_2 9 rfl rfl)
theorem dX1_bestTrain_57 : decode cX1_bestTrain 57 = .ok (.imul, 1) := dk_104 (dk_at dksX1_bestTrain_2 10 rfl rfl)
theorem dX1_bestTrain_58 : decode cX1_bestTrain 58 = .ok (.if_icmp .ge 147, 3) := dk_162 0 147 (dk_at dksX1_bestTrain_2 11 rfl rfl)
theorem dX1_bestTrain_61 : decode cX1_bestTrain 61 = .ok (.iload 9, 2) := dk_21 9 (dk_at dksX1_bestTrain_2 14 rfl rfl)
theorem dX1_bestTrain_63 : decode cX1_bestTrain 63 = .ok (.iload_n 3, 1) := dk_29 (dk_at dksX1_bestTrain_2 16 rfl rfl)
theorem dX1_bestTrain_64 : decode cX1_bestTrain 64 = .ok (.iload_n 3, 1) := dk_29 (dk_at dksX1_bestTrain_2 17 rfl rfl)
theorem dX1_bestTrain_65 : decode cX1_bestTrain 65 = .ok (.imul, 1) := dk_104 (dk_at dksX1_bestTrain_2 18 rfl rfl)
theorem dX1_bestTrain_66 : decode cX1_bestTrain 66 = .ok (.iload_n 3, 1) := dk_29 (dk_at dksX1_bestTrain_2 19 rfl rfl)
theorem dX1_bestTrain_67 : decode cX1_bestTrain 67 = .ok (.imul, 1) := dk_104 (dk_at dksX1_bestTrain_2 20 rfl rfl)
theorem dX1_bestTrain_68 : decode cX1_bestTrain 68 = .ok (.idiv, 1) := dk_108 (dk_at dksX1_bestTrain_2 21 rfl rfl)
theorem dX1_bestTrain_69 : decode cX1_bestTrain 69 = .ok (.istore 10, 2) := dk_54 10 (dk_at dksX1_bestTrain_2 22 rfl rfl)
theorem dX1_bestTrain_71 : decode cX1_bestTrain 71 = .ok (.iload 9, 2) := dk_21 9 (dk_at dksX1_bestTrain_3 0 rfl rfl)
theorem dX1_bestTrain_73 : decode cX1_bestTrain 73 = .ok (.iload_n 3, 1) := dk_29 (dk_at dksX1_bestTrain_3 2 rfl rfl)
theorem dX1_bestTrain_74 : decode cX1_bestTrain 74 = .ok (.iload_n 3, 1) := dk_29 (dk_at dksX1_bestTrain_3 3 rfl rfl)
theorem dX1_bestTrain_75 : decode cX1_bestTrain 75 = .ok (.imul, 1) := dk_104 (dk_at dksX1_bestTrain_3 4 rfl rfl)
theorem dX1_bestTrain_76 : decode cX1_bestTrain 76 = .ok (.idiv, 1) := dk_108 (dk_at dksX1_bestTrain_3 5 rfl rfl)
theorem dX1_bestTrain_77 : decode cX1_bestTrain 77 = .ok (.iload_n 3, 1) := dk_29 (dk_at dksX1_bestTrain_3 6 rfl rfl)
theorem dX1_bestTrain_78 : decode cX1_bestTrain 78 = .ok (.irem, 1) := dk_112 (dk_at dksX1_bestTrain_3 7 rfl rfl)
theorem dX1_bestTrain_79 : decode cX1_bestTrain 79 = .ok (.istore 11, 2) := dk_54 11 (dk_at dksX1_bestTrain_3 8 rfl rfl)
theorem dX1_bestTrain_81 : decode cX1_bestTrain 81 = .ok (.iload 9, 2) := dk_21 9 (dk_at dksX1_bestTrain_3 10 rfl rfl)
theorem dX1_bestTrain_83 : decode cX1_bestTrain 83 = .ok (.iload_n 3, 1) := dk_29 (dk_at dksX1_bestTrain_3 12 rfl rfl)
theorem dX1_bestTrain_84 : decode cX1_bestTrain 84 = .ok (.idiv, 1) := dk_108 (dk_at dksX1_bestTrain_3 13 rfl rfl)
theorem dX1_bestTrain_85 : decode cX1_bestTrain 85 = .ok (.iload_n 3, 1) := dk_29 (dk_at dksX1_bestTrain_3 14 rfl rfl)
theorem dX1_bestTrain_86 : decode cX1_bestTrain 86 = .ok (.irem, 1) := dk_112 (dk_at dksX1_bestTrain_3 15 rfl rfl)
theorem dX1_bestTrain_87 : decode cX1_bestTrain 87 = .ok (.istore 12, 2) := dk_54 12 (dk_at dksX1_bestTrain_3 16 rfl rfl)
theorem dX1_bestTrain_89 : decode cX1_bestTrain 89 = .ok (.iload 9, 2) := dk_21 9 (dk_at dksX1_bestTrain_3 18 rfl rfl)
theorem dX1_bestTrain_91 : decode cX1_bestTrain 91 = .ok (.iload_n 3, 1) := dk_29 (dk_at dksX1_bestTrain_3 20 rfl rfl)
theorem dX1_bestTrain_92 : decode cX1_bestTrain 92 = .ok (.irem, 1) := dk_112 (dk_at dksX1_bestTrain_3 21 rfl rfl)
theorem dX1_bestTrain_93 : decode cX1_bestTrain 93 = .ok (.istore 13, 2) := dk_54 13 (dk_at dksX1_bestTrain_3 22 rfl rfl)
theorem dX1_bestTrain_95 : decode cX1_bestTrain 95 = .ok (.iload 10, 2) := dk_21 10 (dk_at dksX1_bestTrain_4 0 rfl rfl)
theorem dX1_bestTrain_97 : decode cX1_bestTrain 97 = .ok (.iload 11, 2) := dk_21 11 (dk_at dksX1_bestTrain_4 2 rfl rfl)
theorem dX1_bestTrain_99 : decode cX1_bestTrain 99 = .ok (.iload 12, 2) := dk_21 12 (dk_at dksX1_bestTrain_4 4 rfl rfl)
theorem dX1_bestTrain_101 : decode cX1_bestTrain 101 = .ok (.iload 13, 2) := dk_21 13 (dk_at dksX1_bestTrain_4 6 rfl rfl)
theorem dX1_bestTrain_103 : decode cX1_bestTrain 103 = .ok (.invokestatic 360, 3) := dk_184 1 104 (dk_at dksX1_bestTrain_4 8 rfl rfl)
theorem dX1_bestTrain_106 : decode cX1_bestTrain 106 = .ok (.ifCond .eq 93, 3) := dk_153 0 93 (dk_at dksX1_bestTrain_4 11 rfl rfl)
theorem dX1_bestTrain_109 : decode cX1_bestTrain 109 = .ok (.aload_n 0, 1) := dk_42 (dk_at dksX1_bestTrain_4 14 rfl rfl)
theorem dX1_bestTrain_110 : decode cX1_bestTrain 110 = .ok (.iload 11, 2) := dk_21 11 (dk_at dksX1_bestTrain_4 15 rfl rfl)
theorem dX1_bestTrain_112 : decode cX1_bestTrain 112 = .ok (.invokevirtual 364, 3) := dk_182 1 108 (dk_at dksX1_bestTrain_4 17 rfl rfl)
theorem dX1_bestTrain_115 : decode cX1_bestTrain 115 = .ok (.i2l, 1) := dk_133 (dk_at dksX1_bestTrain_4 20 rfl rfl)
theorem dX1_bestTrain_116 : decode cX1_bestTrain 116 = .ok (.aload_n 0, 1) := dk_42 (dk_at dksX1_bestTrain_4 21 rfl rfl)
theorem dX1_bestTrain_117 : decode cX1_bestTrain 117 = .ok (.iload 13, 2) := dk_21 13 (dk_at dksX1_bestTrain_4 22 rfl rfl)
theorem dX1_bestTrain_119 : decode cX1_bestTrain 119 = .ok (.invokevirtual 364, 3) := dk_182 1 108 (dk_at dksX1_bestTrain_5 0 rfl rfl)
theorem dX1_bestTrain_122 : decode cX1_bestTrain 122 = .ok (.i2l, 1) := dk_133 (dk_at dksX1_bestTrain_5 3 rfl rfl)
theorem dX1_bestTrain_123 : decode cX1_bestTrain 123 = .ok (.lmul, 1) := dk_105 (dk_at dksX1_bestTrain_5 4 rfl rfl)
theorem dX1_bestTrain_124 : decode cX1_bestTrain 124 = .ok (.lstore 14, 2) := dk_55 14 (dk_at dksX1_bestTrain_5 5 rfl rfl)
theorem dX1_bestTrain_126 : decode cX1_bestTrain 126 = .ok (.aload_n 0, 1) := dk_42 (dk_at dksX1_bestTrain_5 7 rfl rfl)
theorem dX1_bestTrain_127 : decode cX1_bestTrain 127 = .ok (.iload 10, 2) := dk_21 10 (dk_at dksX1_bestTrain_5 8 rfl rfl)
theorem dX1_bestTrain_129 : decode cX1_bestTrain 129 = .ok (.invokevirtual 364, 3) := dk_182 1 108 (dk_at dksX1_bestTrain_5 10 rfl rfl)
theorem dX1_bestTrain_132 : decode cX1_bestTrain 132 = .ok (.i2l, 1) := dk_133 (dk_at dksX1_bestTrain_5 13 rfl rfl)
theorem dX1_bestTrain_133 : decode cX1_bestTrain 133 = .ok (.aload_n 0, 1) := dk_42 (dk_at dksX1_bestTrain_5 14 rfl rfl)
theorem dX1_bestTrain_134 : decode cX1_bestTrain 134 = .ok (.iload 12, 2) := dk_21 12 (dk_at dksX1_bestTrain_5 15 rfl rfl)
theorem dX1_bestTrain_136 : decode cX1_bestTrain 136 = .ok (.invokevirtual 364, 3) := dk_182 1 108 (dk_at dksX1_bestTrain_5 17 rfl rfl)
theorem dX1_bestTrain_139 : decode cX1_bestTrain 139 = .ok (.i2l, 1) := dk_133 (dk_at dksX1_bestTrain_5 20 rfl rfl)
theorem dX1_bestTrain_140 : decode cX1_bestTrain 140 = .ok (.lmul, 1) := dk_105 (dk_at dksX1_bestTrain_5 21 rfl rfl)
theorem dX1_bestTrain_141 : decode cX1_bestTrain 141 = .ok (.lload 14, 2) := dk_22 14 (dk_at dksX1_bestTrain_5 22 rfl rfl)
theorem dX1_bestTrain_143 : decode cX1_bestTrain 143 = .ok (.iload_n 2, 1) := dk_28 (dk_at dksX1_bestTrain_6 0 rfl rfl)
theorem dX1_bestTrain_144 : decode cX1_bestTrain 144 = .ok (.invokestatic 366, 3) := dk_184 1 110 (dk_at dksX1_bestTrain_6 1 rfl rfl)
theorem dX1_bestTrain_147 : decode cX1_bestTrain 147 = .ok (.lstore 16, 2) := dk_55 16 (dk_at dksX1_bestTrain_6 4 rfl rfl)
theorem dX1_bestTrain_149 : decode cX1_bestTrain 149 = .ok (.iload 4, 2) := dk_21 4 (dk_at dksX1_bestTrain_6 6 rfl rfl)
theorem dX1_bestTrain_151 : decode cX1_bestTrain 151 = .ok (.iconst (-1), 1) := dk_2 (dk_at dksX1_bestTrain_6 8 rfl rfl)
theorem dX1_bestTrain_152 : decode cX1_bestTrain 152 = .ok (.if_icmp .eq 17, 3) := dk_159 0 17 (dk_at dksX1_bestTrain_6 9 rfl rfl)
theorem dX1_bestTrain_155 : decode cX1_bestTrain 155 = .ok (.lload 16, 2) := dk_22 16 (dk_at dksX1_bestTrain_6 12 rfl rfl)
theorem dX1_bestTrain_157 : decode cX1_bestTrain 157 = .ok (.lload 7, 2) := dk_22 7 (dk_at dksX1_bestTrain_6 14 rfl rfl)
theorem dX1_bestTrain_159 : decode cX1_bestTrain 159 = .ok (.lmul, 1) := dk_105 (dk_at dksX1_bestTrain_6 16 rfl rfl)
theorem dX1_bestTrain_160 : decode cX1_bestTrain 160 = .ok (.lload 5, 2) := dk_22 5 (dk_at dksX1_bestTrain_6 17 rfl rfl)
theorem dX1_bestTrain_162 : decode cX1_bestTrain 162 = .ok (.lload 14, 2) := dk_22 14 (dk_at dksX1_bestTrain_6 19 rfl rfl)
theorem dX1_bestTrain_164 : decode cX1_bestTrain 164 = .ok (.lmul, 1) := dk_105 (dk_at dksX1_bestTrain_6 21 rfl rfl)
theorem dX1_bestTrain_165 : decode cX1_bestTrain 165 = .ok (.lcmp, 1) := dk_148 (dk_at dksX1_bestTrain_6 22 rfl rfl)
theorem dX1_bestTrain_166 : decode cX1_bestTrain 166 = .ok (.ifCond .ge 33, 3) := dk_156 0 33 (dk_at dksX1_bestTrain_7 0 rfl rfl)
theorem dX1_bestTrain_169 : decode cX1_bestTrain 169 = .ok (.iload 10, 2) := dk_21 10 (dk_at dksX1_bestTrain_7 3 rfl rfl)
theorem dX1_bestTrain_171 : decode cX1_bestTrain 171 = .ok (.bipush 24, 2) := dk_16 24 (dk_at dksX1_bestTrain_7 5 rfl rfl)
theorem dX1_bestTrain_173 : decode cX1_bestTrain 173 = .ok (.imul, 1) := dk_104 (dk_at dksX1_bestTrain_7 7 rfl rfl)
theorem dX1_bestTrain_174 : decode cX1_bestTrain 174 = .ok (.iload 11, 2) := dk_21 11 (dk_at dksX1_bestTrain_7 8 rfl rfl)
theorem dX1_bestTrain_176 : decode cX1_bestTrain 176 = .ok (.iadd, 1) := dk_96 (dk_at dksX1_bestTrain_7 10 rfl rfl)
theorem dX1_bestTrain_177 : decode cX1_bestTrain 177 = .ok (.bipush 24, 2) := dk_16 24 (dk_at dksX1_bestTrain_7 11 rfl rfl)
theorem dX1_bestTrain_179 : decode cX1_bestTrain 179 = .ok (.imul, 1) := dk_104 (dk_at dksX1_bestTrain_7 13 rfl rfl)
theorem dX1_bestTrain_180 : decode cX1_bestTrain 180 = .ok (.iload 12, 2) := dk_21 12 (dk_at dksX1_bestTrain_7 14 rfl rfl)
theorem dX1_bestTrain_182 : decode cX1_bestTrain 182 = .ok (.iadd, 1) := dk_96 (dk_at dksX1_bestTrain_7 16 rfl rfl)
theorem dX1_bestTrain_183 : decode cX1_bestTrain 183 = .ok (.bipush 24, 2) := dk_16 24 (dk_at dksX1_bestTrain_7 17 rfl rfl)
theorem dX1_bestTrain_185 : decode cX1_bestTrain 185 = .ok (.imul, 1) := dk_104 (dk_at dksX1_bestTrain_7 19 rfl rfl)
theorem dX1_bestTrain_186 : decode cX1_bestTrain 186 = .ok (.iload 13, 2) := dk_21 13 (dk_at dksX1_bestTrain_7 20 rfl rfl)
theorem dX1_bestTrain_188 : decode cX1_bestTrain 188 = .ok (.iadd, 1) := dk_96 (dk_at dksX1_bestTrain_7 22 rfl rfl)
theorem dX1_bestTrain_189 : decode cX1_bestTrain 189 = .ok (.istore 4, 2) := dk_54 4 (dk_at dksX1_bestTrain_8 0 rfl rfl)
theorem dX1_bestTrain_191 : decode cX1_bestTrain 191 = .ok (.lload 16, 2) := dk_22 16 (dk_at dksX1_bestTrain_8 2 rfl rfl)
theorem dX1_bestTrain_193 : decode cX1_bestTrain 193 = .ok (.lstore 5, 2) := dk_55 5 (dk_at dksX1_bestTrain_8 4 rfl rfl)
theorem dX1_bestTrain_195 : decode cX1_bestTrain 195 = .ok (.lload 14, 2) := dk_22 14 (dk_at dksX1_bestTrain_8 6 rfl rfl)
theorem dX1_bestTrain_197 : decode cX1_bestTrain 197 = .ok (.lstore 7, 2) := dk_55 7 (dk_at dksX1_bestTrain_8 8 rfl rfl)
theorem dX1_bestTrain_199 : decode cX1_bestTrain 199 = .ok (.iinc 9 1, 3) := dk_132 9 1 (dk_at dksX1_bestTrain_8 10 rfl rfl)
theorem dX1_bestTrain_202 : decode cX1_bestTrain 202 = .ok (.goto (-153), 3) := dk_167 255 103 (dk_at dksX1_bestTrain_8 13 rfl rfl)
theorem dX1_bestTrain_205 : decode cX1_bestTrain 205 = .ok (.iload 4, 2) := dk_21 4 (dk_at dksX1_bestTrain_8 16 rfl rfl)
theorem dX1_bestTrain_207 : decode cX1_bestTrain 207 = .ok (.ireturn, 1) := dk_172 (dk_at dksX1_bestTrain_8 18 rfl rfl)
abbrev cX1_areOther : ByteArray := prog_1_method_85_code
def yX1_areOther : MethodName := ⟨RX1, "areOther", "(IIII)Z"⟩
def dkwX1_areOther_1 : List UInt8 := [159, 0, 12, 28, 29, 159, 0, 7, 4, 167, 0, 4, 3, 172]
abbrev dktX1_areOther_1 : List UInt8 := dkwX1_areOther_1 ++ []
def dkwX1_areOther_0 : List UInt8 := [26, 27, 159, 0, 32, 26, 28, 159, 0, 27, 26, 29, 159, 0, 22, 27, 28, 159, 0, 17, 27, 29]
abbrev dktX1_areOther_0 : List UInt8 := dkwX1_areOther_0 ++ dktX1_areOther_1
theorem dksX1_areOther_0 : cX1_areOther.data.toList.drop 0 = dktX1_areOther_0 := by decide +kernel
theorem dksX1_areOther_1 : cX1_areOther.data.toList.drop 22 = dktX1_areOther_1 := dk_seg dksX1_areOther_0 22 rfl rfl
theorem dX1_areOther_0 : decode cX1_areOther 0 = .ok (.iload_n 0, 1) := dk_26 (dk_at dksX1_areOther_0 0 rfl rfl)
theorem dX1_areOther_1 : decode cX1_areOther 1 = .ok (.iload_n 1, 1) := dk_27 (dk_at dksX1_areOther_0 1 rfl rfl)
theorem dX1_areOther_2 : decode cX1_areOther 2 = .ok (.if_icmp .eq 32, 3) := dk_159 0 32 (dk_at dksX1_areOther_0 2 rfl rfl)
theorem dX1_areOther_5 : decode cX1_areOther 5 = .ok (.iload_n 0, 1) := dk_26 (dk_at dksX1_areOther_0 5 rfl rfl)
theorem dX1_areOther_6 : decode cX1_areOther 6 = .ok (.iload_n 2, 1) := dk_28 (dk_at dksX1_areOther_0 6 rfl rfl)
theorem dX1_areOther_7 : decode cX1_areOther 7 = .ok (.if_icmp .eq 27, 3) := dk_159 0 27 (dk_at dksX1_areOther_0 7 rfl rfl)
theorem dX1_areOther_10 : decode cX1_areOther 10 = .ok (.iload_n 0, 1) := dk_26 (dk_at dksX1_areOther_0 10 rfl rfl)
theorem dX1_areOther_11 : decode cX1_areOther 11 = .ok (.iload_n 3, 1) := dk_29 (dk_at dksX1_areOther_0 11 rfl rfl)
theorem dX1_areOther_12 : decode cX1_areOther 12 = .ok (.if_icmp .eq 22, 3) := dk_159 0 22 (dk_at dksX1_areOther_0 12 rfl rfl)
theorem dX1_areOther_15 : decode cX1_areOther 15 = .ok (.iload_n 1, 1) := dk_27 (dk_at dksX1_areOther_0 15 rfl rfl)
theorem dX1_areOther_16 : decode cX1_areOther 16 = .ok (.iload_n 2, 1) := dk_28 (dk_at dksX1_areOther_0 16 rfl rfl)
theorem dX1_areOther_17 : decode cX1_areOther 17 = .ok (.if_icmp .eq 17, 3) := dk_159 0 17 (dk_at dksX1_areOther_0 17 rfl rfl)
theorem dX1_areOther_20 : decode cX1_areOther 20 = .ok (.iload_n 1, 1) := dk_27 (dk_at dksX1_areOther_0 20 rfl rfl)
theorem dX1_areOther_21 : decode cX1_areOther 21 = .ok (.iload_n 3, 1) := dk_29 (dk_at dksX1_areOther_0 21 rfl rfl)
theorem dX1_areOther_22 : decode cX1_areOther 22 = .ok (.if_icmp .eq 12, 3) := dk_159 0 12 (dk_at dksX1_areOther_1 0 rfl rfl)
theorem dX1_areOther_25 : decode cX1_areOther 25 = .ok (.iload_n 2, 1) := dk_28 (dk_at dksX1_areOther_1 3 rfl rfl)
theorem dX1_areOther_26 : decode cX1_areOther 26 = .ok (.iload_n 3, 1) := dk_29 (dk_at dksX1_areOther_1 4 rfl rfl)
theorem dX1_areOther_27 : decode cX1_areOther 27 = .ok (.if_icmp .eq 7, 3) := dk_159 0 7 (dk_at dksX1_areOther_1 5 rfl rfl)
theorem dX1_areOther_30 : decode cX1_areOther 30 = .ok (.iconst 1, 1) := dk_4 (dk_at dksX1_areOther_1 8 rfl rfl)
theorem dX1_areOther_31 : decode cX1_areOther 31 = .ok (.goto 4, 3) := dk_167 0 4 (dk_at dksX1_areOther_1 9 rfl rfl)
theorem dX1_areOther_34 : decode cX1_areOther 34 = .ok (.iconst 0, 1) := dk_3 (dk_at dksX1_areOther_1 12 rfl rfl)
theorem dX1_areOther_35 : decode cX1_areOther 35 = .ok (.ireturn, 1) := dk_172 (dk_at dksX1_areOther_1 13 rfl rfl)
abbrev cX1_teeth : ByteArray := prog_1_method_84_code
def yX1_teeth : MethodName := ⟨RX1, "teeth", "(I)I"⟩
def dkwX1_teeth_0 : List UInt8 := [42, 180, 0, 56, 180, 0, 162, 27, 182, 0, 166, 192, 0, 172, 180, 0, 224, 172]
abbrev dktX1_teeth_0 : List UInt8 := dkwX1_teeth_0 ++ []
theorem dksX1_teeth_0 : cX1_teeth.data.toList.drop 0 = dktX1_teeth_0 := by decide +kernel
theorem dX1_teeth_0 : decode cX1_teeth 0 = .ok (.aload_n 0, 1) := dk_42 (dk_at dksX1_teeth_0 0 rfl rfl)
theorem dX1_teeth_1 : decode cX1_teeth 1 = .ok (.getfield 56, 3) := dk_180 0 56 (dk_at dksX1_teeth_0 1 rfl rfl)
theorem dX1_teeth_4 : decode cX1_teeth 4 = .ok (.getfield 162, 3) := dk_180 0 162 (dk_at dksX1_teeth_0 4 rfl rfl)
theorem dX1_teeth_7 : decode cX1_teeth 7 = .ok (.iload_n 1, 1) := dk_27 (dk_at dksX1_teeth_0 7 rfl rfl)
theorem dX1_teeth_8 : decode cX1_teeth 8 = .ok (.invokevirtual 166, 3) := dk_182 0 166 (dk_at dksX1_teeth_0 8 rfl rfl)
theorem dX1_teeth_11 : decode cX1_teeth 11 = .ok (.checkcast 172, 3) := dk_192 0 172 (dk_at dksX1_teeth_0 11 rfl rfl)
theorem dX1_teeth_14 : decode cX1_teeth 14 = .ok (.getfield 224, 3) := dk_180 0 224 (dk_at dksX1_teeth_0 14 rfl rfl)
theorem dX1_teeth_17 : decode cX1_teeth 17 = .ok (.ireturn, 1) := dk_172 (dk_at dksX1_teeth_0 17 rfl rfl)
abbrev cX1_off : ByteArray := prog_1_method_83_code
def yX1_off : MethodName := ⟨RX1, "off", "(JJI)J"⟩
def dkwX1_off_0 : List UInt8 := [30, 21, 4, 133, 105, 20, 1, 102, 32, 105, 101, 184, 0, 1, 173]
abbrev dktX1_off_0 : List UInt8 := dkwX1_off_0 ++ []
theorem dksX1_off_0 : cX1_off.data.toList.drop 0 = dktX1_off_0 := by decide +kernel
theorem dX1_off_0 : decode cX1_off 0 = .ok (.lload_n 0, 1) := dk_30 (dk_at dksX1_off_0 0 rfl rfl)
theorem dX1_off_1 : decode cX1_off 1 = .ok (.iload 4, 2) := dk_21 4 (dk_at dksX1_off_0 1 rfl rfl)
theorem dX1_off_3 : decode cX1_off 3 = .ok (.i2l, 1) := dk_133 (dk_at dksX1_off_0 3 rfl rfl)
theorem dX1_off_4 : decode cX1_off 4 = .ok (.lmul, 1) := dk_105 (dk_at dksX1_off_0 4 rfl rfl)
theorem dX1_off_5 : decode cX1_off 5 = .ok (.ldc2_w 358, 3) := dk_20 1 102 (dk_at dksX1_off_0 5 rfl rfl)
theorem dX1_off_8 : decode cX1_off 8 = .ok (.lload_n 2, 1) := dk_32 (dk_at dksX1_off_0 8 rfl rfl)
theorem dX1_off_9 : decode cX1_off 9 = .ok (.lmul, 1) := dk_105 (dk_at dksX1_off_0 9 rfl rfl)
theorem dX1_off_10 : decode cX1_off 10 = .ok (.lsub, 1) := dk_101 (dk_at dksX1_off_0 10 rfl rfl)
theorem dX1_off_11 : decode cX1_off 11 = .ok (.invokestatic 1, 3) := dk_184 0 1 (dk_at dksX1_off_0 11 rfl rfl)
theorem dX1_off_14 : decode cX1_off 14 = .ok (.lreturn, 1) := dk_173 (dk_at dksX1_off_0 14 rfl rfl)
abbrev cX1_goBack : ByteArray := prog_1_method_91_code
def yX1_goBack : MethodName := ⟨RX1, "goBack", "()I"⟩
def dkwX1_goBack_1 : List UInt8 := [180, 0, 253, 182, 0, 126, 172]
abbrev dktX1_goBack_1 : List UInt8 := dkwX1_goBack_1 ++ []
def dkwX1_goBack_0 : List UInt8 := [42, 180, 1, 120, 198, 0, 7, 4, 167, 0, 4, 3, 184, 1, 123, 42, 42, 180, 1, 120, 42, 180, 1, 120]
abbrev dktX1_goBack_0 : List UInt8 := dkwX1_goBack_0 ++ dktX1_goBack_1
theorem dksX1_goBack_0 : cX1_goBack.data.toList.drop 0 = dktX1_goBack_0 := by decide +kernel
theorem dksX1_goBack_1 : cX1_goBack.data.toList.drop 24 = dktX1_goBack_1 := dk_seg dksX1_goBack_0 24 rfl rfl
theorem dX1_goBack_0 : decode cX1_goBack 0 = .ok (.aload_n 0, 1) := dk_42 (dk_at dksX1_goBack_0 0 rfl rfl)
theorem dX1_goBack_1 : decode cX1_goBack 1 = .ok (.getfield 376, 3) := dk_180 1 120 (dk_at dksX1_goBack_0 1 rfl rfl)
theorem dX1_goBack_4 : decode cX1_goBack 4 = .ok (.ifnull 7, 3) := dk_198 0 7 (dk_at dksX1_goBack_0 4 rfl rfl)
theorem dX1_goBack_7 : decode cX1_goBack 7 = .ok (.iconst 1, 1) := dk_4 (dk_at dksX1_goBack_0 7 rfl rfl)
theorem dX1_goBack_8 : decode cX1_goBack 8 = .ok (.goto 4, 3) := dk_167 0 4 (dk_at dksX1_goBack_0 8 rfl rfl)
theorem dX1_goBack_11 : decode cX1_goBack 11 = .ok (.iconst 0, 1) := dk_3 (dk_at dksX1_goBack_0 11 rfl rfl)
theorem dX1_goBack_12 : decode cX1_goBack 12 = .ok (.invokestatic 379, 3) := dk_184 1 123 (dk_at dksX1_goBack_0 12 rfl rfl)
theorem dX1_goBack_15 : decode cX1_goBack 15 = .ok (.aload_n 0, 1) := dk_42 (dk_at dksX1_goBack_0 15 rfl rfl)
theorem dX1_goBack_16 : decode cX1_goBack 16 = .ok (.aload_n 0, 1) := dk_42 (dk_at dksX1_goBack_0 16 rfl rfl)
theorem dX1_goBack_17 : decode cX1_goBack 17 = .ok (.getfield 376, 3) := dk_180 1 120 (dk_at dksX1_goBack_0 17 rfl rfl)
theorem dX1_goBack_20 : decode cX1_goBack 20 = .ok (.aload_n 0, 1) := dk_42 (dk_at dksX1_goBack_0 20 rfl rfl)
theorem dX1_goBack_21 : decode cX1_goBack 21 = .ok (.getfield 376, 3) := dk_180 1 120 (dk_at dksX1_goBack_0 21 rfl rfl)
theorem dX1_goBack_24 : decode cX1_goBack 24 = .ok (.getfield 253, 3) := dk_180 0 253 (dk_at dksX1_goBack_1 0 rfl rfl)
theorem dX1_goBack_27 : decode cX1_goBack 27 = .ok (.invokevirtual 126, 3) := dk_182 0 126 (dk_at dksX1_goBack_1 3 rfl rfl)
theorem dX1_goBack_30 : decode cX1_goBack 30 = .ok (.ireturn, 1) := dk_172 (dk_at dksX1_goBack_1 6 rfl rfl)
abbrev cX1_needState : ByteArray := prog_1_method_32_code
def yX1_needState : MethodName := ⟨RX1, "needState", "(Z)V"⟩
def dkwX1_needState_0 : List UInt8 := [26, 154, 0, 13, 187, 0, 141, 89, 18, 143, 183, 0, 145, 191, 177]
abbrev dktX1_needState_0 : List UInt8 := dkwX1_needState_0 ++ []
theorem dksX1_needState_0 : cX1_needState.data.toList.drop 0 = dktX1_needState_0 := by decide +kernel
theorem dX1_needState_0 : decode cX1_needState 0 = .ok (.iload_n 0, 1) := dk_26 (dk_at dksX1_needState_0 0 rfl rfl)
theorem dX1_needState_1 : decode cX1_needState 1 = .ok (.ifCond .ne 13, 3) := dk_154 0 13 (dk_at dksX1_needState_0 1 rfl rfl)
theorem dX1_needState_4 : decode cX1_needState 4 = .ok (.new 141, 3) := dk_187 0 141 (dk_at dksX1_needState_0 4 rfl rfl)
theorem dX1_needState_7 : decode cX1_needState 7 = .ok (.dup, 1) := dk_89 (dk_at dksX1_needState_0 7 rfl rfl)
theorem dX1_needState_8 : decode cX1_needState 8 = .ok (.ldc 143, 2) := dk_18 143 (dk_at dksX1_needState_0 8 rfl rfl)
theorem dX1_needState_10 : decode cX1_needState 10 = .ok (.invokespecial 145, 3) := dk_183 0 145 (dk_at dksX1_needState_0 10 rfl rfl)
theorem dX1_needState_13 : decode cX1_needState 13 = .ok (.athrow, 1) := dk_191 (dk_at dksX1_needState_0 13 rfl rfl)
theorem dX1_needState_14 : decode cX1_needState 14 = .ok (.return_, 1) := dk_177 (dk_at dksX1_needState_0 14 rfl rfl)
abbrev cX1_undo : ByteArray := prog_1_method_93_code
def yX1_undo : MethodName := ⟨RX1, "undo", "()I"⟩
def dkwX1_undo_1 : List UInt8 := [182, 1, 130, 192, 0, 53, 181, 0, 56, 42, 180, 0, 63, 182, 0, 78, 172]
abbrev dktX1_undo_1 : List UInt8 := dkwX1_undo_1 ++ []
def dkwX1_undo_0 : List UInt8 := [42, 180, 0, 63, 182, 1, 126, 154, 0, 7, 4, 167, 0, 4, 3, 184, 1, 123, 42, 42, 180, 0, 63]
abbrev dktX1_undo_0 : List UInt8 := dkwX1_undo_0 ++ dktX1_undo_1
theorem dksX1_undo_0 : cX1_undo.data.toList.drop 0 = dktX1_undo_0 := by decide +kernel
theorem dksX1_undo_1 : cX1_undo.data.toList.drop 23 = dktX1_undo_1 := dk_seg dksX1_undo_0 23 rfl rfl
theorem dX1_undo_0 : decode cX1_undo 0 = .ok (.aload_n 0, 1) := dk_42 (dk_at dksX1_undo_0 0 rfl rfl)
theorem dX1_undo_1 : decode cX1_undo 1 = .ok (.getfield 63, 3) := dk_180 0 63 (dk_at dksX1_undo_0 1 rfl rfl)
theorem dX1_undo_4 : decode cX1_undo 4 = .ok (.invokevirtual 382, 3) := dk_182 1 126 (dk_at dksX1_undo_0 4 rfl rfl)
theorem dX1_undo_7 : decode cX1_undo 7 = .ok (.ifCond .ne 7, 3) := dk_154 0 7 (dk_at dksX1_undo_0 7 rfl rfl)
theorem dX1_undo_10 : decode cX1_undo 10 = .ok (.iconst 1, 1) := dk_4 (dk_at dksX1_undo_0 10 rfl rfl)
theorem dX1_undo_11 : decode cX1_undo 11 = .ok (.goto 4, 3) := dk_167 0 4 (dk_at dksX1_undo_0 11 rfl rfl)
theorem dX1_undo_14 : decode cX1_undo 14 = .ok (.iconst 0, 1) := dk_3 (dk_at dksX1_undo_0 14 rfl rfl)
theorem dX1_undo_15 : decode cX1_undo 15 = .ok (.invokestatic 379, 3) := dk_184 1 123 (dk_at dksX1_undo_0 15 rfl rfl)
theorem dX1_undo_18 : decode cX1_undo 18 = .ok (.aload_n 0, 1) := dk_42 (dk_at dksX1_undo_0 18 rfl rfl)
theorem dX1_undo_19 : decode cX1_undo 19 = .ok (.aload_n 0, 1) := dk_42 (dk_at dksX1_undo_0 19 rfl rfl)
theorem dX1_undo_20 : decode cX1_undo 20 = .ok (.getfield 63, 3) := dk_180 0 63 (dk_at dksX1_undo_0 20 rfl rfl)
theorem dX1_undo_23 : decode cX1_undo 23 = .ok (.invokevirtual 386, 3) := dk_182 1 130 (dk_at dksX1_undo_1 0 rfl rfl)
theorem dX1_undo_26 : decode cX1_undo 26 = .ok (.checkcast 53, 3) := dk_192 0 53 (dk_at dksX1_undo_1 3 rfl rfl)
theorem dX1_undo_29 : decode cX1_undo 29 = .ok (.putfield 56, 3) := dk_181 0 56 (dk_at dksX1_undo_1 6 rfl rfl)
theorem dX1_undo_32 : decode cX1_undo 32 = .ok (.aload_n 0, 1) := dk_42 (dk_at dksX1_undo_1 9 rfl rfl)
theorem dX1_undo_33 : decode cX1_undo 33 = .ok (.getfield 63, 3) := dk_180 0 63 (dk_at dksX1_undo_1 10 rfl rfl)
theorem dX1_undo_36 : decode cX1_undo 36 = .ok (.invokevirtual 78, 3) := dk_182 0 78 (dk_at dksX1_undo_1 13 rfl rfl)
theorem dX1_undo_39 : decode cX1_undo 39 = .ok (.ireturn, 1) := dk_172 (dk_at dksX1_undo_1 16 rfl rfl)
abbrev cX1_type : ByteArray := prog_1_method_94_code
def yX1_type : MethodName := ⟨RX1, "type", "(I)I"⟩
def dkwX1_type_2 : List UInt8 := [180, 0, 70, 182, 1, 137, 172]
abbrev dktX1_type_2 : List UInt8 := dkwX1_type_2 ++ []
def dkwX1_type_1 : List UInt8 := [162, 0, 7, 4, 167, 0, 4, 3, 184, 1, 123, 42, 180, 0, 70, 27, 146, 182, 1, 140, 87, 42]
abbrev dktX1_type_1 : List UInt8 := dkwX1_type_1 ++ dktX1_type_2
def dkwX1_type_0 : List UInt8 := [27, 133, 20, 1, 133, 20, 1, 135, 184, 0, 204, 184, 0, 158, 42, 180, 0, 70, 182, 1, 137, 16, 60]
abbrev dktX1_type_0 : List UInt8 := dkwX1_type_0 ++ dktX1_type_1
theorem dksX1_type_0 : cX1_type.data.toList.drop 0 = dktX1_type_0 := by decide +kernel
theorem dksX1_type_1 : cX1_type.data.toList.drop 23 = dktX1_type_1 := dk_seg dksX1_type_0 23 rfl rfl
theorem dksX1_type_2 : cX1_type.data.toList.drop 45 = dktX1_type_2 := dk_seg dksX1_type_1 22 rfl rfl
theorem dX1_type_0 : decode cX1_type 0 = .ok (.iload_n 1, 1) := dk_27 (dk_at dksX1_type_0 0 rfl rfl)
theorem dX1_type_1 : decode cX1_type 1 = .ok (.i2l, 1) := dk_133 (dk_at dksX1_type_0 1 rfl rfl)
theorem dX1_type_2 : decode cX1_type 2 = .ok (.ldc2_w 389, 3) := dk_20 1 133 (dk_at dksX1_type_0 2 rfl rfl)
theorem dX1_type_5 : decode cX1_type 5 = .ok (.ldc2_w 391, 3) := dk_20 1 135 (dk_at dksX1_type_0 5 rfl rfl)
theorem dX1_type_8 : decode cX1_type 8 = .ok (.invokestatic 204, 3) := dk_184 0 204 (dk_at dksX1_type_0 8 rfl rfl)
theorem dX1_type_11 : decode cX1_type 11 = .ok (.invokestatic 158, 3) := dk_184 0 158 (dk_at dksX1_type_0 11 rfl rfl)
theorem dX1_type_14 : decode cX1_type 14 = .ok (.aload_n 0, 1) := dk_42 (dk_at dksX1_type_0 14 rfl rfl)
theorem dX1_type_15 : decode cX1_type 15 = .ok (.getfield 70, 3) := dk_180 0 70 (dk_at dksX1_type_0 15 rfl rfl)
theorem dX1_type_18 : decode cX1_type 18 = .ok (.invokevirtual 393, 3) := dk_182 1 137 (dk_at dksX1_type_0 18 rfl rfl)
theorem dX1_type_21 : decode cX1_type 21 = .ok (.bipush 60, 2) := dk_16 60 (dk_at dksX1_type_0 21 rfl rfl)
theorem dX1_type_23 : decode cX1_type 23 = .ok (.if_icmp .ge 7, 3) := dk_162 0 7 (dk_at dksX1_type_1 0 rfl rfl)
theorem dX1_type_26 : decode cX1_type 26 = .ok (.iconst 1, 1) := dk_4 (dk_at dksX1_type_1 3 rfl rfl)
theorem dX1_type_27 : decode cX1_type 27 = .ok (.goto 4, 3) := dk_167 0 4 (dk_at dksX1_type_1 4 rfl rfl)
theorem dX1_type_30 : decode cX1_type 30 = .ok (.iconst 0, 1) := dk_3 (dk_at dksX1_type_1 7 rfl rfl)
theorem dX1_type_31 : decode cX1_type 31 = .ok (.invokestatic 379, 3) := dk_184 1 123 (dk_at dksX1_type_1 8 rfl rfl)
theorem dX1_type_34 : decode cX1_type 34 = .ok (.aload_n 0, 1) := dk_42 (dk_at dksX1_type_1 11 rfl rfl)
theorem dX1_type_35 : decode cX1_type 35 = .ok (.getfield 70, 3) := dk_180 0 70 (dk_at dksX1_type_1 12 rfl rfl)
theorem dX1_type_38 : decode cX1_type 38 = .ok (.iload_n 1, 1) := dk_27 (dk_at dksX1_type_1 15 rfl rfl)
theorem dX1_type_39 : decode cX1_type 39 = .ok (.i2c, 1) := dk_146 (dk_at dksX1_type_1 16 rfl rfl)
theorem dX1_type_40 : decode cX1_type 40 = .ok (.invokevirtual 396, 3) := dk_182 1 140 (dk_at dksX1_type_1 17 rfl rfl)
theorem dX1_type_43 : decode cX1_type 43 = .ok (.pop, 1) := dk_87 (dk_at dksX1_type_1 20 rfl rfl)
theorem dX1_type_44 : decode cX1_type 44 = .ok (.aload_n 0, 1) := dk_42 (dk_at dksX1_type_1 21 rfl rfl)
theorem dX1_type_45 : decode cX1_type 45 = .ok (.getfield 70, 3) := dk_180 0 70 (dk_at dksX1_type_2 0 rfl rfl)
theorem dX1_type_48 : decode cX1_type 48 = .ok (.invokevirtual 393, 3) := dk_182 1 137 (dk_at dksX1_type_2 3 rfl rfl)
theorem dX1_type_51 : decode cX1_type 51 = .ok (.ireturn, 1) := dk_172 (dk_at dksX1_type_2 6 rfl rfl)
abbrev cX1_faultPosition : ByteArray := prog_1_method_97_code
def yX1_faultPosition : MethodName := ⟨RX1, "faultPosition", "()I"⟩
def dkwX1_faultPosition_0 : List UInt8 := [42, 182, 1, 155, 180, 1, 159, 172]
abbrev dktX1_faultPosition_0 : List UInt8 := dkwX1_faultPosition_0 ++ []
theorem dksX1_faultPosition_0 : cX1_faultPosition.data.toList.drop 0 = dktX1_faultPosition_0 := by decide +kernel
theorem dX1_faultPosition_0 : decode cX1_faultPosition 0 = .ok (.aload_n 0, 1) := dk_42 (dk_at dksX1_faultPosition_0 0 rfl rfl)
theorem dX1_faultPosition_1 : decode cX1_faultPosition 1 = .ok (.invokevirtual 411, 3) := dk_182 1 155 (dk_at dksX1_faultPosition_0 1 rfl rfl)
theorem dX1_faultPosition_4 : decode cX1_faultPosition 4 = .ok (.getfield 415, 3) := dk_180 1 159 (dk_at dksX1_faultPosition_0 4 rfl rfl)
theorem dX1_faultPosition_7 : decode cX1_faultPosition 7 = .ok (.ireturn, 1) := dk_172 (dk_at dksX1_faultPosition_0 7 rfl rfl)
abbrev cX1_faulty : ByteArray := prog_1_method_96_code
def yX1_faulty : MethodName := ⟨RX1, "faulty", "()LClockworkOrreries$Reader;"⟩
def dkwX1_faulty_1 : List UInt8 := [43, 176]
abbrev dktX1_faulty_1 : List UInt8 := dkwX1_faulty_1 ++ []
def dkwX1_faulty_0 : List UInt8 := [187, 1, 147, 89, 42, 183, 1, 149, 76, 43, 182, 1, 152, 154, 0, 7, 4, 167, 0, 4, 3, 184, 0, 194]
abbrev dktX1_faulty_0 : List UInt8 := dkwX1_faulty_0 ++ dktX1_faulty_1
theorem dksX1_faulty_0 : cX1_faulty.data.toList.drop 0 = dktX1_faulty_0 := by decide +kernel
theorem dksX1_faulty_1 : cX1_faulty.data.toList.drop 24 = dktX1_faulty_1 := dk_seg dksX1_faulty_0 24 rfl rfl
theorem dX1_faulty_0 : decode cX1_faulty 0 = .ok (.new 403, 3) := dk_187 1 147 (dk_at dksX1_faulty_0 0 rfl rfl)
theorem dX1_faulty_3 : decode cX1_faulty 3 = .ok (.dup, 1) := dk_89 (dk_at dksX1_faulty_0 3 rfl rfl)
theorem dX1_faulty_4 : decode cX1_faulty 4 = .ok (.aload_n 0, 1) := dk_42 (dk_at dksX1_faulty_0 4 rfl rfl)
theorem dX1_faulty_5 : decode cX1_faulty 5 = .ok (.invokespecial 405, 3) := dk_183 1 149 (dk_at dksX1_faulty_0 5 rfl rfl)
theorem dX1_faulty_8 : decode cX1_faulty 8 = .ok (.astore_n 1, 1) := dk_76 (dk_at dksX1_faulty_0 8 rfl rfl)
theorem dX1_faulty_9 : decode cX1_faulty 9 = .ok (.aload_n 1, 1) := dk_43 (dk_at dksX1_faulty_0 9 rfl rfl)
theorem dX1_faulty_10 : decode cX1_faulty 10 = .ok (.invokevirtual 408, 3) := dk_182 1 152 (dk_at dksX1_faulty_0 10 rfl rfl)
theorem dX1_faulty_13 : decode cX1_faulty 13 = .ok (.ifCond .ne 7, 3) := dk_154 0 7 (dk_at dksX1_faulty_0 13 rfl rfl)
theorem dX1_faulty_16 : decode cX1_faulty 16 = .ok (.iconst 1, 1) := dk_4 (dk_at dksX1_faulty_0 16 rfl rfl)
theorem dX1_faulty_17 : decode cX1_faulty 17 = .ok (.goto 4, 3) := dk_167 0 4 (dk_at dksX1_faulty_0 17 rfl rfl)
theorem dX1_faulty_20 : decode cX1_faulty 20 = .ok (.iconst 0, 1) := dk_3 (dk_at dksX1_faulty_0 20 rfl rfl)
theorem dX1_faulty_21 : decode cX1_faulty 21 = .ok (.invokestatic 194, 3) := dk_184 0 194 (dk_at dksX1_faulty_0 21 rfl rfl)
theorem dX1_faulty_24 : decode cX1_faulty 24 = .ok (.aload_n 1, 1) := dk_43 (dk_at dksX1_faulty_1 0 rfl rfl)
theorem dX1_faulty_25 : decode cX1_faulty 25 = .ok (.areturn, 1) := dk_176 (dk_at dksX1_faulty_1 1 rfl rfl)
abbrev cX1_faultReason : ByteArray := prog_1_method_98_code
def yX1_faultReason : MethodName := ⟨RX1, "faultReason", "()I"⟩
def dkwX1_faultReason_0 : List UInt8 := [42, 182, 1, 155, 180, 1, 162, 172]
abbrev dktX1_faultReason_0 : List UInt8 := dkwX1_faultReason_0 ++ []
theorem dksX1_faultReason_0 : cX1_faultReason.data.toList.drop 0 = dktX1_faultReason_0 := by decide +kernel
theorem dX1_faultReason_0 : decode cX1_faultReason 0 = .ok (.aload_n 0, 1) := dk_42 (dk_at dksX1_faultReason_0 0 rfl rfl)
theorem dX1_faultReason_1 : decode cX1_faultReason 1 = .ok (.invokevirtual 411, 3) := dk_182 1 155 (dk_at dksX1_faultReason_0 1 rfl rfl)
theorem dX1_faultReason_4 : decode cX1_faultReason 4 = .ok (.getfield 418, 3) := dk_180 1 162 (dk_at dksX1_faultReason_0 4 rfl rfl)
theorem dX1_faultReason_7 : decode cX1_faultReason 7 = .ok (.ireturn, 1) := dk_172 (dk_at dksX1_faultReason_0 7 rfl rfl)
abbrev cX1_faultCause : ByteArray := prog_1_method_99_code
def yX1_faultCause : MethodName := ⟨RX1, "faultCause", "()I"⟩
def dkwX1_faultCause_0 : List UInt8 := [42, 182, 1, 155, 180, 1, 165, 172]
abbrev dktX1_faultCause_0 : List UInt8 := dkwX1_faultCause_0 ++ []
theorem dksX1_faultCause_0 : cX1_faultCause.data.toList.drop 0 = dktX1_faultCause_0 := by decide +kernel
theorem dX1_faultCause_0 : decode cX1_faultCause 0 = .ok (.aload_n 0, 1) := dk_42 (dk_at dksX1_faultCause_0 0 rfl rfl)
theorem dX1_faultCause_1 : decode cX1_faultCause 1 = .ok (.invokevirtual 411, 3) := dk_182 1 155 (dk_at dksX1_faultCause_0 1 rfl rfl)
theorem dX1_faultCause_4 : decode cX1_faultCause 4 = .ok (.getfield 421, 3) := dk_180 1 165 (dk_at dksX1_faultCause_0 4 rfl rfl)
theorem dX1_faultCause_7 : decode cX1_faultCause 7 = .ok (.ireturn, 1) := dk_172 (dk_at dksX1_faultCause_0 7 rfl rfl)
abbrev cX1_play : ByteArray := prog_1_method_100_code
def yX1_play : MethodName := ⟨RX1, "play", "()I"⟩
def dkwX1_play_1 : List UInt8 := [180, 1, 171, 182, 0, 126, 172]
abbrev dktX1_play_1 : List UInt8 := dkwX1_play_1 ++ []
def dkwX1_play_0 : List UInt8 := [187, 1, 147, 89, 42, 183, 1, 149, 76, 43, 182, 1, 152, 184, 1, 123, 42, 43, 180, 1, 168, 43]
abbrev dktX1_play_0 : List UInt8 := dkwX1_play_0 ++ dktX1_play_1
theorem dksX1_play_0 : cX1_play.data.toList.drop 0 = dktX1_play_0 := by decide +kernel
theorem dksX1_play_1 : cX1_play.data.toList.drop 22 = dktX1_play_1 := dk_seg dksX1_play_0 22 rfl rfl
theorem dX1_play_0 : decode cX1_play 0 = .ok (.new 403, 3) := dk_187 1 147 (dk_at dksX1_play_0 0 rfl rfl)
theorem dX1_play_3 : decode cX1_play 3 = .ok (.dup, 1) := dk_89 (dk_at dksX1_play_0 3 rfl rfl)
theorem dX1_play_4 : decode cX1_play 4 = .ok (.aload_n 0, 1) := dk_42 (dk_at dksX1_play_0 4 rfl rfl)
theorem dX1_play_5 : decode cX1_play 5 = .ok (.invokespecial 405, 3) := dk_183 1 149 (dk_at dksX1_play_0 5 rfl rfl)
theorem dX1_play_8 : decode cX1_play 8 = .ok (.astore_n 1, 1) := dk_76 (dk_at dksX1_play_0 8 rfl rfl)
theorem dX1_play_9 : decode cX1_play 9 = .ok (.aload_n 1, 1) := dk_43 (dk_at dksX1_play_0 9 rfl rfl)
theorem dX1_play_10 : decode cX1_play 10 = .ok (.invokevirtual 408, 3) := dk_182 1 152 (dk_at dksX1_play_0 10 rfl rfl)
theorem dX1_play_13 : decode cX1_play 13 = .ok (.invokestatic 379, 3) := dk_184 1 123 (dk_at dksX1_play_0 13 rfl rfl)
theorem dX1_play_16 : decode cX1_play 16 = .ok (.aload_n 0, 1) := dk_42 (dk_at dksX1_play_0 16 rfl rfl)
theorem dX1_play_17 : decode cX1_play 17 = .ok (.aload_n 1, 1) := dk_43 (dk_at dksX1_play_0 17 rfl rfl)
theorem dX1_play_18 : decode cX1_play 18 = .ok (.getfield 424, 3) := dk_180 1 168 (dk_at dksX1_play_0 18 rfl rfl)
theorem dX1_play_21 : decode cX1_play 21 = .ok (.aload_n 1, 1) := dk_43 (dk_at dksX1_play_0 21 rfl rfl)
theorem dX1_play_22 : decode cX1_play 22 = .ok (.getfield 427, 3) := dk_180 1 171 (dk_at dksX1_play_1 0 rfl rfl)
theorem dX1_play_25 : decode cX1_play 25 = .ok (.invokevirtual 126, 3) := dk_182 0 126 (dk_at dksX1_play_1 3 rfl rfl)
theorem dX1_play_28 : decode cX1_play 28 = .ok (.ireturn, 1) := dk_172 (dk_at dksX1_play_1 6 rfl rfl)
theorem q75 : (Jvm.Cond.initialized "ClockworkOrreries") ∈ lw_all := lw_g (lw_at lw_m1 1 rfl) rfl
theorem q111 : (Jvm.Cond.instantiable "ClockworkOrreries" (4 : Nat)) ∈ lw_all := lw_g (lw_at lw_m1 37 rfl) rfl
theorem q113 : (Jvm.Cond.instanceMethod ({ cls := "ClockworkOrreries", name := "<init>", desc := "()V" } : Jvm.MethodName)) ∈ lw_all := lw_g (lw_at lw_m1 39 rfl) rfl
theorem q114 : (Jvm.Cond.code ({ cls := "ClockworkOrreries", name := "<init>", desc := "()V" } : Jvm.MethodName) prog_1_method_15_code (1 : Nat) (Option.none : Option Jvm.ClassFile.FieldType)) ∈ lw_all := lw_g (lw_at lw_m1 40 rfl) rfl
theorem q115 : (Jvm.Cond.methodLink "ClockworkOrreries" (48 : Nat) ({ cls := "java/lang/Object", name := "<init>", desc := "()V" } : Jvm.MethodName)) ∈ lw_all := lw_g (lw_at lw_m1 41 rfl) rfl
theorem q118 : (Jvm.Cond.classLink "ClockworkOrreries" (53 : Nat) "ClockworkOrreries$Works") ∈ lw_all := lw_g (lw_at lw_m1 44 rfl) rfl
theorem q120 : (Jvm.Cond.methodLink "ClockworkOrreries" (55 : Nat) ({ cls := "ClockworkOrreries$Works", name := "<init>", desc := "()V" } : Jvm.MethodName)) ∈ lw_all := lw_g (lw_at lw_m1 46 rfl) rfl
theorem q152 : (Jvm.Cond.fieldLinkNest "ClockworkOrreries" (162 : Nat) "ClockworkOrreries$Works" "wheels" "Ljava/util/ArrayList;" "ClockworkOrreries") ∈ lw_tbl := lw_at lw_m1 78 rfl
theorem q154 : (Jvm.Cond.fieldLinkNest "ClockworkOrreries" (177 : Nat) "ClockworkOrreries$Works" "arms" "Ljava/util/ArrayList;" "ClockworkOrreries") ∈ lw_tbl := lw_at lw_m1 80 rfl
theorem q156 : (Jvm.Cond.fieldLinkNest "ClockworkOrreries" (200 : Nat) "ClockworkOrreries$Works" "moons" "Ljava/util/ArrayList;" "ClockworkOrreries") ∈ lw_tbl := lw_at lw_m1 82 rfl
theorem q159 : (Jvm.Cond.fieldLinkNest "ClockworkOrreries" (256 : Nat) "ClockworkOrreries$Works" "first" "[I" "ClockworkOrreries") ∈ lw_tbl := lw_at lw_m1 85 rfl
theorem q162 : (Jvm.Cond.fieldLinkNest "ClockworkOrreries" (259 : Nat) "ClockworkOrreries$Works" "second" "[I" "ClockworkOrreries") ∈ lw_tbl := lw_at lw_m1 88 rfl
theorem q164 : (Jvm.Cond.fieldLinkNest "ClockworkOrreries" (214 : Nat) "ClockworkOrreries$Works" "axles" "I" "ClockworkOrreries") ∈ lw_tbl := lw_at lw_m1 90 rfl
theorem q167 : (Jvm.Cond.fieldLinkNest "ClockworkOrreries" (217 : Nat) "ClockworkOrreries$Works" "meshes" "I" "ClockworkOrreries") ∈ lw_tbl := lw_at lw_m1 93 rfl
theorem q169 : (Jvm.Cond.fieldLinkNest "ClockworkOrreries" (253 : Nat) "ClockworkOrreries$Works" "now" "I" "ClockworkOrreries") ∈ lw_tbl := lw_at lw_m1 95 rfl
theorem q171 : (Jvm.Cond.fieldLinkNest "ClockworkOrreries" (370 : Nat) "ClockworkOrreries$Works" "gone" "I" "ClockworkOrreries") ∈ lw_tbl := lw_at lw_m1 97 rfl
theorem q192 : (Jvm.Cond.classLink "ClockworkOrreries" (60 : Nat) "java/util/ArrayDeque") ∈ lw_all := lw_g (lw_at lw_m1 118 rfl) rfl
theorem q194 : (Jvm.Cond.methodLink "ClockworkOrreries" (62 : Nat) ({ cls := "java/util/ArrayDeque", name := "<init>", desc := "()V" } : Jvm.MethodName)) ∈ lw_all := lw_g (lw_at lw_m1 120 rfl) rfl
theorem q210 : (Jvm.Cond.classLink "ClockworkOrreries" (67 : Nat) "java/lang/StringBuilder") ∈ lw_all := lw_g (lw_at lw_m1 136 rfl) rfl
theorem q212 : (Jvm.Cond.methodLink "ClockworkOrreries" (69 : Nat) ({ cls := "java/lang/StringBuilder", name := "<init>", desc := "()V" } : Jvm.MethodName)) ∈ lw_all := lw_g (lw_at lw_m1 138 rfl) rfl
theorem q244 : (Jvm.Cond.fieldLink "ClockworkOrreries" (56 : Nat) "ClockworkOrreries" "works" "LClockworkOrreries$Works;") ∈ lw_all := lw_g (lw_at lw_m1 170 rfl) rfl
theorem q245 : (Jvm.Cond.fieldLink "ClockworkOrreries" (376 : Nat) "ClockworkOrreries" "kept" "LClockworkOrreries$Works;") ∈ lw_all := lw_g (lw_at lw_m1 171 rfl) rfl
theorem q246 : (Jvm.Cond.fieldLink "ClockworkOrreries" (63 : Nat) "ClockworkOrreries" "history" "Ljava/util/ArrayDeque;") ∈ lw_all := lw_g (lw_at lw_m1 172 rfl) rfl
theorem q248 : (Jvm.Cond.fieldLink "ClockworkOrreries" (70 : Nat) "ClockworkOrreries" "text" "Ljava/lang/StringBuilder;") ∈ lw_all := lw_g (lw_at lw_m1 174 rfl) rfl
theorem q249 : (Jvm.Cond.lays "ClockworkOrreries" "ClockworkOrreries" "works" "LClockworkOrreries$Works;") ∈ lw_all := lw_g (lw_at lw_m1 175 rfl) rfl
theorem q250 : (Jvm.Cond.soleField "ClockworkOrreries" "works") ∈ lw_all := lw_g (lw_at lw_m1 176 rfl) rfl
theorem q251 : (Jvm.Cond.lays "ClockworkOrreries" "ClockworkOrreries" "kept" "LClockworkOrreries$Works;") ∈ lw_all := lw_g (lw_at lw_m1 177 rfl) rfl
theorem q252 : (Jvm.Cond.soleField "ClockworkOrreries" "kept") ∈ lw_all := lw_g (lw_at lw_m1 178 rfl) rfl
theorem q253 : (Jvm.Cond.laysFinal "ClockworkOrreries" "ClockworkOrreries" "history" "Ljava/util/ArrayDeque;") ∈ lw_all := lw_g (lw_at lw_m1 179 rfl) rfl
theorem q254 : (Jvm.Cond.soleField "ClockworkOrreries" "history") ∈ lw_all := lw_g (lw_at lw_m1 180 rfl) rfl
theorem q255 : (Jvm.Cond.laysFinal "ClockworkOrreries" "ClockworkOrreries" "text" "Ljava/lang/StringBuilder;") ∈ lw_all := lw_g (lw_at lw_m1 181 rfl) rfl
theorem q256 : (Jvm.Cond.soleField "ClockworkOrreries" "text") ∈ lw_all := lw_g (lw_at lw_m1 182 rfl) rfl
theorem q257 : (Jvm.Cond.superclass "ClockworkOrreries" "java/lang/Object") ∈ lw_all := lw_g (lw_at lw_m1 183 rfl) rfl
theorem q259 : (Jvm.Cond.instanceMethod ({ cls := "ClockworkOrreries", name := "axles", desc := "()I" } : Jvm.MethodName)) ∈ lw_all := lw_g (lw_at lw_m1 185 rfl) rfl
theorem q260 : (Jvm.Cond.selects "ClockworkOrreries" ({ cls := "ClockworkOrreries", name := "axles", desc := "()I" } : Jvm.MethodName) ({ cls := "ClockworkOrreries", name := "axles", desc := "()I" } : Jvm.MethodName)) ∈ lw_all := lw_g (lw_at lw_m1 186 rfl) rfl
theorem q261 : (Jvm.Cond.code ({ cls := "ClockworkOrreries", name := "axles", desc := "()I" } : Jvm.MethodName) prog_1_method_38_code (1 : Nat) (Option.some Jvm.ClassFile.FieldType.int)) ∈ lw_all := lw_g (lw_at lw_m1 187 rfl) rfl
theorem q263 : (Jvm.Cond.instanceMethod ({ cls := "ClockworkOrreries", name := "wheels", desc := "()I" } : Jvm.MethodName)) ∈ lw_all := lw_g (lw_at lw_m1 189 rfl) rfl
theorem q264 : (Jvm.Cond.selects "ClockworkOrreries" ({ cls := "ClockworkOrreries", name := "wheels", desc := "()I" } : Jvm.MethodName) ({ cls := "ClockworkOrreries", name := "wheels", desc := "()I" } : Jvm.MethodName)) ∈ lw_all := lw_g (lw_at lw_m1 190 rfl) rfl
theorem q265 : (Jvm.Cond.code ({ cls := "ClockworkOrreries", name := "wheels", desc := "()I" } : Jvm.MethodName) prog_1_method_39_code (1 : Nat) (Option.some Jvm.ClassFile.FieldType.int)) ∈ lw_all := lw_g (lw_at lw_m1 191 rfl) rfl
theorem q266 : (Jvm.Cond.methodLink "ClockworkOrreries" (203 : Nat) ({ cls := "java/util/ArrayList", name := "size", desc := "()I" } : Jvm.MethodName)) ∈ lw_all := lw_g (lw_at lw_m1 192 rfl) rfl
theorem q271 : (Jvm.Cond.instanceMethod ({ cls := "ClockworkOrreries", name := "pairs", desc := "()I" } : Jvm.MethodName)) ∈ lw_all := lw_g (lw_at lw_m1 197 rfl) rfl
theorem q272 : (Jvm.Cond.selects "ClockworkOrreries" ({ cls := "ClockworkOrreries", name := "pairs", desc := "()I" } : Jvm.MethodName) ({ cls := "ClockworkOrreries", name := "pairs", desc := "()I" } : Jvm.MethodName)) ∈ lw_all := lw_g (lw_at lw_m1 198 rfl) rfl
theorem q273 : (Jvm.Cond.code ({ cls := "ClockworkOrreries", name := "pairs", desc := "()I" } : Jvm.MethodName) prog_1_method_40_code (1 : Nat) (Option.some Jvm.ClassFile.FieldType.int)) ∈ lw_all := lw_g (lw_at lw_m1 199 rfl) rfl
theorem q275 : (Jvm.Cond.instanceMethod ({ cls := "ClockworkOrreries", name := "arms", desc := "()I" } : Jvm.MethodName)) ∈ lw_all := lw_g (lw_at lw_m1 201 rfl) rfl
theorem q276 : (Jvm.Cond.selects "ClockworkOrreries" ({ cls := "ClockworkOrreries", name := "arms", desc := "()I" } : Jvm.MethodName) ({ cls := "ClockworkOrreries", name := "arms", desc := "()I" } : Jvm.MethodName)) ∈ lw_all := lw_g (lw_at lw_m1 202 rfl) rfl
theorem q277 : (Jvm.Cond.code ({ cls := "ClockworkOrreries", name := "arms", desc := "()I" } : Jvm.MethodName) prog_1_method_56_code (1 : Nat) (Option.some Jvm.ClassFile.FieldType.int)) ∈ lw_all := lw_g (lw_at lw_m1 203 rfl) rfl
theorem q279 : (Jvm.Cond.instanceMethod ({ cls := "ClockworkOrreries", name := "moons", desc := "()I" } : Jvm.MethodName)) ∈ lw_all := lw_g (lw_at lw_m1 205 rfl) rfl
theorem q280 : (Jvm.Cond.selects "ClockworkOrreries" ({ cls := "ClockworkOrreries", name := "moons", desc := "()I" } : Jvm.MethodName) ({ cls := "ClockworkOrreries", name := "moons", desc := "()I" } : Jvm.MethodName)) ∈ lw_all := lw_g (lw_at lw_m1 206 rfl) rfl
theorem q281 : (Jvm.Cond.code ({ cls := "ClockworkOrreries", name := "moons", desc := "()I" } : Jvm.MethodName) prog_1_method_57_code (1 : Nat) (Option.some Jvm.ClassFile.FieldType.int)) ∈ lw_all := lw_g (lw_at lw_m1 207 rfl) rfl
theorem q283 : (Jvm.Cond.instanceMethod ({ cls := "ClockworkOrreries", name := "day", desc := "()I" } : Jvm.MethodName)) ∈ lw_all := lw_g (lw_at lw_m1 209 rfl) rfl
theorem q284 : (Jvm.Cond.selects "ClockworkOrreries" ({ cls := "ClockworkOrreries", name := "day", desc := "()I" } : Jvm.MethodName) ({ cls := "ClockworkOrreries", name := "day", desc := "()I" } : Jvm.MethodName)) ∈ lw_all := lw_g (lw_at lw_m1 210 rfl) rfl
theorem q285 : (Jvm.Cond.code ({ cls := "ClockworkOrreries", name := "day", desc := "()I" } : Jvm.MethodName) prog_1_method_71_code (1 : Nat) (Option.some Jvm.ClassFile.FieldType.int)) ∈ lw_all := lw_g (lw_at lw_m1 211 rfl) rfl
theorem q287 : (Jvm.Cond.instanceMethod ({ cls := "ClockworkOrreries", name := "date", desc := "()I" } : Jvm.MethodName)) ∈ lw_all := lw_g (lw_at lw_m1 213 rfl) rfl
theorem q288 : (Jvm.Cond.selects "ClockworkOrreries" ({ cls := "ClockworkOrreries", name := "date", desc := "()I" } : Jvm.MethodName) ({ cls := "ClockworkOrreries", name := "date", desc := "()I" } : Jvm.MethodName)) ∈ lw_all := lw_g (lw_at lw_m1 214 rfl) rfl
theorem q289 : (Jvm.Cond.code ({ cls := "ClockworkOrreries", name := "date", desc := "()I" } : Jvm.MethodName) prog_1_method_72_code (1 : Nat) (Option.some Jvm.ClassFile.FieldType.int)) ∈ lw_all := lw_g (lw_at lw_m1 215 rfl) rfl
theorem q290 : (Jvm.Cond.methodLink "ClockworkOrreries" (316 : Nat) ({ cls := "ClockworkOrreries", name := "counted", desc := "(I)I" } : Jvm.MethodName)) ∈ lw_all := lw_g (lw_at lw_m1 216 rfl) rfl
theorem q291 : (Jvm.Cond.static ({ cls := "ClockworkOrreries", name := "counted", desc := "(I)I" } : Jvm.MethodName)) ∈ lw_all := lw_g (lw_at lw_m1 217 rfl) rfl
theorem q292 : (Jvm.Cond.code ({ cls := "ClockworkOrreries", name := "counted", desc := "(I)I" } : Jvm.MethodName) prog_1_method_10_code (4 : Nat) (Option.some Jvm.ClassFile.FieldType.int)) ∈ lw_all := lw_g (lw_at lw_m1 218 rfl) rfl
theorem q293 : (Jvm.Cond.methodLink "ClockworkOrreries" (26 : Nat) ({ cls := "ClockworkOrreries", name := "isLong", desc := "(I)Z" } : Jvm.MethodName)) ∈ lw_all := lw_g (lw_at lw_m1 219 rfl) rfl
theorem q294 : (Jvm.Cond.static ({ cls := "ClockworkOrreries", name := "isLong", desc := "(I)Z" } : Jvm.MethodName)) ∈ lw_all := lw_g (lw_at lw_m1 220 rfl) rfl
theorem q295 : (Jvm.Cond.code ({ cls := "ClockworkOrreries", name := "isLong", desc := "(I)Z" } : Jvm.MethodName) prog_1_method_7_code (1 : Nat) (Option.some Jvm.ClassFile.FieldType.boolean)) ∈ lw_all := lw_g (lw_at lw_m1 221 rfl) rfl
theorem q296 : (Jvm.Cond.methodLink "ClockworkOrreries" (30 : Nat) ({ cls := "ClockworkOrreries", name := "daysOf", desc := "(II)I" } : Jvm.MethodName)) ∈ lw_all := lw_g (lw_at lw_m1 222 rfl) rfl
theorem q297 : (Jvm.Cond.static ({ cls := "ClockworkOrreries", name := "daysOf", desc := "(II)I" } : Jvm.MethodName)) ∈ lw_all := lw_g (lw_at lw_m1 223 rfl) rfl
theorem q298 : (Jvm.Cond.code ({ cls := "ClockworkOrreries", name := "daysOf", desc := "(II)I" } : Jvm.MethodName) prog_1_method_8_code (2 : Nat) (Option.some Jvm.ClassFile.FieldType.int)) ∈ lw_all := lw_g (lw_at lw_m1 224 rfl) rfl
theorem q299 : (Jvm.Cond.methodLink "ClockworkOrreries" (33 : Nat) ({ cls := "ClockworkOrreries", name := "code", desc := "(III)I" } : Jvm.MethodName)) ∈ lw_all := lw_g (lw_at lw_m1 225 rfl) rfl
theorem q300 : (Jvm.Cond.static ({ cls := "ClockworkOrreries", name := "code", desc := "(III)I" } : Jvm.MethodName)) ∈ lw_all := lw_g (lw_at lw_m1 226 rfl) rfl
theorem q301 : (Jvm.Cond.code ({ cls := "ClockworkOrreries", name := "code", desc := "(III)I" } : Jvm.MethodName) prog_1_method_9_code (3 : Nat) (Option.some Jvm.ClassFile.FieldType.int)) ∈ lw_all := lw_g (lw_at lw_m1 227 rfl) rfl
theorem q303 : (Jvm.Cond.instanceMethod ({ cls := "ClockworkOrreries", name := "dateByRule", desc := "()I" } : Jvm.MethodName)) ∈ lw_all := lw_g (lw_at lw_m1 229 rfl) rfl
theorem q304 : (Jvm.Cond.selects "ClockworkOrreries" ({ cls := "ClockworkOrreries", name := "dateByRule", desc := "()I" } : Jvm.MethodName) ({ cls := "ClockworkOrreries", name := "dateByRule", desc := "()I" } : Jvm.MethodName)) ∈ lw_all := lw_g (lw_at lw_m1 230 rfl) rfl
theorem q305 : (Jvm.Cond.code ({ cls := "ClockworkOrreries", name := "dateByRule", desc := "()I" } : Jvm.MethodName) prog_1_method_73_code (1 : Nat) (Option.some Jvm.ClassFile.FieldType.int)) ∈ lw_all := lw_g (lw_at lw_m1 231 rfl) rfl
theorem q306 : (Jvm.Cond.methodLink "ClockworkOrreries" (319 : Nat) ({ cls := "ClockworkOrreries", name := "ruled", desc := "(I)I" } : Jvm.MethodName)) ∈ lw_all := lw_g (lw_at lw_m1 232 rfl) rfl
theorem q307 : (Jvm.Cond.static ({ cls := "ClockworkOrreries", name := "ruled", desc := "(I)I" } : Jvm.MethodName)) ∈ lw_all := lw_g (lw_at lw_m1 233 rfl) rfl
theorem q308 : (Jvm.Cond.code ({ cls := "ClockworkOrreries", name := "ruled", desc := "(I)I" } : Jvm.MethodName) prog_1_method_12_code (9 : Nat) (Option.some Jvm.ClassFile.FieldType.int)) ∈ lw_all := lw_g (lw_at lw_m1 234 rfl) rfl
theorem q309 : (Jvm.Cond.constant "ClockworkOrreries" (37 : Nat) (146097 : Int32)) ∈ lw_all := lw_g (lw_at lw_m1 235 rfl) rfl
theorem q310 : (Jvm.Cond.constant "ClockworkOrreries" (38 : Nat) (36524 : Int32)) ∈ lw_all := lw_g (lw_at lw_m1 236 rfl) rfl
theorem q311 : (Jvm.Cond.methodLink "ClockworkOrreries" (22 : Nat) ({ cls := "java/lang/Math", name := "min", desc := "(II)I" } : Jvm.MethodName)) ∈ lw_all := lw_g (lw_at lw_m1 237 rfl) rfl
theorem q314 : (Jvm.Cond.methodLink "ClockworkOrreries" (39 : Nat) ({ cls := "ClockworkOrreries", name := "aheadOf", desc := "(I)I" } : Jvm.MethodName)) ∈ lw_all := lw_g (lw_at lw_m2 0 rfl) rfl
theorem q315 : (Jvm.Cond.static ({ cls := "ClockworkOrreries", name := "aheadOf", desc := "(I)I" } : Jvm.MethodName)) ∈ lw_all := lw_g (lw_at lw_m2 1 rfl) rfl
theorem q316 : (Jvm.Cond.code ({ cls := "ClockworkOrreries", name := "aheadOf", desc := "(I)I" } : Jvm.MethodName) prog_1_method_11_code (1 : Nat) (Option.some Jvm.ClassFile.FieldType.int)) ∈ lw_all := lw_g (lw_at lw_m2 2 rfl) rfl
theorem q318 : (Jvm.Cond.instanceMethod ({ cls := "ClockworkOrreries", name := "weekday", desc := "()I" } : Jvm.MethodName)) ∈ lw_all := lw_g (lw_at lw_m2 4 rfl) rfl
theorem q319 : (Jvm.Cond.selects "ClockworkOrreries" ({ cls := "ClockworkOrreries", name := "weekday", desc := "()I" } : Jvm.MethodName) ({ cls := "ClockworkOrreries", name := "weekday", desc := "()I" } : Jvm.MethodName)) ∈ lw_all := lw_g (lw_at lw_m2 5 rfl) rfl
theorem q320 : (Jvm.Cond.code ({ cls := "ClockworkOrreries", name := "weekday", desc := "()I" } : Jvm.MethodName) prog_1_method_75_code (1 : Nat) (Option.some Jvm.ClassFile.FieldType.int)) ∈ lw_all := lw_g (lw_at lw_m2 6 rfl) rfl
theorem q322 : (Jvm.Cond.instanceMethod ({ cls := "ClockworkOrreries", name := "dayOfYear", desc := "()I" } : Jvm.MethodName)) ∈ lw_all := lw_g (lw_at lw_m2 8 rfl) rfl
theorem q323 : (Jvm.Cond.selects "ClockworkOrreries" ({ cls := "ClockworkOrreries", name := "dayOfYear", desc := "()I" } : Jvm.MethodName) ({ cls := "ClockworkOrreries", name := "dayOfYear", desc := "()I" } : Jvm.MethodName)) ∈ lw_all := lw_g (lw_at lw_m2 9 rfl) rfl
theorem q324 : (Jvm.Cond.code ({ cls := "ClockworkOrreries", name := "dayOfYear", desc := "()I" } : Jvm.MethodName) prog_1_method_77_code (2 : Nat) (Option.some Jvm.ClassFile.FieldType.int)) ∈ lw_all := lw_g (lw_at lw_m2 10 rfl) rfl
theorem q325 : (Jvm.Cond.methodLink "ClockworkOrreries" (326 : Nat) ({ cls := "ClockworkOrreries", name := "dayBefore", desc := "(II)I" } : Jvm.MethodName)) ∈ lw_all := lw_g (lw_at lw_m2 11 rfl) rfl
theorem q326 : (Jvm.Cond.static ({ cls := "ClockworkOrreries", name := "dayBefore", desc := "(II)I" } : Jvm.MethodName)) ∈ lw_all := lw_g (lw_at lw_m2 12 rfl) rfl
theorem q327 : (Jvm.Cond.code ({ cls := "ClockworkOrreries", name := "dayBefore", desc := "(II)I" } : Jvm.MethodName) prog_1_method_13_code (4 : Nat) (Option.some Jvm.ClassFile.FieldType.int)) ∈ lw_all := lw_g (lw_at lw_m2 13 rfl) rfl
theorem q329 : (Jvm.Cond.instanceMethod ({ cls := "ClockworkOrreries", name := "passed", desc := "()I" } : Jvm.MethodName)) ∈ lw_all := lw_g (lw_at lw_m2 15 rfl) rfl
theorem q330 : (Jvm.Cond.selects "ClockworkOrreries" ({ cls := "ClockworkOrreries", name := "passed", desc := "()I" } : Jvm.MethodName) ({ cls := "ClockworkOrreries", name := "passed", desc := "()I" } : Jvm.MethodName)) ∈ lw_all := lw_g (lw_at lw_m2 16 rfl) rfl
theorem q331 : (Jvm.Cond.code ({ cls := "ClockworkOrreries", name := "passed", desc := "()I" } : Jvm.MethodName) prog_1_method_87_code (1 : Nat) (Option.some Jvm.ClassFile.FieldType.int)) ∈ lw_all := lw_g (lw_at lw_m2 17 rfl) rfl
theorem q333 : (Jvm.Cond.instanceMethod ({ cls := "ClockworkOrreries", name := "driven", desc := "()I" } : Jvm.MethodName)) ∈ lw_all := lw_g (lw_at lw_m2 19 rfl) rfl
theorem q334 : (Jvm.Cond.selects "ClockworkOrreries" ({ cls := "ClockworkOrreries", name := "driven", desc := "()I" } : Jvm.MethodName) ({ cls := "ClockworkOrreries", name := "driven", desc := "()I" } : Jvm.MethodName)) ∈ lw_all := lw_g (lw_at lw_m2 20 rfl) rfl
theorem q335 : (Jvm.Cond.code ({ cls := "ClockworkOrreries", name := "driven", desc := "()I" } : Jvm.MethodName) prog_1_method_88_code (1 : Nat) (Option.some Jvm.ClassFile.FieldType.int)) ∈ lw_all := lw_g (lw_at lw_m2 21 rfl) rfl
theorem q336 : (Jvm.Cond.methodLink "ClockworkOrreries" (185 : Nat) ({ cls := "ClockworkOrreries$Works", name := "drive", desc := "()LClockworkOrreries$Drive;" } : Jvm.MethodName)) ∈ lw_all := lw_g (lw_at lw_m2 22 rfl) rfl
theorem q366 : (Jvm.Cond.static ({ cls := "ClockworkOrreries", name := "divisor", desc := "(JJ)J" } : Jvm.MethodName)) ∈ lw_all := lw_g (lw_at lw_m2 52 rfl) rfl
theorem q367 : (Jvm.Cond.code ({ cls := "ClockworkOrreries", name := "divisor", desc := "(JJ)J" } : Jvm.MethodName) prog_1_method_2_code (10 : Nat) (Option.some Jvm.ClassFile.FieldType.long)) ∈ lw_all := lw_g (lw_at lw_m2 53 rfl) rfl
theorem q368 : (Jvm.Cond.methodLink "ClockworkOrreries" (1 : Nat) ({ cls := "java/lang/Math", name := "abs", desc := "(J)J" } : Jvm.MethodName)) ∈ lw_all := lw_g (lw_at lw_m2 54 rfl) rfl
theorem q377 : (Jvm.Cond.fieldLinkNest "ClockworkOrreries" (243 : Nat) "ClockworkOrreries$Drive" "above" "[J" "ClockworkOrreries") ∈ lw_tbl := lw_at lw_m2 63 rfl
theorem q380 : (Jvm.Cond.fieldLinkNest "ClockworkOrreries" (247 : Nat) "ClockworkOrreries$Drive" "below" "[J" "ClockworkOrreries") ∈ lw_tbl := lw_at lw_m2 66 rfl
theorem q386 : (Jvm.Cond.fieldLinkNest "ClockworkOrreries" (239 : Nat) "ClockworkOrreries$Drive" "ways" "[I" "ClockworkOrreries") ∈ lw_tbl := lw_at lw_m2 72 rfl
theorem q390 : (Jvm.Cond.fieldLinkNest "ClockworkOrreries" (373 : Nat) "ClockworkOrreries$Drive" "many" "I" "ClockworkOrreries") ∈ lw_tbl := lw_at lw_m2 76 rfl
theorem q416 : (Jvm.Cond.instanceMethod ({ cls := "ClockworkOrreries", name := "allTeeth", desc := "()I" } : Jvm.MethodName)) ∈ lw_all := lw_g (lw_at lw_m2 102 rfl) rfl
theorem q417 : (Jvm.Cond.selects "ClockworkOrreries" ({ cls := "ClockworkOrreries", name := "allTeeth", desc := "()I" } : Jvm.MethodName) ({ cls := "ClockworkOrreries", name := "allTeeth", desc := "()I" } : Jvm.MethodName)) ∈ lw_all := lw_g (lw_at lw_m2 103 rfl) rfl
theorem q418 : (Jvm.Cond.code ({ cls := "ClockworkOrreries", name := "allTeeth", desc := "()I" } : Jvm.MethodName) prog_1_method_89_code (3 : Nat) (Option.some Jvm.ClassFile.FieldType.int)) ∈ lw_all := lw_g (lw_at lw_m2 104 rfl) rfl
theorem q419 : (Jvm.Cond.methodLink "ClockworkOrreries" (166 : Nat) ({ cls := "java/util/ArrayList", name := "get", desc := "(I)Ljava/lang/Object;" } : Jvm.MethodName)) ∈ lw_all := lw_g (lw_at lw_m2 105 rfl) rfl
theorem q420 : (Jvm.Cond.classLink "ClockworkOrreries" (172 : Nat) "ClockworkOrreries$Wheel") ∈ lw_all := lw_g (lw_at lw_m2 106 rfl) rfl
theorem q422 : (Jvm.Cond.instanceMethod ({ cls := "ClockworkOrreries", name := "keep", desc := "()I" } : Jvm.MethodName)) ∈ lw_all := lw_g (lw_at lw_m2 108 rfl) rfl
theorem q423 : (Jvm.Cond.selects "ClockworkOrreries" ({ cls := "ClockworkOrreries", name := "keep", desc := "()I" } : Jvm.MethodName) ({ cls := "ClockworkOrreries", name := "keep", desc := "()I" } : Jvm.MethodName)) ∈ lw_all := lw_g (lw_at lw_m2 109 rfl) rfl
theorem q424 : (Jvm.Cond.code ({ cls := "ClockworkOrreries", name := "keep", desc := "()I" } : Jvm.MethodName) prog_1_method_90_code (1 : Nat) (Option.some Jvm.ClassFile.FieldType.int)) ∈ lw_all := lw_g (lw_at lw_m2 110 rfl) rfl
theorem q426 : (Jvm.Cond.instanceMethod ({ cls := "ClockworkOrreries", name := "states", desc := "()I" } : Jvm.MethodName)) ∈ lw_all := lw_g (lw_at lw_m2 112 rfl) rfl
theorem q427 : (Jvm.Cond.selects "ClockworkOrreries" ({ cls := "ClockworkOrreries", name := "states", desc := "()I" } : Jvm.MethodName) ({ cls := "ClockworkOrreries", name := "states", desc := "()I" } : Jvm.MethodName)) ∈ lw_all := lw_g (lw_at lw_m2 113 rfl) rfl
theorem q428 : (Jvm.Cond.code ({ cls := "ClockworkOrreries", name := "states", desc := "()I" } : Jvm.MethodName) prog_1_method_92_code (1 : Nat) (Option.some Jvm.ClassFile.FieldType.int)) ∈ lw_all := lw_g (lw_at lw_m2 114 rfl) rfl
theorem q429 : (Jvm.Cond.methodLink "ClockworkOrreries" (78 : Nat) ({ cls := "java/util/ArrayDeque", name := "size", desc := "()I" } : Jvm.MethodName)) ∈ lw_all := lw_g (lw_at lw_m2 115 rfl) rfl
theorem q437 : (Jvm.Cond.instanceMethod ({ cls := "ClockworkOrreries", name := "clearText", desc := "()I" } : Jvm.MethodName)) ∈ lw_all := lw_g (lw_at lw_m2 123 rfl) rfl
theorem q438 : (Jvm.Cond.selects "ClockworkOrreries" ({ cls := "ClockworkOrreries", name := "clearText", desc := "()I" } : Jvm.MethodName) ({ cls := "ClockworkOrreries", name := "clearText", desc := "()I" } : Jvm.MethodName)) ∈ lw_all := lw_g (lw_at lw_m2 124 rfl) rfl
theorem q439 : (Jvm.Cond.code ({ cls := "ClockworkOrreries", name := "clearText", desc := "()I" } : Jvm.MethodName) prog_1_method_95_code (2 : Nat) (Option.some Jvm.ClassFile.FieldType.int)) ∈ lw_all := lw_g (lw_at lw_m2 125 rfl) rfl
theorem q440 : (Jvm.Cond.methodLink "ClockworkOrreries" (393 : Nat) ({ cls := "java/lang/StringBuilder", name := "length", desc := "()I" } : Jvm.MethodName)) ∈ lw_all := lw_g (lw_at lw_m2 126 rfl) rfl
theorem q447 : (Jvm.Cond.methodLink "ClockworkOrreries" (400 : Nat) ({ cls := "java/lang/StringBuilder", name := "setLength", desc := "(I)V" } : Jvm.MethodName)) ∈ lw_all := lw_g (lw_at lw_m2 133 rfl) rfl
theorem q741 : (Jvm.Cond.instanceMethod ({ cls := "ClockworkOrreries", name := "addAxle", desc := "()I" } : Jvm.MethodName)) ∈ lw_all := lw_g (lw_at lw_m3 187 rfl) rfl
theorem q742 : (Jvm.Cond.selects "ClockworkOrreries" ({ cls := "ClockworkOrreries", name := "addAxle", desc := "()I" } : Jvm.MethodName) ({ cls := "ClockworkOrreries", name := "addAxle", desc := "()I" } : Jvm.MethodName)) ∈ lw_all := lw_g (lw_at lw_m3 188 rfl) rfl
theorem q743 : (Jvm.Cond.code ({ cls := "ClockworkOrreries", name := "addAxle", desc := "()I" } : Jvm.MethodName) prog_1_method_19_code (1 : Nat) (Option.some Jvm.ClassFile.FieldType.int)) ∈ lw_all := lw_g (lw_at lw_m3 189 rfl) rfl
theorem q744 : (Jvm.Cond.methodLink "ClockworkOrreries" (146 : Nat) ({ cls := "ClockworkOrreries", name := "act", desc := "(C[I)I" } : Jvm.MethodName)) ∈ lw_all := lw_g (lw_at lw_m3 190 rfl) rfl
theorem q745 : (Jvm.Cond.privateMethod ({ cls := "ClockworkOrreries", name := "act", desc := "(C[I)I" } : Jvm.MethodName)) ∈ lw_tbl := lw_at lw_m3 191 rfl
theorem q746 : (Jvm.Cond.instanceMethod ({ cls := "ClockworkOrreries", name := "act", desc := "(C[I)I" } : Jvm.MethodName)) ∈ lw_all := lw_g (lw_at lw_m3 192 rfl) rfl
theorem q747 : (Jvm.Cond.codeWith ({ cls := "ClockworkOrreries", name := "act", desc := "(C[I)I" } : Jvm.MethodName) prog_1_method_18_code (5 : Nat) (Option.some Jvm.ClassFile.FieldType.int) [((12 : Nat), (23 : Nat), (24 : Nat), (42 : Nat))]) ∈ lw_all := lw_g (lw_at lw_m3 193 rfl) rfl
theorem q748 : (Jvm.Cond.classLink "ClockworkOrreries" (42 : Nat) "ClockworkOrreries$Refused") ∈ lw_all := lw_g (lw_at lw_m3 194 rfl) rfl
theorem q749 : (Jvm.Cond.methodLink "ClockworkOrreries" (119 : Nat) ({ cls := "ClockworkOrreries$Works", name := "<init>", desc := "(LClockworkOrreries$Works;)V" } : Jvm.MethodName)) ∈ lw_all := lw_g (lw_at lw_m3 195 rfl) rfl
theorem q783 : (Jvm.Cond.selects "ClockworkOrreries" ({ cls := "java/lang/Object", name := "getClass", desc := "()Ljava/lang/Class;" } : Jvm.MethodName) ({ cls := "java/lang/Object", name := "getClass", desc := "()Ljava/lang/Class;" } : Jvm.MethodName)) ∈ lw_all := lw_g (lw_at lw_m3 229 rfl) rfl
theorem q809 : (Jvm.Cond.methodLink "ClockworkOrreries" (122 : Nat) ({ cls := "ClockworkOrreries", name := "done", desc := "(LClockworkOrreries$Works;C[I)I" } : Jvm.MethodName)) ∈ lw_all := lw_g (lw_at lw_m4 15 rfl) rfl
theorem q810 : (Jvm.Cond.static ({ cls := "ClockworkOrreries", name := "done", desc := "(LClockworkOrreries$Works;C[I)I" } : Jvm.MethodName)) ∈ lw_all := lw_g (lw_at lw_m4 16 rfl) rfl
theorem q811 : (Jvm.Cond.code ({ cls := "ClockworkOrreries", name := "done", desc := "(LClockworkOrreries$Works;C[I)I" } : Jvm.MethodName) prog_1_method_17_code (3 : Nat) (Option.some Jvm.ClassFile.FieldType.int)) ∈ lw_all := lw_g (lw_at lw_m4 17 rfl) rfl
theorem q812 : (Jvm.Cond.methodLink "ClockworkOrreries" (86 : Nat) ({ cls := "ClockworkOrreries$Works", name := "getsAxle", desc := "()I" } : Jvm.MethodName)) ∈ lw_all := lw_g (lw_at lw_m4 18 rfl) rfl
theorem q817 : (Jvm.Cond.static ({ cls := "ClockworkOrreries", name := "need", desc := "(ZI)V" } : Jvm.MethodName)) ∈ lw_all := lw_g (lw_at lw_m4 23 rfl) rfl
theorem q818 : (Jvm.Cond.code ({ cls := "ClockworkOrreries", name := "need", desc := "(ZI)V" } : Jvm.MethodName) prog_1_method_14_code (2 : Nat) (Option.none : Option Jvm.ClassFile.FieldType)) ∈ lw_all := lw_g (lw_at lw_m4 24 rfl) rfl
theorem q827 : (Jvm.Cond.methodLink "ClockworkOrreries" (44 : Nat) ({ cls := "ClockworkOrreries$Refused", name := "<init>", desc := "(I)V" } : Jvm.MethodName)) ∈ lw_all := lw_g (lw_at lw_m4 33 rfl) rfl
theorem q834 : (Jvm.Cond.fieldLinkNest "ClockworkOrreries" (130 : Nat) "ClockworkOrreries$Refused" "kind" "I" "ClockworkOrreries") ∈ lw_tbl := lw_at lw_m4 40 rfl
theorem q839 : (Jvm.Cond.methodLink "ClockworkOrreries" (89 : Nat) ({ cls := "ClockworkOrreries$Works", name := "getsWheel", desc := "(II)I" } : Jvm.MethodName)) ∈ lw_all := lw_g (lw_at lw_m4 45 rfl) rfl
theorem q848 : (Jvm.Cond.static ({ cls := "ClockworkOrreries", name := "isBetween", desc := "(JJJ)Z" } : Jvm.MethodName)) ∈ lw_all := lw_g (lw_at lw_m4 54 rfl) rfl
theorem q849 : (Jvm.Cond.code ({ cls := "ClockworkOrreries", name := "isBetween", desc := "(JJJ)Z" } : Jvm.MethodName) prog_1_method_1_code (6 : Nat) (Option.some Jvm.ClassFile.FieldType.boolean)) ∈ lw_all := lw_g (lw_at lw_m4 55 rfl) rfl
theorem q860 : (Jvm.Cond.fieldLinkNest "ClockworkOrreries" (227 : Nat) "ClockworkOrreries$Wheel" "axle" "I" "ClockworkOrreries") ∈ lw_tbl := lw_at lw_m4 66 rfl
theorem q864 : (Jvm.Cond.fieldLinkNest "ClockworkOrreries" (224 : Nat) "ClockworkOrreries$Wheel" "teeth" "I" "ClockworkOrreries") ∈ lw_tbl := lw_at lw_m4 70 rfl
theorem q870 : (Jvm.Cond.methodLink "ClockworkOrreries" (92 : Nat) ({ cls := "ClockworkOrreries$Works", name := "joins", desc := "(II)I" } : Jvm.MethodName)) ∈ lw_all := lw_g (lw_at lw_m4 76 rfl) rfl
theorem q897 : (Jvm.Cond.methodLink "ClockworkOrreries" (95 : Nat) ({ cls := "ClockworkOrreries$Works", name := "parts", desc := "(I)I" } : Jvm.MethodName)) ∈ lw_all := lw_g (lw_at lw_m4 103 rfl) rfl
theorem q901 : (Jvm.Cond.methodLink "ClockworkOrreries" (98 : Nat) ({ cls := "ClockworkOrreries$Works", name := "cuts", desc := "(II)I" } : Jvm.MethodName)) ∈ lw_all := lw_g (lw_at lw_m4 107 rfl) rfl
theorem q909 : (Jvm.Cond.methodLink "ClockworkOrreries" (101 : Nat) ({ cls := "ClockworkOrreries$Works", name := "getsArm", desc := "(II)I" } : Jvm.MethodName)) ∈ lw_all := lw_g (lw_at lw_m4 115 rfl) rfl
theorem q922 : (Jvm.Cond.fieldLinkNest "ClockworkOrreries" (197 : Nat) "ClockworkOrreries$Arm" "axle" "I" "ClockworkOrreries") ∈ lw_tbl := lw_at lw_m4 128 rfl
theorem q925 : (Jvm.Cond.fieldLinkNest "ClockworkOrreries" (273 : Nat) "ClockworkOrreries$Arm" "bend" "I" "ClockworkOrreries") ∈ lw_tbl := lw_at lw_m4 131 rfl
theorem q928 : (Jvm.Cond.fieldLinkNest "ClockworkOrreries" (331 : Nat) "ClockworkOrreries$Arm" "period" "I" "ClockworkOrreries") ∈ lw_tbl := lw_at lw_m4 134 rfl
theorem q936 : (Jvm.Cond.methodLink "ClockworkOrreries" (104 : Nat) ({ cls := "ClockworkOrreries$Works", name := "bends", desc := "(II)I" } : Jvm.MethodName)) ∈ lw_all := lw_g (lw_at lw_m4 142 rfl) rfl
theorem q944 : (Jvm.Cond.methodLink "ClockworkOrreries" (107 : Nat) ({ cls := "ClockworkOrreries$Works", name := "getsMoon", desc := "(II)I" } : Jvm.MethodName)) ∈ lw_all := lw_g (lw_at lw_m4 150 rfl) rfl
theorem q955 : (Jvm.Cond.fieldLinkNest "ClockworkOrreries" (211 : Nat) "ClockworkOrreries$Moon" "arm" "I" "ClockworkOrreries") ∈ lw_tbl := lw_at lw_m4 161 rfl
theorem q958 : (Jvm.Cond.fieldLinkNest "ClockworkOrreries" (210 : Nat) "ClockworkOrreries$Moon" "axle" "I" "ClockworkOrreries") ∈ lw_tbl := lw_at lw_m4 164 rfl
theorem q964 : (Jvm.Cond.methodLink "ClockworkOrreries" (110 : Nat) ({ cls := "ClockworkOrreries$Works", name := "tells", desc := "(II)I" } : Jvm.MethodName)) ∈ lw_all := lw_g (lw_at lw_m4 170 rfl) rfl
theorem q969 : (Jvm.Cond.methodLink "ClockworkOrreries" (113 : Nat) ({ cls := "ClockworkOrreries$Works", name := "goesOn", desc := "(I)I" } : Jvm.MethodName)) ∈ lw_all := lw_g (lw_at lw_m4 175 rfl) rfl
theorem q975 : (Jvm.Cond.methodLink "ClockworkOrreries" (116 : Nat) ({ cls := "ClockworkOrreries$Works", name := "setsDay", desc := "(I)I" } : Jvm.MethodName)) ∈ lw_all := lw_g (lw_at lw_m4 181 rfl) rfl
theorem q980 : (Jvm.Cond.methodLink "ClockworkOrreries" (126 : Nat) ({ cls := "ClockworkOrreries", name := "changed", desc := "(LClockworkOrreries$Works;I)I" } : Jvm.MethodName)) ∈ lw_all := lw_g (lw_at lw_m4 186 rfl) rfl
theorem q981 : (Jvm.Cond.privateMethod ({ cls := "ClockworkOrreries", name := "changed", desc := "(LClockworkOrreries$Works;I)I" } : Jvm.MethodName)) ∈ lw_tbl := lw_at lw_m4 187 rfl
theorem q982 : (Jvm.Cond.instanceMethod ({ cls := "ClockworkOrreries", name := "changed", desc := "(LClockworkOrreries$Works;I)I" } : Jvm.MethodName)) ∈ lw_all := lw_g (lw_at lw_m4 188 rfl) rfl
theorem q983 : (Jvm.Cond.code ({ cls := "ClockworkOrreries", name := "changed", desc := "(LClockworkOrreries$Works;I)I" } : Jvm.MethodName) prog_1_method_16_code (3 : Nat) (Option.some Jvm.ClassFile.FieldType.int)) ∈ lw_all := lw_g (lw_at lw_m4 189 rfl) rfl
theorem q984 : (Jvm.Cond.methodLink "ClockworkOrreries" (74 : Nat) ({ cls := "java/util/ArrayDeque", name := "addLast", desc := "(Ljava/lang/Object;)V" } : Jvm.MethodName)) ∈ lw_all := lw_g (lw_at lw_m4 190 rfl) rfl
theorem q1019 : (Jvm.Cond.methodLink "ClockworkOrreries" (82 : Nat) ({ cls := "java/util/ArrayDeque", name := "removeFirst", desc := "()Ljava/lang/Object;" } : Jvm.MethodName)) ∈ lw_all := lw_g (lw_at lw_m4 225 rfl) rfl
theorem q1051 : (Jvm.Cond.classLink "ClockworkOrreries" (134 : Nat) "java/lang/IllegalArgumentException") ∈ lw_all := lw_g (lw_at lw_m5 17 rfl) rfl
theorem q1052 : (Jvm.Cond.stringRef "ClockworkOrreries" (136 : Nat) "out of range") ∈ lw_tbl := lw_at lw_m5 18 rfl
theorem q1053 : (Jvm.Cond.methodLink "ClockworkOrreries" (138 : Nat) ({ cls := "java/lang/IllegalArgumentException", name := "<init>", desc := "(Ljava/lang/String;)V" } : Jvm.MethodName)) ∈ lw_all := lw_g (lw_at lw_m5 19 rfl) rfl
theorem q1054 : (Jvm.Cond.classLink "ClockworkOrreries" (141 : Nat) "java/lang/IllegalStateException") ∈ lw_all := lw_g (lw_at lw_m5 20 rfl) rfl
theorem q1055 : (Jvm.Cond.stringRef "ClockworkOrreries" (143 : Nat) "not possible") ∈ lw_tbl := lw_at lw_m5 21 rfl
theorem q1056 : (Jvm.Cond.methodLink "ClockworkOrreries" (145 : Nat) ({ cls := "java/lang/IllegalStateException", name := "<init>", desc := "(Ljava/lang/String;)V" } : Jvm.MethodName)) ∈ lw_all := lw_g (lw_at lw_m5 22 rfl) rfl
theorem q1062 : (Jvm.Cond.instanceMethod ({ cls := "ClockworkOrreries", name := "addWheel", desc := "(II)I" } : Jvm.MethodName)) ∈ lw_all := lw_g (lw_at lw_m5 28 rfl) rfl
theorem q1063 : (Jvm.Cond.selects "ClockworkOrreries" ({ cls := "ClockworkOrreries", name := "addWheel", desc := "(II)I" } : Jvm.MethodName) ({ cls := "ClockworkOrreries", name := "addWheel", desc := "(II)I" } : Jvm.MethodName)) ∈ lw_all := lw_g (lw_at lw_m5 29 rfl) rfl
theorem q1064 : (Jvm.Cond.code ({ cls := "ClockworkOrreries", name := "addWheel", desc := "(II)I" } : Jvm.MethodName) prog_1_method_20_code (3 : Nat) (Option.some Jvm.ClassFile.FieldType.int)) ∈ lw_all := lw_g (lw_at lw_m5 30 rfl) rfl
theorem q1069 : (Jvm.Cond.instanceMethod ({ cls := "ClockworkOrreries", name := "mesh", desc := "(II)I" } : Jvm.MethodName)) ∈ lw_all := lw_g (lw_at lw_m5 35 rfl) rfl
theorem q1070 : (Jvm.Cond.selects "ClockworkOrreries" ({ cls := "ClockworkOrreries", name := "mesh", desc := "(II)I" } : Jvm.MethodName) ({ cls := "ClockworkOrreries", name := "mesh", desc := "(II)I" } : Jvm.MethodName)) ∈ lw_all := lw_g (lw_at lw_m5 36 rfl) rfl
theorem q1071 : (Jvm.Cond.code ({ cls := "ClockworkOrreries", name := "mesh", desc := "(II)I" } : Jvm.MethodName) prog_1_method_21_code (3 : Nat) (Option.some Jvm.ClassFile.FieldType.int)) ∈ lw_all := lw_g (lw_at lw_m5 37 rfl) rfl
theorem q1076 : (Jvm.Cond.instanceMethod ({ cls := "ClockworkOrreries", name := "unmesh", desc := "(I)I" } : Jvm.MethodName)) ∈ lw_all := lw_g (lw_at lw_m5 42 rfl) rfl
theorem q1077 : (Jvm.Cond.selects "ClockworkOrreries" ({ cls := "ClockworkOrreries", name := "unmesh", desc := "(I)I" } : Jvm.MethodName) ({ cls := "ClockworkOrreries", name := "unmesh", desc := "(I)I" } : Jvm.MethodName)) ∈ lw_all := lw_g (lw_at lw_m5 43 rfl) rfl
theorem q1078 : (Jvm.Cond.code ({ cls := "ClockworkOrreries", name := "unmesh", desc := "(I)I" } : Jvm.MethodName) prog_1_method_22_code (2 : Nat) (Option.some Jvm.ClassFile.FieldType.int)) ∈ lw_all := lw_g (lw_at lw_m5 44 rfl) rfl
theorem q1083 : (Jvm.Cond.instanceMethod ({ cls := "ClockworkOrreries", name := "setTeeth", desc := "(II)I" } : Jvm.MethodName)) ∈ lw_all := lw_g (lw_at lw_m5 49 rfl) rfl
theorem q1084 : (Jvm.Cond.selects "ClockworkOrreries" ({ cls := "ClockworkOrreries", name := "setTeeth", desc := "(II)I" } : Jvm.MethodName) ({ cls := "ClockworkOrreries", name := "setTeeth", desc := "(II)I" } : Jvm.MethodName)) ∈ lw_all := lw_g (lw_at lw_m5 50 rfl) rfl
theorem q1085 : (Jvm.Cond.code ({ cls := "ClockworkOrreries", name := "setTeeth", desc := "(II)I" } : Jvm.MethodName) prog_1_method_23_code (3 : Nat) (Option.some Jvm.ClassFile.FieldType.int)) ∈ lw_all := lw_g (lw_at lw_m5 51 rfl) rfl
theorem q1090 : (Jvm.Cond.instanceMethod ({ cls := "ClockworkOrreries", name := "addArm", desc := "(II)I" } : Jvm.MethodName)) ∈ lw_all := lw_g (lw_at lw_m5 56 rfl) rfl
theorem q1091 : (Jvm.Cond.selects "ClockworkOrreries" ({ cls := "ClockworkOrreries", name := "addArm", desc := "(II)I" } : Jvm.MethodName) ({ cls := "ClockworkOrreries", name := "addArm", desc := "(II)I" } : Jvm.MethodName)) ∈ lw_all := lw_g (lw_at lw_m5 57 rfl) rfl
theorem q1092 : (Jvm.Cond.code ({ cls := "ClockworkOrreries", name := "addArm", desc := "(II)I" } : Jvm.MethodName) prog_1_method_24_code (3 : Nat) (Option.some Jvm.ClassFile.FieldType.int)) ∈ lw_all := lw_g (lw_at lw_m5 58 rfl) rfl
theorem q1097 : (Jvm.Cond.instanceMethod ({ cls := "ClockworkOrreries", name := "setBend", desc := "(II)I" } : Jvm.MethodName)) ∈ lw_all := lw_g (lw_at lw_m5 63 rfl) rfl
theorem q1098 : (Jvm.Cond.selects "ClockworkOrreries" ({ cls := "ClockworkOrreries", name := "setBend", desc := "(II)I" } : Jvm.MethodName) ({ cls := "ClockworkOrreries", name := "setBend", desc := "(II)I" } : Jvm.MethodName)) ∈ lw_all := lw_g (lw_at lw_m5 64 rfl) rfl
theorem q1099 : (Jvm.Cond.code ({ cls := "ClockworkOrreries", name := "setBend", desc := "(II)I" } : Jvm.MethodName) prog_1_method_25_code (3 : Nat) (Option.some Jvm.ClassFile.FieldType.int)) ∈ lw_all := lw_g (lw_at lw_m5 65 rfl) rfl
theorem q1104 : (Jvm.Cond.instanceMethod ({ cls := "ClockworkOrreries", name := "addMoon", desc := "(II)I" } : Jvm.MethodName)) ∈ lw_all := lw_g (lw_at lw_m5 70 rfl) rfl
theorem q1105 : (Jvm.Cond.selects "ClockworkOrreries" ({ cls := "ClockworkOrreries", name := "addMoon", desc := "(II)I" } : Jvm.MethodName) ({ cls := "ClockworkOrreries", name := "addMoon", desc := "(II)I" } : Jvm.MethodName)) ∈ lw_all := lw_g (lw_at lw_m5 71 rfl) rfl
theorem q1106 : (Jvm.Cond.code ({ cls := "ClockworkOrreries", name := "addMoon", desc := "(II)I" } : Jvm.MethodName) prog_1_method_26_code (3 : Nat) (Option.some Jvm.ClassFile.FieldType.int)) ∈ lw_all := lw_g (lw_at lw_m5 72 rfl) rfl
theorem q1111 : (Jvm.Cond.instanceMethod ({ cls := "ClockworkOrreries", name := "setPeriod", desc := "(II)I" } : Jvm.MethodName)) ∈ lw_all := lw_g (lw_at lw_m5 77 rfl) rfl
theorem q1112 : (Jvm.Cond.selects "ClockworkOrreries" ({ cls := "ClockworkOrreries", name := "setPeriod", desc := "(II)I" } : Jvm.MethodName) ({ cls := "ClockworkOrreries", name := "setPeriod", desc := "(II)I" } : Jvm.MethodName)) ∈ lw_all := lw_g (lw_at lw_m5 78 rfl) rfl
theorem q1113 : (Jvm.Cond.code ({ cls := "ClockworkOrreries", name := "setPeriod", desc := "(II)I" } : Jvm.MethodName) prog_1_method_27_code (3 : Nat) (Option.some Jvm.ClassFile.FieldType.int)) ∈ lw_all := lw_g (lw_at lw_m5 79 rfl) rfl
theorem q1118 : (Jvm.Cond.instanceMethod ({ cls := "ClockworkOrreries", name := "pass", desc := "(I)I" } : Jvm.MethodName)) ∈ lw_all := lw_g (lw_at lw_m5 84 rfl) rfl
theorem q1119 : (Jvm.Cond.selects "ClockworkOrreries" ({ cls := "ClockworkOrreries", name := "pass", desc := "(I)I" } : Jvm.MethodName) ({ cls := "ClockworkOrreries", name := "pass", desc := "(I)I" } : Jvm.MethodName)) ∈ lw_all := lw_g (lw_at lw_m5 85 rfl) rfl
theorem q1120 : (Jvm.Cond.code ({ cls := "ClockworkOrreries", name := "pass", desc := "(I)I" } : Jvm.MethodName) prog_1_method_28_code (2 : Nat) (Option.some Jvm.ClassFile.FieldType.int)) ∈ lw_all := lw_g (lw_at lw_m5 86 rfl) rfl
theorem q1125 : (Jvm.Cond.instanceMethod ({ cls := "ClockworkOrreries", name := "setDay", desc := "(I)I" } : Jvm.MethodName)) ∈ lw_all := lw_g (lw_at lw_m5 91 rfl) rfl
theorem q1126 : (Jvm.Cond.selects "ClockworkOrreries" ({ cls := "ClockworkOrreries", name := "setDay", desc := "(I)I" } : Jvm.MethodName) ({ cls := "ClockworkOrreries", name := "setDay", desc := "(I)I" } : Jvm.MethodName)) ∈ lw_all := lw_g (lw_at lw_m5 92 rfl) rfl
theorem q1127 : (Jvm.Cond.code ({ cls := "ClockworkOrreries", name := "setDay", desc := "(I)I" } : Jvm.MethodName) prog_1_method_29_code (2 : Nat) (Option.some Jvm.ClassFile.FieldType.int)) ∈ lw_all := lw_g (lw_at lw_m5 93 rfl) rfl
theorem q1132 : (Jvm.Cond.instanceMethod ({ cls := "ClockworkOrreries", name := "teethOf", desc := "(I)I" } : Jvm.MethodName)) ∈ lw_all := lw_g (lw_at lw_m5 98 rfl) rfl
theorem q1133 : (Jvm.Cond.selects "ClockworkOrreries" ({ cls := "ClockworkOrreries", name := "teethOf", desc := "(I)I" } : Jvm.MethodName) ({ cls := "ClockworkOrreries", name := "teethOf", desc := "(I)I" } : Jvm.MethodName)) ∈ lw_all := lw_g (lw_at lw_m5 99 rfl) rfl
theorem q1134 : (Jvm.Cond.code ({ cls := "ClockworkOrreries", name := "teethOf", desc := "(I)I" } : Jvm.MethodName) prog_1_method_41_code (2 : Nat) (Option.some Jvm.ClassFile.FieldType.int)) ∈ lw_all := lw_g (lw_at lw_m5 100 rfl) rfl
theorem q1135 : (Jvm.Cond.methodLink "ClockworkOrreries" (220 : Nat) ({ cls := "ClockworkOrreries", name := "wheelAt", desc := "(I)LClockworkOrreries$Wheel;" } : Jvm.MethodName)) ∈ lw_all := lw_g (lw_at lw_m5 101 rfl) rfl
theorem q1136 : (Jvm.Cond.privateMethod ({ cls := "ClockworkOrreries", name := "wheelAt", desc := "(I)LClockworkOrreries$Wheel;" } : Jvm.MethodName)) ∈ lw_tbl := lw_at lw_m5 102 rfl
theorem q1137 : (Jvm.Cond.instanceMethod ({ cls := "ClockworkOrreries", name := "wheelAt", desc := "(I)LClockworkOrreries$Wheel;" } : Jvm.MethodName)) ∈ lw_all := lw_g (lw_at lw_m5 103 rfl) rfl
theorem q1138 : (Jvm.Cond.code ({ cls := "ClockworkOrreries", name := "wheelAt", desc := "(I)LClockworkOrreries$Wheel;" } : Jvm.MethodName) prog_1_method_33_code (2 : Nat) (Option.some (Jvm.ClassFile.FieldType.object "ClockworkOrreries$Wheel"))) ∈ lw_all := lw_g (lw_at lw_m5 104 rfl) rfl
theorem q1139 : (Jvm.Cond.methodLink "ClockworkOrreries" (155 : Nat) ({ cls := "ClockworkOrreries$Works", name := "isWheel", desc := "(I)Z" } : Jvm.MethodName)) ∈ lw_all := lw_g (lw_at lw_m5 105 rfl) rfl
theorem q1140 : (Jvm.Cond.methodLink "ClockworkOrreries" (158 : Nat) ({ cls := "ClockworkOrreries", name := "needArgument", desc := "(Z)V" } : Jvm.MethodName)) ∈ lw_all := lw_g (lw_at lw_m5 106 rfl) rfl
theorem q1141 : (Jvm.Cond.static ({ cls := "ClockworkOrreries", name := "needArgument", desc := "(Z)V" } : Jvm.MethodName)) ∈ lw_all := lw_g (lw_at lw_m5 107 rfl) rfl
theorem q1142 : (Jvm.Cond.code ({ cls := "ClockworkOrreries", name := "needArgument", desc := "(Z)V" } : Jvm.MethodName) prog_1_method_30_code (1 : Nat) (Option.none : Option Jvm.ClassFile.FieldType)) ∈ lw_all := lw_g (lw_at lw_m5 108 rfl) rfl
theorem q1147 : (Jvm.Cond.instanceMethod ({ cls := "ClockworkOrreries", name := "axleOf", desc := "(I)I" } : Jvm.MethodName)) ∈ lw_all := lw_g (lw_at lw_m5 113 rfl) rfl
theorem q1148 : (Jvm.Cond.selects "ClockworkOrreries" ({ cls := "ClockworkOrreries", name := "axleOf", desc := "(I)I" } : Jvm.MethodName) ({ cls := "ClockworkOrreries", name := "axleOf", desc := "(I)I" } : Jvm.MethodName)) ∈ lw_all := lw_g (lw_at lw_m5 114 rfl) rfl
theorem q1149 : (Jvm.Cond.code ({ cls := "ClockworkOrreries", name := "axleOf", desc := "(I)I" } : Jvm.MethodName) prog_1_method_42_code (2 : Nat) (Option.some Jvm.ClassFile.FieldType.int)) ∈ lw_all := lw_g (lw_at lw_m5 115 rfl) rfl
theorem q1154 : (Jvm.Cond.instanceMethod ({ cls := "ClockworkOrreries", name := "whyNotMesh", desc := "(II)I" } : Jvm.MethodName)) ∈ lw_all := lw_g (lw_at lw_m5 120 rfl) rfl
theorem q1155 : (Jvm.Cond.selects "ClockworkOrreries" ({ cls := "ClockworkOrreries", name := "whyNotMesh", desc := "(II)I" } : Jvm.MethodName) ({ cls := "ClockworkOrreries", name := "whyNotMesh", desc := "(II)I" } : Jvm.MethodName)) ∈ lw_all := lw_g (lw_at lw_m5 121 rfl) rfl
theorem q1156 : (Jvm.Cond.code ({ cls := "ClockworkOrreries", name := "whyNotMesh", desc := "(II)I" } : Jvm.MethodName) prog_1_method_43_code (3 : Nat) (Option.some Jvm.ClassFile.FieldType.int)) ∈ lw_all := lw_g (lw_at lw_m5 122 rfl) rfl
theorem q1157 : (Jvm.Cond.methodLink "ClockworkOrreries" (228 : Nat) ({ cls := "ClockworkOrreries$Works", name := "areTwo", desc := "(II)Z" } : Jvm.MethodName)) ∈ lw_all := lw_g (lw_at lw_m5 123 rfl) rfl
theorem q1158 : (Jvm.Cond.methodLink "ClockworkOrreries" (232 : Nat) ({ cls := "ClockworkOrreries$Works", name := "whyMesh", desc := "(II)I" } : Jvm.MethodName)) ∈ lw_all := lw_g (lw_at lw_m5 124 rfl) rfl
theorem q1163 : (Jvm.Cond.instanceMethod ({ cls := "ClockworkOrreries", name := "isDriven", desc := "(I)Z" } : Jvm.MethodName)) ∈ lw_all := lw_g (lw_at lw_m5 129 rfl) rfl
theorem q1164 : (Jvm.Cond.selects "ClockworkOrreries" ({ cls := "ClockworkOrreries", name := "isDriven", desc := "(I)Z" } : Jvm.MethodName) ({ cls := "ClockworkOrreries", name := "isDriven", desc := "(I)Z" } : Jvm.MethodName)) ∈ lw_all := lw_g (lw_at lw_m5 130 rfl) rfl
theorem q1165 : (Jvm.Cond.code ({ cls := "ClockworkOrreries", name := "isDriven", desc := "(I)Z" } : Jvm.MethodName) prog_1_method_44_code (2 : Nat) (Option.some Jvm.ClassFile.FieldType.boolean)) ∈ lw_all := lw_g (lw_at lw_m5 131 rfl) rfl
theorem q1166 : (Jvm.Cond.methodLink "ClockworkOrreries" (182 : Nat) ({ cls := "ClockworkOrreries$Works", name := "isAxle", desc := "(I)Z" } : Jvm.MethodName)) ∈ lw_all := lw_g (lw_at lw_m5 132 rfl) rfl
theorem q1167 : (Jvm.Cond.methodLink "ClockworkOrreries" (189 : Nat) ({ cls := "ClockworkOrreries$Drive", name := "has", desc := "(I)Z" } : Jvm.MethodName)) ∈ lw_all := lw_g (lw_at lw_m5 133 rfl) rfl
theorem q1173 : (Jvm.Cond.instanceMethod ({ cls := "ClockworkOrreries", name := "wayTo", desc := "(I)I" } : Jvm.MethodName)) ∈ lw_all := lw_g (lw_at lw_m5 139 rfl) rfl
theorem q1174 : (Jvm.Cond.selects "ClockworkOrreries" ({ cls := "ClockworkOrreries", name := "wayTo", desc := "(I)I" } : Jvm.MethodName) ({ cls := "ClockworkOrreries", name := "wayTo", desc := "(I)I" } : Jvm.MethodName)) ∈ lw_all := lw_g (lw_at lw_m5 140 rfl) rfl
theorem q1175 : (Jvm.Cond.code ({ cls := "ClockworkOrreries", name := "wayTo", desc := "(I)I" } : Jvm.MethodName) prog_1_method_45_code (2 : Nat) (Option.some Jvm.ClassFile.FieldType.int)) ∈ lw_all := lw_g (lw_at lw_m5 141 rfl) rfl
theorem q1176 : (Jvm.Cond.methodLink "ClockworkOrreries" (235 : Nat) ({ cls := "ClockworkOrreries", name := "driving", desc := "(I)LClockworkOrreries$Drive;" } : Jvm.MethodName)) ∈ lw_all := lw_g (lw_at lw_m5 142 rfl) rfl
theorem q1177 : (Jvm.Cond.privateMethod ({ cls := "ClockworkOrreries", name := "driving", desc := "(I)LClockworkOrreries$Drive;" } : Jvm.MethodName)) ∈ lw_tbl := lw_at lw_m5 143 rfl
theorem q1178 : (Jvm.Cond.instanceMethod ({ cls := "ClockworkOrreries", name := "driving", desc := "(I)LClockworkOrreries$Drive;" } : Jvm.MethodName)) ∈ lw_all := lw_g (lw_at lw_m5 144 rfl) rfl
theorem q1179 : (Jvm.Cond.code ({ cls := "ClockworkOrreries", name := "driving", desc := "(I)LClockworkOrreries$Drive;" } : Jvm.MethodName) prog_1_method_35_code (3 : Nat) (Option.some (Jvm.ClassFile.FieldType.object "ClockworkOrreries$Drive"))) ∈ lw_all := lw_g (lw_at lw_m5 145 rfl) rfl
theorem q1180 : (Jvm.Cond.methodLink "ClockworkOrreries" (194 : Nat) ({ cls := "ClockworkOrreries", name := "needSuch", desc := "(Z)V" } : Jvm.MethodName)) ∈ lw_all := lw_g (lw_at lw_m5 146 rfl) rfl
theorem q1181 : (Jvm.Cond.static ({ cls := "ClockworkOrreries", name := "needSuch", desc := "(Z)V" } : Jvm.MethodName)) ∈ lw_all := lw_g (lw_at lw_m5 147 rfl) rfl
theorem q1182 : (Jvm.Cond.code ({ cls := "ClockworkOrreries", name := "needSuch", desc := "(Z)V" } : Jvm.MethodName) prog_1_method_31_code (1 : Nat) (Option.none : Option Jvm.ClassFile.FieldType)) ∈ lw_all := lw_g (lw_at lw_m5 148 rfl) rfl
theorem q1183 : (Jvm.Cond.classLink "ClockworkOrreries" (150 : Nat) "java/util/NoSuchElementException") ∈ lw_all := lw_g (lw_at lw_m5 149 rfl) rfl
theorem q1184 : (Jvm.Cond.stringRef "ClockworkOrreries" (152 : Nat) "there is none") ∈ lw_tbl := lw_at lw_m5 150 rfl
theorem q1185 : (Jvm.Cond.methodLink "ClockworkOrreries" (154 : Nat) ({ cls := "java/util/NoSuchElementException", name := "<init>", desc := "(Ljava/lang/String;)V" } : Jvm.MethodName)) ∈ lw_all := lw_g (lw_at lw_m5 151 rfl) rfl
theorem q1193 : (Jvm.Cond.instanceMethod ({ cls := "ClockworkOrreries", name := "ratioAbove", desc := "(I)J" } : Jvm.MethodName)) ∈ lw_all := lw_g (lw_at lw_m5 159 rfl) rfl
theorem q1194 : (Jvm.Cond.selects "ClockworkOrreries" ({ cls := "ClockworkOrreries", name := "ratioAbove", desc := "(I)J" } : Jvm.MethodName) ({ cls := "ClockworkOrreries", name := "ratioAbove", desc := "(I)J" } : Jvm.MethodName)) ∈ lw_all := lw_g (lw_at lw_m5 160 rfl) rfl
theorem q1195 : (Jvm.Cond.code ({ cls := "ClockworkOrreries", name := "ratioAbove", desc := "(I)J" } : Jvm.MethodName) prog_1_method_46_code (2 : Nat) (Option.some Jvm.ClassFile.FieldType.long)) ∈ lw_all := lw_g (lw_at lw_m5 161 rfl) rfl
theorem q1200 : (Jvm.Cond.instanceMethod ({ cls := "ClockworkOrreries", name := "ratioBelow", desc := "(I)J" } : Jvm.MethodName)) ∈ lw_all := lw_g (lw_at lw_m5 166 rfl) rfl
theorem q1201 : (Jvm.Cond.selects "ClockworkOrreries" ({ cls := "ClockworkOrreries", name := "ratioBelow", desc := "(I)J" } : Jvm.MethodName) ({ cls := "ClockworkOrreries", name := "ratioBelow", desc := "(I)J" } : Jvm.MethodName)) ∈ lw_all := lw_g (lw_at lw_m5 167 rfl) rfl
theorem q1202 : (Jvm.Cond.code ({ cls := "ClockworkOrreries", name := "ratioBelow", desc := "(I)J" } : Jvm.MethodName) prog_1_method_47_code (2 : Nat) (Option.some Jvm.ClassFile.FieldType.long)) ∈ lw_all := lw_g (lw_at lw_m5 168 rfl) rfl
theorem q1207 : (Jvm.Cond.instanceMethod ({ cls := "ClockworkOrreries", name := "isRatioByTeeth", desc := "(I)Z" } : Jvm.MethodName)) ∈ lw_all := lw_g (lw_at lw_m5 173 rfl) rfl
theorem q1208 : (Jvm.Cond.selects "ClockworkOrreries" ({ cls := "ClockworkOrreries", name := "isRatioByTeeth", desc := "(I)Z" } : Jvm.MethodName) ({ cls := "ClockworkOrreries", name := "isRatioByTeeth", desc := "(I)Z" } : Jvm.MethodName)) ∈ lw_all := lw_g (lw_at lw_m5 174 rfl) rfl
theorem q1209 : (Jvm.Cond.code ({ cls := "ClockworkOrreries", name := "isRatioByTeeth", desc := "(I)Z" } : Jvm.MethodName) prog_1_method_48_code (2 : Nat) (Option.some Jvm.ClassFile.FieldType.boolean)) ∈ lw_all := lw_g (lw_at lw_m5 175 rfl) rfl
theorem q1210 : (Jvm.Cond.methodLink "ClockworkOrreries" (250 : Nat) ({ cls := "ClockworkOrreries$Drive", name := "isSame", desc := "(I)Z" } : Jvm.MethodName)) ∈ lw_all := lw_g (lw_at lw_m5 176 rfl) rfl
theorem q1218 : (Jvm.Cond.instanceMethod ({ cls := "ClockworkOrreries", name := "turnsOf", desc := "(I)J" } : Jvm.MethodName)) ∈ lw_all := lw_g (lw_at lw_m5 184 rfl) rfl
theorem q1219 : (Jvm.Cond.selects "ClockworkOrreries" ({ cls := "ClockworkOrreries", name := "turnsOf", desc := "(I)J" } : Jvm.MethodName) ({ cls := "ClockworkOrreries", name := "turnsOf", desc := "(I)J" } : Jvm.MethodName)) ∈ lw_all := lw_g (lw_at lw_m5 185 rfl) rfl
theorem q1220 : (Jvm.Cond.code ({ cls := "ClockworkOrreries", name := "turnsOf", desc := "(I)J" } : Jvm.MethodName) prog_1_method_49_code (3 : Nat) (Option.some Jvm.ClassFile.FieldType.long)) ∈ lw_all := lw_g (lw_at lw_m5 186 rfl) rfl
theorem q1225 : (Jvm.Cond.instanceMethod ({ cls := "ClockworkOrreries", name := "wheelOf", desc := "(IZ)I" } : Jvm.MethodName)) ∈ lw_all := lw_g (lw_at lw_m5 191 rfl) rfl
theorem q1226 : (Jvm.Cond.selects "ClockworkOrreries" ({ cls := "ClockworkOrreries", name := "wheelOf", desc := "(IZ)I" } : Jvm.MethodName) ({ cls := "ClockworkOrreries", name := "wheelOf", desc := "(IZ)I" } : Jvm.MethodName)) ∈ lw_all := lw_g (lw_at lw_m5 192 rfl) rfl
theorem q1227 : (Jvm.Cond.code ({ cls := "ClockworkOrreries", name := "wheelOf", desc := "(IZ)I" } : Jvm.MethodName) prog_1_method_51_code (3 : Nat) (Option.some Jvm.ClassFile.FieldType.int)) ∈ lw_all := lw_g (lw_at lw_m5 193 rfl) rfl
theorem q1228 : (Jvm.Cond.methodLink "ClockworkOrreries" (204 : Nat) ({ cls := "ClockworkOrreries", name := "isBetween", desc := "(JJJ)Z" } : Jvm.MethodName)) ∈ lw_all := lw_g (lw_at lw_m5 194 rfl) rfl
theorem q1233 : (Jvm.Cond.instanceMethod ({ cls := "ClockworkOrreries", name := "sameTeethIn", desc := "(I)I" } : Jvm.MethodName)) ∈ lw_all := lw_g (lw_at lw_m5 199 rfl) rfl
theorem q1234 : (Jvm.Cond.selects "ClockworkOrreries" ({ cls := "ClockworkOrreries", name := "sameTeethIn", desc := "(I)I" } : Jvm.MethodName) ({ cls := "ClockworkOrreries", name := "sameTeethIn", desc := "(I)I" } : Jvm.MethodName)) ∈ lw_all := lw_g (lw_at lw_m5 200 rfl) rfl
theorem q1235 : (Jvm.Cond.code ({ cls := "ClockworkOrreries", name := "sameTeethIn", desc := "(I)I" } : Jvm.MethodName) prog_1_method_52_code (4 : Nat) (Option.some Jvm.ClassFile.FieldType.int)) ∈ lw_all := lw_g (lw_at lw_m5 201 rfl) rfl
theorem q1236 : (Jvm.Cond.methodLink "ClockworkOrreries" (262 : Nat) ({ cls := "ClockworkOrreries", name := "ofPair", desc := "(IZ)LClockworkOrreries$Wheel;" } : Jvm.MethodName)) ∈ lw_all := lw_g (lw_at lw_m5 202 rfl) rfl
theorem q1237 : (Jvm.Cond.privateMethod ({ cls := "ClockworkOrreries", name := "ofPair", desc := "(IZ)LClockworkOrreries$Wheel;" } : Jvm.MethodName)) ∈ lw_tbl := lw_at lw_m5 203 rfl
theorem q1238 : (Jvm.Cond.instanceMethod ({ cls := "ClockworkOrreries", name := "ofPair", desc := "(IZ)LClockworkOrreries$Wheel;" } : Jvm.MethodName)) ∈ lw_all := lw_g (lw_at lw_m5 204 rfl) rfl
theorem q1239 : (Jvm.Cond.code ({ cls := "ClockworkOrreries", name := "ofPair", desc := "(IZ)LClockworkOrreries$Wheel;" } : Jvm.MethodName) prog_1_method_50_code (3 : Nat) (Option.some (Jvm.ClassFile.FieldType.object "ClockworkOrreries$Wheel"))) ∈ lw_all := lw_g (lw_at lw_m5 205 rfl) rfl
theorem q1240 : (Jvm.Cond.methodLink "ClockworkOrreries" (266 : Nat) ({ cls := "ClockworkOrreries", name := "divisor", desc := "(JJ)J" } : Jvm.MethodName)) ∈ lw_all := lw_g (lw_at lw_m5 206 rfl) rfl
theorem q1245 : (Jvm.Cond.instanceMethod ({ cls := "ClockworkOrreries", name := "sameTeethByGoing", desc := "(I)I" } : Jvm.MethodName)) ∈ lw_all := lw_g (lw_at lw_m5 211 rfl) rfl
theorem q1246 : (Jvm.Cond.selects "ClockworkOrreries" ({ cls := "ClockworkOrreries", name := "sameTeethByGoing", desc := "(I)I" } : Jvm.MethodName) ({ cls := "ClockworkOrreries", name := "sameTeethByGoing", desc := "(I)I" } : Jvm.MethodName)) ∈ lw_all := lw_g (lw_at lw_m5 212 rfl) rfl
theorem q1247 : (Jvm.Cond.code ({ cls := "ClockworkOrreries", name := "sameTeethByGoing", desc := "(I)I" } : Jvm.MethodName) prog_1_method_53_code (7 : Nat) (Option.some Jvm.ClassFile.FieldType.int)) ∈ lw_all := lw_g (lw_at lw_m5 213 rfl) rfl
theorem q1252 : (Jvm.Cond.instanceMethod ({ cls := "ClockworkOrreries", name := "isEven", desc := "(I)Z" } : Jvm.MethodName)) ∈ lw_all := lw_g (lw_at lw_m5 218 rfl) rfl
theorem q1253 : (Jvm.Cond.selects "ClockworkOrreries" ({ cls := "ClockworkOrreries", name := "isEven", desc := "(I)Z" } : Jvm.MethodName) ({ cls := "ClockworkOrreries", name := "isEven", desc := "(I)Z" } : Jvm.MethodName)) ∈ lw_all := lw_g (lw_at lw_m5 219 rfl) rfl
theorem q1254 : (Jvm.Cond.code ({ cls := "ClockworkOrreries", name := "isEven", desc := "(I)Z" } : Jvm.MethodName) prog_1_method_54_code (2 : Nat) (Option.some Jvm.ClassFile.FieldType.boolean)) ∈ lw_all := lw_g (lw_at lw_m5 220 rfl) rfl
theorem q1259 : (Jvm.Cond.instanceMethod ({ cls := "ClockworkOrreries", name := "teethGone", desc := "(I)J" } : Jvm.MethodName)) ∈ lw_all := lw_g (lw_at lw_m5 225 rfl) rfl
theorem q1260 : (Jvm.Cond.selects "ClockworkOrreries" ({ cls := "ClockworkOrreries", name := "teethGone", desc := "(I)J" } : Jvm.MethodName) ({ cls := "ClockworkOrreries", name := "teethGone", desc := "(I)J" } : Jvm.MethodName)) ∈ lw_all := lw_g (lw_at lw_m5 226 rfl) rfl
theorem q1261 : (Jvm.Cond.code ({ cls := "ClockworkOrreries", name := "teethGone", desc := "(I)J" } : Jvm.MethodName) prog_1_method_55_code (4 : Nat) (Option.some Jvm.ClassFile.FieldType.long)) ∈ lw_all := lw_g (lw_at lw_m5 227 rfl) rfl
theorem q1266 : (Jvm.Cond.instanceMethod ({ cls := "ClockworkOrreries", name := "bendOf", desc := "(I)I" } : Jvm.MethodName)) ∈ lw_all := lw_g (lw_at lw_m5 232 rfl) rfl
theorem q1267 : (Jvm.Cond.selects "ClockworkOrreries" ({ cls := "ClockworkOrreries", name := "bendOf", desc := "(I)I" } : Jvm.MethodName) ({ cls := "ClockworkOrreries", name := "bendOf", desc := "(I)I" } : Jvm.MethodName)) ∈ lw_all := lw_g (lw_at lw_m5 233 rfl) rfl
theorem q1268 : (Jvm.Cond.code ({ cls := "ClockworkOrreries", name := "bendOf", desc := "(I)I" } : Jvm.MethodName) prog_1_method_58_code (2 : Nat) (Option.some Jvm.ClassFile.FieldType.int)) ∈ lw_all := lw_g (lw_at lw_m5 234 rfl) rfl
theorem q1269 : (Jvm.Cond.methodLink "ClockworkOrreries" (269 : Nat) ({ cls := "ClockworkOrreries", name := "armAt", desc := "(I)LClockworkOrreries$Arm;" } : Jvm.MethodName)) ∈ lw_all := lw_g (lw_at lw_m5 235 rfl) rfl
theorem q1270 : (Jvm.Cond.privateMethod ({ cls := "ClockworkOrreries", name := "armAt", desc := "(I)LClockworkOrreries$Arm;" } : Jvm.MethodName)) ∈ lw_tbl := lw_at lw_m5 236 rfl
theorem q1271 : (Jvm.Cond.instanceMethod ({ cls := "ClockworkOrreries", name := "armAt", desc := "(I)LClockworkOrreries$Arm;" } : Jvm.MethodName)) ∈ lw_all := lw_g (lw_at lw_m5 237 rfl) rfl
theorem q1272 : (Jvm.Cond.code ({ cls := "ClockworkOrreries", name := "armAt", desc := "(I)LClockworkOrreries$Arm;" } : Jvm.MethodName) prog_1_method_34_code (2 : Nat) (Option.some (Jvm.ClassFile.FieldType.object "ClockworkOrreries$Arm"))) ∈ lw_all := lw_g (lw_at lw_m5 238 rfl) rfl
theorem q1273 : (Jvm.Cond.methodLink "ClockworkOrreries" (174 : Nat) ({ cls := "ClockworkOrreries$Works", name := "isArm", desc := "(I)Z" } : Jvm.MethodName)) ∈ lw_all := lw_g (lw_at lw_m5 239 rfl) rfl
theorem q1274 : (Jvm.Cond.classLink "ClockworkOrreries" (180 : Nat) "ClockworkOrreries$Arm") ∈ lw_all := lw_g (lw_at lw_m6 0 rfl) rfl
theorem q1279 : (Jvm.Cond.instanceMethod ({ cls := "ClockworkOrreries", name := "angleOf", desc := "(I)I" } : Jvm.MethodName)) ∈ lw_all := lw_g (lw_at lw_m6 5 rfl) rfl
theorem q1280 : (Jvm.Cond.selects "ClockworkOrreries" ({ cls := "ClockworkOrreries", name := "angleOf", desc := "(I)I" } : Jvm.MethodName) ({ cls := "ClockworkOrreries", name := "angleOf", desc := "(I)I" } : Jvm.MethodName)) ∈ lw_all := lw_g (lw_at lw_m6 6 rfl) rfl
theorem q1281 : (Jvm.Cond.code ({ cls := "ClockworkOrreries", name := "angleOf", desc := "(I)I" } : Jvm.MethodName) prog_1_method_59_code (2 : Nat) (Option.some Jvm.ClassFile.FieldType.int)) ∈ lw_all := lw_g (lw_at lw_m6 7 rfl) rfl
theorem q1282 : (Jvm.Cond.methodLink "ClockworkOrreries" (276 : Nat) ({ cls := "ClockworkOrreries$Works", name := "armAngle", desc := "(ILClockworkOrreries$Drive;I)I" } : Jvm.MethodName)) ∈ lw_all := lw_g (lw_at lw_m6 8 rfl) rfl
theorem q1287 : (Jvm.Cond.static ({ cls := "ClockworkOrreries", name := "angle", desc := "(JJJ)I" } : Jvm.MethodName)) ∈ lw_all := lw_g (lw_at lw_m6 13 rfl) rfl
theorem q1288 : (Jvm.Cond.code ({ cls := "ClockworkOrreries", name := "angle", desc := "(JJJ)I" } : Jvm.MethodName) prog_1_method_5_code (8 : Nat) (Option.some Jvm.ClassFile.FieldType.int)) ∈ lw_all := lw_g (lw_at lw_m6 14 rfl) rfl
theorem q1289 : (Jvm.Cond.constantLong "ClockworkOrreries" (9 : Nat) (21600 : Int64)) ∈ lw_all := lw_g (lw_at lw_m6 15 rfl) rfl
theorem q1290 : (Jvm.Cond.methodLink "ClockworkOrreries" (11 : Nat) ({ cls := "ClockworkOrreries", name := "floor", desc := "(JJ)J" } : Jvm.MethodName)) ∈ lw_all := lw_g (lw_at lw_m6 16 rfl) rfl
theorem q1291 : (Jvm.Cond.static ({ cls := "ClockworkOrreries", name := "floor", desc := "(JJ)J" } : Jvm.MethodName)) ∈ lw_all := lw_g (lw_at lw_m6 17 rfl) rfl
theorem q1292 : (Jvm.Cond.code ({ cls := "ClockworkOrreries", name := "floor", desc := "(JJ)J" } : Jvm.MethodName) prog_1_method_3_code (6 : Nat) (Option.some Jvm.ClassFile.FieldType.long)) ∈ lw_all := lw_g (lw_at lw_m6 18 rfl) rfl
theorem q1293 : (Jvm.Cond.methodLink "ClockworkOrreries" (15 : Nat) ({ cls := "ClockworkOrreries", name := "around", desc := "(J)I" } : Jvm.MethodName)) ∈ lw_all := lw_g (lw_at lw_m6 19 rfl) rfl
theorem q1294 : (Jvm.Cond.static ({ cls := "ClockworkOrreries", name := "around", desc := "(J)I" } : Jvm.MethodName)) ∈ lw_all := lw_g (lw_at lw_m6 20 rfl) rfl
theorem q1295 : (Jvm.Cond.code ({ cls := "ClockworkOrreries", name := "around", desc := "(J)I" } : Jvm.MethodName) prog_1_method_4_code (4 : Nat) (Option.some Jvm.ClassFile.FieldType.int)) ∈ lw_all := lw_g (lw_at lw_m6 21 rfl) rfl
theorem q1301 : (Jvm.Cond.instanceMethod ({ cls := "ClockworkOrreries", name := "angleByTeeth", desc := "(I)I" } : Jvm.MethodName)) ∈ lw_all := lw_g (lw_at lw_m6 27 rfl) rfl
theorem q1302 : (Jvm.Cond.selects "ClockworkOrreries" ({ cls := "ClockworkOrreries", name := "angleByTeeth", desc := "(I)I" } : Jvm.MethodName) ({ cls := "ClockworkOrreries", name := "angleByTeeth", desc := "(I)I" } : Jvm.MethodName)) ∈ lw_all := lw_g (lw_at lw_m6 28 rfl) rfl
theorem q1303 : (Jvm.Cond.code ({ cls := "ClockworkOrreries", name := "angleByTeeth", desc := "(I)I" } : Jvm.MethodName) prog_1_method_60_code (2 : Nat) (Option.some Jvm.ClassFile.FieldType.int)) ∈ lw_all := lw_g (lw_at lw_m6 29 rfl) rfl
theorem q1304 : (Jvm.Cond.methodLink "ClockworkOrreries" (280 : Nat) ({ cls := "ClockworkOrreries$Works", name := "armAngleByTeeth", desc := "(ILClockworkOrreries$Drive;)I" } : Jvm.MethodName)) ∈ lw_all := lw_g (lw_at lw_m6 30 rfl) rfl
theorem q1312 : (Jvm.Cond.instanceMethod ({ cls := "ClockworkOrreries", name := "moonAngle", desc := "(I)I" } : Jvm.MethodName)) ∈ lw_all := lw_g (lw_at lw_m6 38 rfl) rfl
theorem q1313 : (Jvm.Cond.selects "ClockworkOrreries" ({ cls := "ClockworkOrreries", name := "moonAngle", desc := "(I)I" } : Jvm.MethodName) ({ cls := "ClockworkOrreries", name := "moonAngle", desc := "(I)I" } : Jvm.MethodName)) ∈ lw_all := lw_g (lw_at lw_m6 39 rfl) rfl
theorem q1314 : (Jvm.Cond.code ({ cls := "ClockworkOrreries", name := "moonAngle", desc := "(I)I" } : Jvm.MethodName) prog_1_method_61_code (2 : Nat) (Option.some Jvm.ClassFile.FieldType.int)) ∈ lw_all := lw_g (lw_at lw_m6 40 rfl) rfl
theorem q1315 : (Jvm.Cond.methodLink "ClockworkOrreries" (284 : Nat) ({ cls := "ClockworkOrreries", name := "drivingMoon", desc := "(I)LClockworkOrreries$Drive;" } : Jvm.MethodName)) ∈ lw_all := lw_g (lw_at lw_m6 41 rfl) rfl
theorem q1316 : (Jvm.Cond.privateMethod ({ cls := "ClockworkOrreries", name := "drivingMoon", desc := "(I)LClockworkOrreries$Drive;" } : Jvm.MethodName)) ∈ lw_tbl := lw_at lw_m6 42 rfl
theorem q1317 : (Jvm.Cond.instanceMethod ({ cls := "ClockworkOrreries", name := "drivingMoon", desc := "(I)LClockworkOrreries$Drive;" } : Jvm.MethodName)) ∈ lw_all := lw_g (lw_at lw_m6 43 rfl) rfl
theorem q1318 : (Jvm.Cond.code ({ cls := "ClockworkOrreries", name := "drivingMoon", desc := "(I)LClockworkOrreries$Drive;" } : Jvm.MethodName) prog_1_method_37_code (4 : Nat) (Option.some (Jvm.ClassFile.FieldType.object "ClockworkOrreries$Drive"))) ∈ lw_all := lw_g (lw_at lw_m6 44 rfl) rfl
theorem q1319 : (Jvm.Cond.classLink "ClockworkOrreries" (208 : Nat) "ClockworkOrreries$Moon") ∈ lw_all := lw_g (lw_at lw_m6 45 rfl) rfl
theorem q1320 : (Jvm.Cond.methodLink "ClockworkOrreries" (287 : Nat) ({ cls := "ClockworkOrreries$Works", name := "moonAngleOf", desc := "(ILClockworkOrreries$Drive;)I" } : Jvm.MethodName)) ∈ lw_all := lw_g (lw_at lw_m6 46 rfl) rfl
theorem q1328 : (Jvm.Cond.instanceMethod ({ cls := "ClockworkOrreries", name := "isSlow", desc := "(I)Z" } : Jvm.MethodName)) ∈ lw_all := lw_g (lw_at lw_m6 54 rfl) rfl
theorem q1329 : (Jvm.Cond.selects "ClockworkOrreries" ({ cls := "ClockworkOrreries", name := "isSlow", desc := "(I)Z" } : Jvm.MethodName) ({ cls := "ClockworkOrreries", name := "isSlow", desc := "(I)Z" } : Jvm.MethodName)) ∈ lw_all := lw_g (lw_at lw_m6 55 rfl) rfl
theorem q1330 : (Jvm.Cond.code ({ cls := "ClockworkOrreries", name := "isSlow", desc := "(I)Z" } : Jvm.MethodName) prog_1_method_62_code (2 : Nat) (Option.some Jvm.ClassFile.FieldType.boolean)) ∈ lw_all := lw_g (lw_at lw_m6 56 rfl) rfl
theorem q1331 : (Jvm.Cond.methodLink "ClockworkOrreries" (290 : Nat) ({ cls := "ClockworkOrreries$Works", name := "isSlower", desc := "(ILClockworkOrreries$Drive;)Z" } : Jvm.MethodName)) ∈ lw_all := lw_g (lw_at lw_m6 57 rfl) rfl
theorem q1340 : (Jvm.Cond.instanceMethod ({ cls := "ClockworkOrreries", name := "meetIn", desc := "(III)I" } : Jvm.MethodName)) ∈ lw_all := lw_g (lw_at lw_m6 66 rfl) rfl
theorem q1341 : (Jvm.Cond.selects "ClockworkOrreries" ({ cls := "ClockworkOrreries", name := "meetIn", desc := "(III)I" } : Jvm.MethodName) ({ cls := "ClockworkOrreries", name := "meetIn", desc := "(III)I" } : Jvm.MethodName)) ∈ lw_all := lw_g (lw_at lw_m6 67 rfl) rfl
theorem q1342 : (Jvm.Cond.code ({ cls := "ClockworkOrreries", name := "meetIn", desc := "(III)I" } : Jvm.MethodName) prog_1_method_63_code (7 : Nat) (Option.some Jvm.ClassFile.FieldType.int)) ∈ lw_all := lw_g (lw_at lw_m6 68 rfl) rfl
theorem q1343 : (Jvm.Cond.constantLong "ClockworkOrreries" (294 : Nat) (600 : Int64)) ∈ lw_all := lw_g (lw_at lw_m6 69 rfl) rfl
theorem q1344 : (Jvm.Cond.methodLink "ClockworkOrreries" (296 : Nat) ({ cls := "ClockworkOrreries", name := "drivingBoth", desc := "(II)LClockworkOrreries$Drive;" } : Jvm.MethodName)) ∈ lw_all := lw_g (lw_at lw_m6 70 rfl) rfl
theorem q1345 : (Jvm.Cond.privateMethod ({ cls := "ClockworkOrreries", name := "drivingBoth", desc := "(II)LClockworkOrreries$Drive;" } : Jvm.MethodName)) ∈ lw_tbl := lw_at lw_m6 71 rfl
theorem q1346 : (Jvm.Cond.instanceMethod ({ cls := "ClockworkOrreries", name := "drivingBoth", desc := "(II)LClockworkOrreries$Drive;" } : Jvm.MethodName)) ∈ lw_all := lw_g (lw_at lw_m6 72 rfl) rfl
theorem q1347 : (Jvm.Cond.code ({ cls := "ClockworkOrreries", name := "drivingBoth", desc := "(II)LClockworkOrreries$Drive;" } : Jvm.MethodName) prog_1_method_36_code (4 : Nat) (Option.some (Jvm.ClassFile.FieldType.object "ClockworkOrreries$Drive"))) ∈ lw_all := lw_g (lw_at lw_m6 73 rfl) rfl
theorem q1348 : (Jvm.Cond.methodLink "ClockworkOrreries" (300 : Nat) ({ cls := "ClockworkOrreries$Works", name := "doMeet", desc := "(IIILClockworkOrreries$Drive;I)Z" } : Jvm.MethodName)) ∈ lw_all := lw_g (lw_at lw_m6 74 rfl) rfl
theorem q1354 : (Jvm.Cond.static ({ cls := "ClockworkOrreries", name := "apart", desc := "(II)I" } : Jvm.MethodName)) ∈ lw_all := lw_g (lw_at lw_m6 80 rfl) rfl
theorem q1355 : (Jvm.Cond.code ({ cls := "ClockworkOrreries", name := "apart", desc := "(II)I" } : Jvm.MethodName) prog_1_method_6_code (3 : Nat) (Option.some Jvm.ClassFile.FieldType.int)) ∈ lw_all := lw_g (lw_at lw_m6 81 rfl) rfl
theorem q1356 : (Jvm.Cond.methodLink "ClockworkOrreries" (19 : Nat) ({ cls := "java/lang/Math", name := "abs", desc := "(I)I" } : Jvm.MethodName)) ∈ lw_all := lw_g (lw_at lw_m6 82 rfl) rfl
theorem q1363 : (Jvm.Cond.instanceMethod ({ cls := "ClockworkOrreries", name := "meetings", desc := "(III)I" } : Jvm.MethodName)) ∈ lw_all := lw_g (lw_at lw_m6 89 rfl) rfl
theorem q1364 : (Jvm.Cond.selects "ClockworkOrreries" ({ cls := "ClockworkOrreries", name := "meetings", desc := "(III)I" } : Jvm.MethodName) ({ cls := "ClockworkOrreries", name := "meetings", desc := "(III)I" } : Jvm.MethodName)) ∈ lw_all := lw_g (lw_at lw_m6 90 rfl) rfl
theorem q1365 : (Jvm.Cond.code ({ cls := "ClockworkOrreries", name := "meetings", desc := "(III)I" } : Jvm.MethodName) prog_1_method_64_code (7 : Nat) (Option.some Jvm.ClassFile.FieldType.int)) ∈ lw_all := lw_g (lw_at lw_m6 91 rfl) rfl
theorem q1370 : (Jvm.Cond.instanceMethod ({ cls := "ClockworkOrreries", name := "differenceAbove", desc := "(II)J" } : Jvm.MethodName)) ∈ lw_all := lw_g (lw_at lw_m6 96 rfl) rfl
theorem q1371 : (Jvm.Cond.selects "ClockworkOrreries" ({ cls := "ClockworkOrreries", name := "differenceAbove", desc := "(II)J" } : Jvm.MethodName) ({ cls := "ClockworkOrreries", name := "differenceAbove", desc := "(II)J" } : Jvm.MethodName)) ∈ lw_all := lw_g (lw_at lw_m6 97 rfl) rfl
theorem q1372 : (Jvm.Cond.code ({ cls := "ClockworkOrreries", name := "differenceAbove", desc := "(II)J" } : Jvm.MethodName) prog_1_method_69_code (3 : Nat) (Option.some Jvm.ClassFile.FieldType.long)) ∈ lw_all := lw_g (lw_at lw_m6 98 rfl) rfl
theorem q1373 : (Jvm.Cond.methodLink "ClockworkOrreries" (312 : Nat) ({ cls := "ClockworkOrreries", name := "difference", desc := "(IIZ)J" } : Jvm.MethodName)) ∈ lw_all := lw_g (lw_at lw_m6 99 rfl) rfl
theorem q1374 : (Jvm.Cond.privateMethod ({ cls := "ClockworkOrreries", name := "difference", desc := "(IIZ)J" } : Jvm.MethodName)) ∈ lw_tbl := lw_at lw_m6 100 rfl
theorem q1375 : (Jvm.Cond.instanceMethod ({ cls := "ClockworkOrreries", name := "difference", desc := "(IIZ)J" } : Jvm.MethodName)) ∈ lw_all := lw_g (lw_at lw_m6 101 rfl) rfl
theorem q1376 : (Jvm.Cond.code ({ cls := "ClockworkOrreries", name := "difference", desc := "(IIZ)J" } : Jvm.MethodName) prog_1_method_68_code (15 : Nat) (Option.some Jvm.ClassFile.FieldType.long)) ∈ lw_all := lw_g (lw_at lw_m6 102 rfl) rfl
theorem q1381 : (Jvm.Cond.instanceMethod ({ cls := "ClockworkOrreries", name := "comeBackIn", desc := "(II)J" } : Jvm.MethodName)) ∈ lw_all := lw_g (lw_at lw_m6 107 rfl) rfl
theorem q1382 : (Jvm.Cond.selects "ClockworkOrreries" ({ cls := "ClockworkOrreries", name := "comeBackIn", desc := "(II)J" } : Jvm.MethodName) ({ cls := "ClockworkOrreries", name := "comeBackIn", desc := "(II)J" } : Jvm.MethodName)) ∈ lw_all := lw_g (lw_at lw_m6 108 rfl) rfl
theorem q1383 : (Jvm.Cond.code ({ cls := "ClockworkOrreries", name := "comeBackIn", desc := "(II)J" } : Jvm.MethodName) prog_1_method_70_code (3 : Nat) (Option.some Jvm.ClassFile.FieldType.long)) ∈ lw_all := lw_g (lw_at lw_m6 109 rfl) rfl
theorem q1388 : (Jvm.Cond.instanceMethod ({ cls := "ClockworkOrreries", name := "allMeetIn", desc := "(IIII)I" } : Jvm.MethodName)) ∈ lw_all := lw_g (lw_at lw_m6 114 rfl) rfl
theorem q1389 : (Jvm.Cond.selects "ClockworkOrreries" ({ cls := "ClockworkOrreries", name := "allMeetIn", desc := "(IIII)I" } : Jvm.MethodName) ({ cls := "ClockworkOrreries", name := "allMeetIn", desc := "(IIII)I" } : Jvm.MethodName)) ∈ lw_all := lw_g (lw_at lw_m6 115 rfl) rfl
theorem q1390 : (Jvm.Cond.code ({ cls := "ClockworkOrreries", name := "allMeetIn", desc := "(IIII)I" } : Jvm.MethodName) prog_1_method_65_code (10 : Nat) (Option.some Jvm.ClassFile.FieldType.int)) ∈ lw_all := lw_g (lw_at lw_m6 116 rfl) rfl
theorem q1395 : (Jvm.Cond.instanceMethod ({ cls := "ClockworkOrreries", name := "farthestIn", desc := "(II)I" } : Jvm.MethodName)) ∈ lw_all := lw_g (lw_at lw_m6 121 rfl) rfl
theorem q1396 : (Jvm.Cond.selects "ClockworkOrreries" ({ cls := "ClockworkOrreries", name := "farthestIn", desc := "(II)I" } : Jvm.MethodName) ({ cls := "ClockworkOrreries", name := "farthestIn", desc := "(II)I" } : Jvm.MethodName)) ∈ lw_all := lw_g (lw_at lw_m6 122 rfl) rfl
theorem q1397 : (Jvm.Cond.code ({ cls := "ClockworkOrreries", name := "farthestIn", desc := "(II)I" } : Jvm.MethodName) prog_1_method_66_code (8 : Nat) (Option.some Jvm.ClassFile.FieldType.int)) ∈ lw_all := lw_g (lw_at lw_m6 123 rfl) rfl
theorem q1398 : (Jvm.Cond.methodLink "ClockworkOrreries" (304 : Nat) ({ cls := "ClockworkOrreries", name := "apart", desc := "(II)I" } : Jvm.MethodName)) ∈ lw_all := lw_g (lw_at lw_m6 124 rfl) rfl
theorem q1399 : (Jvm.Cond.methodLink "ClockworkOrreries" (307 : Nat) ({ cls := "java/lang/Math", name := "max", desc := "(II)I" } : Jvm.MethodName)) ∈ lw_all := lw_g (lw_at lw_m6 125 rfl) rfl
theorem q1404 : (Jvm.Cond.instanceMethod ({ cls := "ClockworkOrreries", name := "bendFor", desc := "(II)I" } : Jvm.MethodName)) ∈ lw_all := lw_g (lw_at lw_m6 130 rfl) rfl
theorem q1405 : (Jvm.Cond.selects "ClockworkOrreries" ({ cls := "ClockworkOrreries", name := "bendFor", desc := "(II)I" } : Jvm.MethodName) ({ cls := "ClockworkOrreries", name := "bendFor", desc := "(II)I" } : Jvm.MethodName)) ∈ lw_all := lw_g (lw_at lw_m6 131 rfl) rfl
theorem q1406 : (Jvm.Cond.code ({ cls := "ClockworkOrreries", name := "bendFor", desc := "(II)I" } : Jvm.MethodName) prog_1_method_67_code (9 : Nat) (Option.some Jvm.ClassFile.FieldType.int)) ∈ lw_all := lw_g (lw_at lw_m6 132 rfl) rfl
theorem q1407 : (Jvm.Cond.constantLong "ClockworkOrreries" (310 : Nat) (21599 : Int64)) ∈ lw_all := lw_g (lw_at lw_m6 133 rfl) rfl
theorem q1412 : (Jvm.Cond.instanceMethod ({ cls := "ClockworkOrreries", name := "dayOf", desc := "(III)I" } : Jvm.MethodName)) ∈ lw_all := lw_g (lw_at lw_m6 138 rfl) rfl
theorem q1413 : (Jvm.Cond.selects "ClockworkOrreries" ({ cls := "ClockworkOrreries", name := "dayOf", desc := "(III)I" } : Jvm.MethodName) ({ cls := "ClockworkOrreries", name := "dayOf", desc := "(III)I" } : Jvm.MethodName)) ∈ lw_all := lw_g (lw_at lw_m6 139 rfl) rfl
theorem q1414 : (Jvm.Cond.code ({ cls := "ClockworkOrreries", name := "dayOf", desc := "(III)I" } : Jvm.MethodName) prog_1_method_74_code (4 : Nat) (Option.some Jvm.ClassFile.FieldType.int)) ∈ lw_all := lw_g (lw_at lw_m6 140 rfl) rfl
theorem q1415 : (Jvm.Cond.constantLong "ClockworkOrreries" (322 : Nat) (2738 : Int64)) ∈ lw_all := lw_g (lw_at lw_m6 141 rfl) rfl
theorem q1416 : (Jvm.Cond.constantLong "ClockworkOrreries" (324 : Nat) (12 : Int64)) ∈ lw_all := lw_g (lw_at lw_m6 142 rfl) rfl
theorem q1421 : (Jvm.Cond.instanceMethod ({ cls := "ClockworkOrreries", name := "daysUntil", desc := "(II)I" } : Jvm.MethodName)) ∈ lw_all := lw_g (lw_at lw_m6 147 rfl) rfl
theorem q1422 : (Jvm.Cond.selects "ClockworkOrreries" ({ cls := "ClockworkOrreries", name := "daysUntil", desc := "(II)I" } : Jvm.MethodName) ({ cls := "ClockworkOrreries", name := "daysUntil", desc := "(II)I" } : Jvm.MethodName)) ∈ lw_all := lw_g (lw_at lw_m6 148 rfl) rfl
theorem q1423 : (Jvm.Cond.code ({ cls := "ClockworkOrreries", name := "daysUntil", desc := "(II)I" } : Jvm.MethodName) prog_1_method_76_code (7 : Nat) (Option.some Jvm.ClassFile.FieldType.int)) ∈ lw_all := lw_g (lw_at lw_m6 149 rfl) rfl
theorem q1424 : (Jvm.Cond.constantLong "ClockworkOrreries" (329 : Nat) (31 : Int64)) ∈ lw_all := lw_g (lw_at lw_m6 150 rfl) rfl
theorem q1429 : (Jvm.Cond.instanceMethod ({ cls := "ClockworkOrreries", name := "periodOf", desc := "(I)I" } : Jvm.MethodName)) ∈ lw_all := lw_g (lw_at lw_m6 155 rfl) rfl
theorem q1430 : (Jvm.Cond.selects "ClockworkOrreries" ({ cls := "ClockworkOrreries", name := "periodOf", desc := "(I)I" } : Jvm.MethodName) ({ cls := "ClockworkOrreries", name := "periodOf", desc := "(I)I" } : Jvm.MethodName)) ∈ lw_all := lw_g (lw_at lw_m6 156 rfl) rfl
theorem q1431 : (Jvm.Cond.code ({ cls := "ClockworkOrreries", name := "periodOf", desc := "(I)I" } : Jvm.MethodName) prog_1_method_78_code (3 : Nat) (Option.some Jvm.ClassFile.FieldType.int)) ∈ lw_all := lw_g (lw_at lw_m6 157 rfl) rfl
theorem q1436 : (Jvm.Cond.instanceMethod ({ cls := "ClockworkOrreries", name := "errorBits", desc := "(I)J" } : Jvm.MethodName)) ∈ lw_all := lw_g (lw_at lw_m6 162 rfl) rfl
theorem q1437 : (Jvm.Cond.selects "ClockworkOrreries" ({ cls := "ClockworkOrreries", name := "errorBits", desc := "(I)J" } : Jvm.MethodName) ({ cls := "ClockworkOrreries", name := "errorBits", desc := "(I)J" } : Jvm.MethodName)) ∈ lw_all := lw_g (lw_at lw_m6 163 rfl) rfl
theorem q1438 : (Jvm.Cond.code ({ cls := "ClockworkOrreries", name := "errorBits", desc := "(I)J" } : Jvm.MethodName) prog_1_method_79_code (6 : Nat) (Option.some Jvm.ClassFile.FieldType.long)) ∈ lw_all := lw_g (lw_at lw_m6 164 rfl) rfl
theorem q1439 : (Jvm.Cond.constantDouble "ClockworkOrreries" (334 : Nat) (4652007308841189376 : UInt64)) ∈ lw_all := lw_g (lw_at lw_m6 165 rfl) rfl
theorem q1440 : (Jvm.Cond.methodLink "ClockworkOrreries" (336 : Nat) ({ cls := "java/lang/Double", name := "doubleToLongBits", desc := "(D)J" } : Jvm.MethodName)) ∈ lw_all := lw_g (lw_at lw_m6 166 rfl) rfl
theorem q1454 : (Jvm.Cond.instanceMethod ({ cls := "ClockworkOrreries", name := "bestPair", desc := "(II)I" } : Jvm.MethodName)) ∈ lw_all := lw_g (lw_at lw_m6 180 rfl) rfl
theorem q1455 : (Jvm.Cond.selects "ClockworkOrreries" ({ cls := "ClockworkOrreries", name := "bestPair", desc := "(II)I" } : Jvm.MethodName) ({ cls := "ClockworkOrreries", name := "bestPair", desc := "(II)I" } : Jvm.MethodName)) ∈ lw_all := lw_g (lw_at lw_m6 181 rfl) rfl
theorem q1456 : (Jvm.Cond.code ({ cls := "ClockworkOrreries", name := "bestPair", desc := "(II)I" } : Jvm.MethodName) prog_1_method_80_code (12 : Nat) (Option.some Jvm.ClassFile.FieldType.int)) ∈ lw_all := lw_g (lw_at lw_m6 182 rfl) rfl
theorem q1457 : (Jvm.Cond.constantLong "ClockworkOrreries" (342 : Nat) (200 : Int64)) ∈ lw_all := lw_g (lw_at lw_m6 183 rfl) rfl
theorem q1462 : (Jvm.Cond.instanceMethod ({ cls := "ClockworkOrreries", name := "degrees", desc := "(I)F" } : Jvm.MethodName)) ∈ lw_all := lw_g (lw_at lw_m6 188 rfl) rfl
theorem q1463 : (Jvm.Cond.selects "ClockworkOrreries" ({ cls := "ClockworkOrreries", name := "degrees", desc := "(I)F" } : Jvm.MethodName) ({ cls := "ClockworkOrreries", name := "degrees", desc := "(I)F" } : Jvm.MethodName)) ∈ lw_all := lw_g (lw_at lw_m6 189 rfl) rfl
theorem q1464 : (Jvm.Cond.code ({ cls := "ClockworkOrreries", name := "degrees", desc := "(I)F" } : Jvm.MethodName) prog_1_method_81_code (2 : Nat) (Option.some Jvm.ClassFile.FieldType.float)) ∈ lw_all := lw_g (lw_at lw_m6 190 rfl) rfl
theorem q1465 : (Jvm.Cond.methodLink "ClockworkOrreries" (344 : Nat) ({ cls := "ClockworkOrreries", name := "angleOf", desc := "(I)I" } : Jvm.MethodName)) ∈ lw_all := lw_g (lw_at lw_m6 191 rfl) rfl
theorem q1466 : (Jvm.Cond.constantFloat "ClockworkOrreries" (347 : Nat) (1114636288 : UInt32)) ∈ lw_all := lw_g (lw_at lw_m6 192 rfl) rfl
theorem q1471 : (Jvm.Cond.instanceMethod ({ cls := "ClockworkOrreries", name := "degreeBits", desc := "(I)I" } : Jvm.MethodName)) ∈ lw_all := lw_g (lw_at lw_m6 197 rfl) rfl
theorem q1472 : (Jvm.Cond.selects "ClockworkOrreries" ({ cls := "ClockworkOrreries", name := "degreeBits", desc := "(I)I" } : Jvm.MethodName) ({ cls := "ClockworkOrreries", name := "degreeBits", desc := "(I)I" } : Jvm.MethodName)) ∈ lw_all := lw_g (lw_at lw_m6 198 rfl) rfl
theorem q1473 : (Jvm.Cond.code ({ cls := "ClockworkOrreries", name := "degreeBits", desc := "(I)I" } : Jvm.MethodName) prog_1_method_82_code (2 : Nat) (Option.some Jvm.ClassFile.FieldType.int)) ∈ lw_all := lw_g (lw_at lw_m6 199 rfl) rfl
theorem q1474 : (Jvm.Cond.methodLink "ClockworkOrreries" (348 : Nat) ({ cls := "ClockworkOrreries", name := "degrees", desc := "(I)F" } : Jvm.MethodName)) ∈ lw_all := lw_g (lw_at lw_m6 200 rfl) rfl
theorem q1475 : (Jvm.Cond.methodLink "ClockworkOrreries" (352 : Nat) ({ cls := "java/lang/Float", name := "floatToIntBits", desc := "(F)I" } : Jvm.MethodName)) ∈ lw_all := lw_g (lw_at lw_m6 201 rfl) rfl
theorem q1489 : (Jvm.Cond.instanceMethod ({ cls := "ClockworkOrreries", name := "bestTrain", desc := "(I)I" } : Jvm.MethodName)) ∈ lw_all := lw_g (lw_at lw_m6 215 rfl) rfl
theorem q1490 : (Jvm.Cond.selects "ClockworkOrreries" ({ cls := "ClockworkOrreries", name := "bestTrain", desc := "(I)I" } : Jvm.MethodName) ({ cls := "ClockworkOrreries", name := "bestTrain", desc := "(I)I" } : Jvm.MethodName)) ∈ lw_all := lw_g (lw_at lw_m6 216 rfl) rfl
theorem q1491 : (Jvm.Cond.code ({ cls := "ClockworkOrreries", name := "bestTrain", desc := "(I)I" } : Jvm.MethodName) prog_1_method_86_code (18 : Nat) (Option.some Jvm.ClassFile.FieldType.int)) ∈ lw_all := lw_g (lw_at lw_m6 217 rfl) rfl
theorem q1492 : (Jvm.Cond.methodLink "ClockworkOrreries" (360 : Nat) ({ cls := "ClockworkOrreries", name := "areOther", desc := "(IIII)Z" } : Jvm.MethodName)) ∈ lw_all := lw_g (lw_at lw_m6 218 rfl) rfl
theorem q1493 : (Jvm.Cond.static ({ cls := "ClockworkOrreries", name := "areOther", desc := "(IIII)Z" } : Jvm.MethodName)) ∈ lw_all := lw_g (lw_at lw_m6 219 rfl) rfl
theorem q1494 : (Jvm.Cond.code ({ cls := "ClockworkOrreries", name := "areOther", desc := "(IIII)Z" } : Jvm.MethodName) prog_1_method_85_code (4 : Nat) (Option.some Jvm.ClassFile.FieldType.boolean)) ∈ lw_all := lw_g (lw_at lw_m6 220 rfl) rfl
theorem q1495 : (Jvm.Cond.methodLink "ClockworkOrreries" (364 : Nat) ({ cls := "ClockworkOrreries", name := "teeth", desc := "(I)I" } : Jvm.MethodName)) ∈ lw_all := lw_g (lw_at lw_m6 221 rfl) rfl
theorem q1496 : (Jvm.Cond.privateMethod ({ cls := "ClockworkOrreries", name := "teeth", desc := "(I)I" } : Jvm.MethodName)) ∈ lw_tbl := lw_at lw_m6 222 rfl
theorem q1497 : (Jvm.Cond.instanceMethod ({ cls := "ClockworkOrreries", name := "teeth", desc := "(I)I" } : Jvm.MethodName)) ∈ lw_all := lw_g (lw_at lw_m6 223 rfl) rfl
theorem q1498 : (Jvm.Cond.code ({ cls := "ClockworkOrreries", name := "teeth", desc := "(I)I" } : Jvm.MethodName) prog_1_method_84_code (2 : Nat) (Option.some Jvm.ClassFile.FieldType.int)) ∈ lw_all := lw_g (lw_at lw_m6 224 rfl) rfl
theorem q1499 : (Jvm.Cond.methodLink "ClockworkOrreries" (366 : Nat) ({ cls := "ClockworkOrreries", name := "off", desc := "(JJI)J" } : Jvm.MethodName)) ∈ lw_all := lw_g (lw_at lw_m6 225 rfl) rfl
theorem q1500 : (Jvm.Cond.static ({ cls := "ClockworkOrreries", name := "off", desc := "(JJI)J" } : Jvm.MethodName)) ∈ lw_all := lw_g (lw_at lw_m6 226 rfl) rfl
theorem q1501 : (Jvm.Cond.code ({ cls := "ClockworkOrreries", name := "off", desc := "(JJI)J" } : Jvm.MethodName) prog_1_method_83_code (5 : Nat) (Option.some Jvm.ClassFile.FieldType.long)) ∈ lw_all := lw_g (lw_at lw_m6 227 rfl) rfl
theorem q1502 : (Jvm.Cond.constantLong "ClockworkOrreries" (358 : Nat) (1000 : Int64)) ∈ lw_all := lw_g (lw_at lw_m6 228 rfl) rfl
theorem q1507 : (Jvm.Cond.instanceMethod ({ cls := "ClockworkOrreries", name := "goBack", desc := "()I" } : Jvm.MethodName)) ∈ lw_all := lw_g (lw_at lw_m6 233 rfl) rfl
theorem q1508 : (Jvm.Cond.selects "ClockworkOrreries" ({ cls := "ClockworkOrreries", name := "goBack", desc := "()I" } : Jvm.MethodName) ({ cls := "ClockworkOrreries", name := "goBack", desc := "()I" } : Jvm.MethodName)) ∈ lw_all := lw_g (lw_at lw_m6 234 rfl) rfl
theorem q1509 : (Jvm.Cond.code ({ cls := "ClockworkOrreries", name := "goBack", desc := "()I" } : Jvm.MethodName) prog_1_method_91_code (1 : Nat) (Option.some Jvm.ClassFile.FieldType.int)) ∈ lw_all := lw_g (lw_at lw_m6 235 rfl) rfl
theorem q1510 : (Jvm.Cond.methodLink "ClockworkOrreries" (379 : Nat) ({ cls := "ClockworkOrreries", name := "needState", desc := "(Z)V" } : Jvm.MethodName)) ∈ lw_all := lw_g (lw_at lw_m6 236 rfl) rfl
theorem q1511 : (Jvm.Cond.static ({ cls := "ClockworkOrreries", name := "needState", desc := "(Z)V" } : Jvm.MethodName)) ∈ lw_all := lw_g (lw_at lw_m6 237 rfl) rfl
theorem q1512 : (Jvm.Cond.code ({ cls := "ClockworkOrreries", name := "needState", desc := "(Z)V" } : Jvm.MethodName) prog_1_method_32_code (1 : Nat) (Option.none : Option Jvm.ClassFile.FieldType)) ∈ lw_all := lw_g (lw_at lw_m6 238 rfl) rfl
theorem q1517 : (Jvm.Cond.instanceMethod ({ cls := "ClockworkOrreries", name := "undo", desc := "()I" } : Jvm.MethodName)) ∈ lw_all := lw_g (lw_at lw_m7 3 rfl) rfl
theorem q1518 : (Jvm.Cond.selects "ClockworkOrreries" ({ cls := "ClockworkOrreries", name := "undo", desc := "()I" } : Jvm.MethodName) ({ cls := "ClockworkOrreries", name := "undo", desc := "()I" } : Jvm.MethodName)) ∈ lw_all := lw_g (lw_at lw_m7 4 rfl) rfl
theorem q1519 : (Jvm.Cond.code ({ cls := "ClockworkOrreries", name := "undo", desc := "()I" } : Jvm.MethodName) prog_1_method_93_code (1 : Nat) (Option.some Jvm.ClassFile.FieldType.int)) ∈ lw_all := lw_g (lw_at lw_m7 5 rfl) rfl
theorem q1520 : (Jvm.Cond.methodLink "ClockworkOrreries" (382 : Nat) ({ cls := "java/util/ArrayDeque", name := "isEmpty", desc := "()Z" } : Jvm.MethodName)) ∈ lw_all := lw_g (lw_at lw_m7 6 rfl) rfl
theorem q1524 : (Jvm.Cond.methodLink "ClockworkOrreries" (386 : Nat) ({ cls := "java/util/ArrayDeque", name := "removeLast", desc := "()Ljava/lang/Object;" } : Jvm.MethodName)) ∈ lw_all := lw_g (lw_at lw_m7 10 rfl) rfl
theorem q1539 : (Jvm.Cond.instanceMethod ({ cls := "ClockworkOrreries", name := "type", desc := "(I)I" } : Jvm.MethodName)) ∈ lw_all := lw_g (lw_at lw_m7 25 rfl) rfl
theorem q1540 : (Jvm.Cond.selects "ClockworkOrreries" ({ cls := "ClockworkOrreries", name := "type", desc := "(I)I" } : Jvm.MethodName) ({ cls := "ClockworkOrreries", name := "type", desc := "(I)I" } : Jvm.MethodName)) ∈ lw_all := lw_g (lw_at lw_m7 26 rfl) rfl
theorem q1541 : (Jvm.Cond.code ({ cls := "ClockworkOrreries", name := "type", desc := "(I)I" } : Jvm.MethodName) prog_1_method_94_code (2 : Nat) (Option.some Jvm.ClassFile.FieldType.int)) ∈ lw_all := lw_g (lw_at lw_m7 27 rfl) rfl
theorem q1542 : (Jvm.Cond.constantLong "ClockworkOrreries" (389 : Nat) (32 : Int64)) ∈ lw_all := lw_g (lw_at lw_m7 28 rfl) rfl
theorem q1543 : (Jvm.Cond.constantLong "ClockworkOrreries" (391 : Nat) (126 : Int64)) ∈ lw_all := lw_g (lw_at lw_m7 29 rfl) rfl
theorem q1544 : (Jvm.Cond.methodLink "ClockworkOrreries" (396 : Nat) ({ cls := "java/lang/StringBuilder", name := "append", desc := "(C)Ljava/lang/StringBuilder;" } : Jvm.MethodName)) ∈ lw_all := lw_g (lw_at lw_m7 30 rfl) rfl
theorem q1568 : (Jvm.Cond.instanceMethod ({ cls := "ClockworkOrreries", name := "faultPosition", desc := "()I" } : Jvm.MethodName)) ∈ lw_all := lw_g (lw_at lw_m7 54 rfl) rfl
theorem q1569 : (Jvm.Cond.selects "ClockworkOrreries" ({ cls := "ClockworkOrreries", name := "faultPosition", desc := "()I" } : Jvm.MethodName) ({ cls := "ClockworkOrreries", name := "faultPosition", desc := "()I" } : Jvm.MethodName)) ∈ lw_all := lw_g (lw_at lw_m7 55 rfl) rfl
theorem q1570 : (Jvm.Cond.code ({ cls := "ClockworkOrreries", name := "faultPosition", desc := "()I" } : Jvm.MethodName) prog_1_method_97_code (1 : Nat) (Option.some Jvm.ClassFile.FieldType.int)) ∈ lw_all := lw_g (lw_at lw_m7 56 rfl) rfl
theorem q1571 : (Jvm.Cond.methodLink "ClockworkOrreries" (411 : Nat) ({ cls := "ClockworkOrreries", name := "faulty", desc := "()LClockworkOrreries$Reader;" } : Jvm.MethodName)) ∈ lw_all := lw_g (lw_at lw_m7 57 rfl) rfl
theorem q1572 : (Jvm.Cond.privateMethod ({ cls := "ClockworkOrreries", name := "faulty", desc := "()LClockworkOrreries$Reader;" } : Jvm.MethodName)) ∈ lw_tbl := lw_at lw_m7 58 rfl
theorem q1573 : (Jvm.Cond.instanceMethod ({ cls := "ClockworkOrreries", name := "faulty", desc := "()LClockworkOrreries$Reader;" } : Jvm.MethodName)) ∈ lw_all := lw_g (lw_at lw_m7 59 rfl) rfl
theorem q1574 : (Jvm.Cond.code ({ cls := "ClockworkOrreries", name := "faulty", desc := "()LClockworkOrreries$Reader;" } : Jvm.MethodName) prog_1_method_96_code (2 : Nat) (Option.some (Jvm.ClassFile.FieldType.object "ClockworkOrreries$Reader"))) ∈ lw_all := lw_g (lw_at lw_m7 60 rfl) rfl
theorem q1575 : (Jvm.Cond.classLink "ClockworkOrreries" (403 : Nat) "ClockworkOrreries$Reader") ∈ lw_all := lw_g (lw_at lw_m7 61 rfl) rfl
theorem q1577 : (Jvm.Cond.methodLinkNest "ClockworkOrreries" (405 : Nat) ({ cls := "ClockworkOrreries$Reader", name := "<init>", desc := "(LClockworkOrreries;)V" } : Jvm.MethodName) "ClockworkOrreries") ∈ lw_tbl := lw_at lw_m7 63 rfl
theorem q1582 : (Jvm.Cond.fieldLinkNest "ClockworkOrreries" (424 : Nat) "ClockworkOrreries$Reader" "trial" "LClockworkOrreries$Works;" "ClockworkOrreries") ∈ lw_tbl := lw_at lw_m7 68 rfl
theorem q1586 : (Jvm.Cond.fieldLinkNest "ClockworkOrreries" (415 : Nat) "ClockworkOrreries$Reader" "begins" "I" "ClockworkOrreries") ∈ lw_tbl := lw_at lw_m7 72 rfl
theorem q1588 : (Jvm.Cond.fieldLinkNest "ClockworkOrreries" (418 : Nat) "ClockworkOrreries$Reader" "reason" "I" "ClockworkOrreries") ∈ lw_tbl := lw_at lw_m7 74 rfl
theorem q1590 : (Jvm.Cond.fieldLinkNest "ClockworkOrreries" (421 : Nat) "ClockworkOrreries$Reader" "cause" "I" "ClockworkOrreries") ∈ lw_tbl := lw_at lw_m7 76 rfl
theorem q1592 : (Jvm.Cond.fieldLinkNest "ClockworkOrreries" (427 : Nat) "ClockworkOrreries$Reader" "many" "I" "ClockworkOrreries") ∈ lw_tbl := lw_at lw_m7 78 rfl
theorem q1611 : (Jvm.Cond.methodLink "ClockworkOrreries" (408 : Nat) ({ cls := "ClockworkOrreries$Reader", name := "isWell", desc := "()Z" } : Jvm.MethodName)) ∈ lw_all := lw_g (lw_at lw_m7 97 rfl) rfl
theorem q1705 : (Jvm.Cond.instanceMethod ({ cls := "ClockworkOrreries", name := "faultReason", desc := "()I" } : Jvm.MethodName)) ∈ lw_all := lw_g (lw_at lw_m7 191 rfl) rfl
theorem q1706 : (Jvm.Cond.selects "ClockworkOrreries" ({ cls := "ClockworkOrreries", name := "faultReason", desc := "()I" } : Jvm.MethodName) ({ cls := "ClockworkOrreries", name := "faultReason", desc := "()I" } : Jvm.MethodName)) ∈ lw_all := lw_g (lw_at lw_m7 192 rfl) rfl
theorem q1707 : (Jvm.Cond.code ({ cls := "ClockworkOrreries", name := "faultReason", desc := "()I" } : Jvm.MethodName) prog_1_method_98_code (1 : Nat) (Option.some Jvm.ClassFile.FieldType.int)) ∈ lw_all := lw_g (lw_at lw_m7 193 rfl) rfl
theorem q1712 : (Jvm.Cond.instanceMethod ({ cls := "ClockworkOrreries", name := "faultCause", desc := "()I" } : Jvm.MethodName)) ∈ lw_all := lw_g (lw_at lw_m7 198 rfl) rfl
theorem q1713 : (Jvm.Cond.selects "ClockworkOrreries" ({ cls := "ClockworkOrreries", name := "faultCause", desc := "()I" } : Jvm.MethodName) ({ cls := "ClockworkOrreries", name := "faultCause", desc := "()I" } : Jvm.MethodName)) ∈ lw_all := lw_g (lw_at lw_m7 199 rfl) rfl
theorem q1714 : (Jvm.Cond.code ({ cls := "ClockworkOrreries", name := "faultCause", desc := "()I" } : Jvm.MethodName) prog_1_method_99_code (1 : Nat) (Option.some Jvm.ClassFile.FieldType.int)) ∈ lw_all := lw_g (lw_at lw_m7 200 rfl) rfl
theorem q1719 : (Jvm.Cond.instanceMethod ({ cls := "ClockworkOrreries", name := "play", desc := "()I" } : Jvm.MethodName)) ∈ lw_all := lw_g (lw_at lw_m7 205 rfl) rfl
theorem q1720 : (Jvm.Cond.selects "ClockworkOrreries" ({ cls := "ClockworkOrreries", name := "play", desc := "()I" } : Jvm.MethodName) ({ cls := "ClockworkOrreries", name := "play", desc := "()I" } : Jvm.MethodName)) ∈ lw_all := lw_g (lw_at lw_m7 206 rfl) rfl
theorem q1721 : (Jvm.Cond.code ({ cls := "ClockworkOrreries", name := "play", desc := "()I" } : Jvm.MethodName) prog_1_method_100_code (2 : Nat) (Option.some Jvm.ClassFile.FieldType.int)) ∈ lw_all := lw_g (lw_at lw_m7 207 rfl) rfl
theorem q2342 : (Jvm.Cond.castable "ClockworkOrreries" "java/lang/Object") ∈ lw_tbl := lw_at lw_m10 108 rfl
theorem in_X1 : ∀ w ∈ wsX10, w ∈ lw_all := lw_in wsX10 [249, 251, 253, 255] (by decide +kernel) (by decide +kernel)

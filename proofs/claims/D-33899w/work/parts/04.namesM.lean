/-! ClockworkOrreriesModel -/
set_option maxRecDepth 100000
def RX3 : String := "ClockworkOrreriesModel"
def TX3 : u_T := fun k => match k with
  | 0 => ("ClockworkOrreriesModel", "s", "[I", true)
  | 1 => ("ClockworkOrreriesModel", "before", "[I", true)
  | 2 => ("ClockworkOrreriesModel", "kept", "[I", true)
  | 3 => ("ClockworkOrreriesModel", "isKept", "Z", false)
  | 4 => ("ClockworkOrreriesModel", "past", "[I", true)
  | 5 => ("ClockworkOrreriesModel", "known", "I", false)
  | 6 => ("ClockworkOrreriesModel", "text", "[I", true)
  | 7 => ("ClockworkOrreriesModel", "length", "I", false)
  | 8 => ("ClockworkOrreriesModel", "thrown", "I", false)
  | 9 => ("ClockworkOrreriesModel", "way", "[I", true)
  | 10 => ("ClockworkOrreriesModel", "above", "[J", true)
  | 11 => ("ClockworkOrreriesModel", "below", "[J", true)
  | 12 => ("ClockworkOrreriesModel", "row", "[I", true)
  | 13 => ("ClockworkOrreriesModel", "rowLength", "I", false)
  | 14 => ("ClockworkOrreriesModel", "differA", "J", false)
  | 15 => ("ClockworkOrreriesModel", "differB", "J", false)
  | 16 => ("ClockworkOrreriesModel", "year", "I", false)
  | 17 => ("ClockworkOrreriesModel", "month", "I", false)
  | 18 => ("ClockworkOrreriesModel", "dayInMonth", "I", false)
  | 19 => ("ClockworkOrreriesModel", "dayInYear", "I", false)
  | 20 => ("ClockworkOrreriesModel", "spot", "I", false)
  | 21 => ("ClockworkOrreriesModel", "begin", "I", false)
  | 22 => ("ClockworkOrreriesModel", "isForm", "Z", false)
  | 23 => ("ClockworkOrreriesModel", "letter", "I", false)
  | 24 => ("ClockworkOrreriesModel", "first", "I", false)
  | 25 => ("ClockworkOrreriesModel", "second", "I", false)
  | 26 => ("ClockworkOrreriesModel", "reason", "I", false)
  | _ => ("ClockworkOrreriesModel", "cause", "I", false)
def tyX3 : Nat → FieldType := fun k => match k with
  | 0 => .array .int
  | 1 => .array .int
  | 2 => .array .int
  | 3 => .boolean
  | 4 => .array .int
  | 5 => .int
  | 6 => .array .int
  | 7 => .int
  | 8 => .int
  | 9 => .array .int
  | 10 => .array .long
  | 11 => .array .long
  | 12 => .array .int
  | 13 => .int
  | 14 => .long
  | 15 => .long
  | 16 => .int
  | 17 => .int
  | 18 => .int
  | 19 => .int
  | 20 => .int
  | 21 => .int
  | 22 => .boolean
  | 23 => .int
  | 24 => .int
  | 25 => .int
  | 26 => .int
  | _ => .int
abbrev wsX30 : List Cond := u_ws RX3 TX3 28
set_option maxRecDepth 100000 in
theorem nmX3 : ∀ a, a < 28 → ∀ b, b < 28 → a ≠ b → (TX3 a).2.1 ≠ (TX3 b).2.1 := by decide +kernel
set_option maxRecDepth 100000 in
theorem tyX3_ok : ∀ k, k < 28 → parseFieldDescriptor (TX3 k).2.2.1 = some (tyX3 k) := by decide +kernel
abbrev cX3_init : ByteArray := prog_10_method_1_code
def yX3_init : MethodName := ⟨RX3, "<init>", "()V"⟩
def dkwX3_init_3 : List UInt8 := [16, 12, 188, 10, 181, 0, 35, 42, 180, 0, 7, 3, 4, 79, 177]
abbrev dktX3_init_3 : List UInt8 := dkwX3_init_3 ++ []
def dkwX3_init_2 : List UInt8 := [16, 12, 188, 10, 181, 0, 25, 42, 16, 12, 188, 11, 181, 0, 28, 42, 16, 12, 188, 11, 181, 0, 32, 42]
abbrev dktX3_init_2 : List UInt8 := dkwX3_init_2 ++ dktX3_init_3
def dkwX3_init_1 : List UInt8 := [188, 10, 181, 0, 16, 42, 17, 1, 196, 188, 10, 181, 0, 19, 42, 16, 60, 188, 10, 181, 0, 22, 42]
abbrev dktX3_init_1 : List UInt8 := dkwX3_init_1 ++ dktX3_init_2
def dkwX3_init_0 : List UInt8 := [42, 183, 0, 1, 42, 16, 113, 188, 10, 181, 0, 7, 42, 16, 113, 188, 10, 181, 0, 13, 42, 16, 113]
abbrev dktX3_init_0 : List UInt8 := dkwX3_init_0 ++ dktX3_init_1
theorem dksX3_init_0 : cX3_init.data.toList.drop 0 = dktX3_init_0 := by decide +kernel
theorem dksX3_init_1 : cX3_init.data.toList.drop 23 = dktX3_init_1 := dk_seg dksX3_init_0 23 rfl rfl
theorem dksX3_init_2 : cX3_init.data.toList.drop 46 = dktX3_init_2 := dk_seg dksX3_init_1 23 rfl rfl
theorem dksX3_init_3 : cX3_init.data.toList.drop 70 = dktX3_init_3 := dk_seg dksX3_init_2 24 rfl rfl
theorem dX3_init_0 : decode cX3_init 0 = .ok (.aload_n 0, 1) := dk_42 (dk_at dksX3_init_0 0 rfl rfl)
theorem dX3_init_1 : decode cX3_init 1 = .ok (.invokespecial 1, 3) := dk_183 0 1 (dk_at dksX3_init_0 1 rfl rfl)
theorem dX3_init_4 : decode cX3_init 4 = .ok (.aload_n 0, 1) := dk_42 (dk_at dksX3_init_0 4 rfl rfl)
theorem dX3_init_5 : decode cX3_init 5 = .ok (.bipush 113, 2) := dk_16 113 (dk_at dksX3_init_0 5 rfl rfl)
theorem dX3_init_7 : decode cX3_init 7 = .ok (.newarray .int, 2) := dk_188_10 (dk_at dksX3_init_0 7 rfl rfl)
theorem dX3_init_9 : decode cX3_init 9 = .ok (.putfield 7, 3) := dk_181 0 7 (dk_at dksX3_init_0 9 rfl rfl)
theorem dX3_init_12 : decode cX3_init 12 = .ok (.aload_n 0, 1) := dk_42 (dk_at dksX3_init_0 12 rfl rfl)
theorem dX3_init_13 : decode cX3_init 13 = .ok (.bipush 113, 2) := dk_16 113 (dk_at dksX3_init_0 13 rfl rfl)
theorem dX3_init_15 : decode cX3_init 15 = .ok (.newarray .int, 2) := dk_188_10 (dk_at dksX3_init_0 15 rfl rfl)
theorem dX3_init_17 : decode cX3_init 17 = .ok (.putfield 13, 3) := dk_181 0 13 (dk_at dksX3_init_0 17 rfl rfl)
theorem dX3_init_20 : decode cX3_init 20 = .ok (.aload_n 0, 1) := dk_42 (dk_at dksX3_init_0 20 rfl rfl)
theorem dX3_init_21 : decode cX3_init 21 = .ok (.bipush 113, 2) := dk_16 113 (dk_at dksX3_init_0 21 rfl rfl)
theorem dX3_init_23 : decode cX3_init 23 = .ok (.newarray .int, 2) := dk_188_10 (dk_at dksX3_init_1 0 rfl rfl)
theorem dX3_init_25 : decode cX3_init 25 = .ok (.putfield 16, 3) := dk_181 0 16 (dk_at dksX3_init_1 2 rfl rfl)
theorem dX3_init_28 : decode cX3_init 28 = .ok (.aload_n 0, 1) := dk_42 (dk_at dksX3_init_1 5 rfl rfl)
theorem dX3_init_29 : decode cX3_init 29 = .ok (.sipush 452, 3) := dk_17 1 196 (dk_at dksX3_init_1 6 rfl rfl)
theorem dX3_init_32 : decode cX3_init 32 = .ok (.newarray .int, 2) := dk_188_10 (dk_at dksX3_init_1 9 rfl rfl)
theorem dX3_init_34 : decode cX3_init 34 = .ok (.putfield 19, 3) := dk_181 0 19 (dk_at dksX3_init_1 11 rfl rfl)
theorem dX3_init_37 : decode cX3_init 37 = .ok (.aload_n 0, 1) := dk_42 (dk_at dksX3_init_1 14 rfl rfl)
theorem dX3_init_38 : decode cX3_init 38 = .ok (.bipush 60, 2) := dk_16 60 (dk_at dksX3_init_1 15 rfl rfl)
theorem dX3_init_40 : decode cX3_init 40 = .ok (.newarray .int, 2) := dk_188_10 (dk_at dksX3_init_1 17 rfl rfl)
theorem dX3_init_42 : decode cX3_init 42 = .ok (.putfield 22, 3) := dk_181 0 22 (dk_at dksX3_init_1 19 rfl rfl)
theorem dX3_init_45 : decode cX3_init 45 = .ok (.aload_n 0, 1) := dk_42 (dk_at dksX3_init_1 22 rfl rfl)
theorem dX3_init_46 : decode cX3_init 46 = .ok (.bipush 12, 2) := dk_16 12 (dk_at dksX3_init_2 0 rfl rfl)
theorem dX3_init_48 : decode cX3_init 48 = .ok (.newarray .int, 2) := dk_188_10 (dk_at dksX3_init_2 2 rfl rfl)
theorem dX3_init_50 : decode cX3_init 50 = .ok (.putfield 25, 3) := dk_181 0 25 (dk_at dksX3_init_2 4 rfl rfl)
theorem dX3_init_53 : decode cX3_init 53 = .ok (.aload_n 0, 1) := dk_42 (dk_at dksX3_init_2 7 rfl rfl)
theorem dX3_init_54 : decode cX3_init 54 = .ok (.bipush 12, 2) := dk_16 12 (dk_at dksX3_init_2 8 rfl rfl)
theorem dX3_init_56 : decode cX3_init 56 = .ok (.newarray .long, 2) := dk_188_11 (dk_at dksX3_init_2 10 rfl rfl)
theorem dX3_init_58 : decode cX3_init 58 = .ok (.putfield 28, 3) := dk_181 0 28 (dk_at dksX3_init_2 12 rfl rfl)
theorem dX3_init_61 : decode cX3_init 61 = .ok (.aload_n 0, 1) := dk_42 (dk_at dksX3_init_2 15 rfl rfl)
theorem dX3_init_62 : decode cX3_init 62 = .ok (.bipush 12, 2) := dk_16 12 (dk_at dksX3_init_2 16 rfl rfl)
theorem dX3_init_64 : decode cX3_init 64 = .ok (.newarray .long, 2) := dk_188_11 (dk_at dksX3_init_2 18 rfl rfl)
theorem dX3_init_66 : decode cX3_init 66 = .ok (.putfield 32, 3) := dk_181 0 32 (dk_at dksX3_init_2 20 rfl rfl)
theorem dX3_init_69 : decode cX3_init 69 = .ok (.aload_n 0, 1) := dk_42 (dk_at dksX3_init_2 23 rfl rfl)
theorem dX3_init_70 : decode cX3_init 70 = .ok (.bipush 12, 2) := dk_16 12 (dk_at dksX3_init_3 0 rfl rfl)
theorem dX3_init_72 : decode cX3_init 72 = .ok (.newarray .int, 2) := dk_188_10 (dk_at dksX3_init_3 2 rfl rfl)
theorem dX3_init_74 : decode cX3_init 74 = .ok (.putfield 35, 3) := dk_181 0 35 (dk_at dksX3_init_3 4 rfl rfl)
theorem dX3_init_77 : decode cX3_init 77 = .ok (.aload_n 0, 1) := dk_42 (dk_at dksX3_init_3 7 rfl rfl)
theorem dX3_init_78 : decode cX3_init 78 = .ok (.getfield 7, 3) := dk_180 0 7 (dk_at dksX3_init_3 8 rfl rfl)
theorem dX3_init_81 : decode cX3_init 81 = .ok (.iconst 0, 1) := dk_3 (dk_at dksX3_init_3 11 rfl rfl)
theorem dX3_init_82 : decode cX3_init 82 = .ok (.iconst 1, 1) := dk_4 (dk_at dksX3_init_3 12 rfl rfl)
theorem dX3_init_83 : decode cX3_init 83 = .ok (.iastore, 1) := dk_79 (dk_at dksX3_init_3 13 rfl rfl)
theorem dX3_init_84 : decode cX3_init 84 = .ok (.return_, 1) := dk_177 (dk_at dksX3_init_3 14 rfl rfl)
abbrev cX3_thrown : ByteArray := prog_10_method_2_code
def yX3_thrown : MethodName := ⟨RX3, "thrown", "()I"⟩
theorem dX3_thrown_0 : decode cX3_thrown 0 = .ok (.aload_n 0, 1) := by decide +kernel
theorem dX3_thrown_1 : decode cX3_thrown 1 = .ok (.getfield 38, 3) := by decide +kernel
theorem dX3_thrown_4 : decode cX3_thrown 4 = .ok (.ireturn, 1) := by decide +kernel
abbrev cX3_addAxle : ByteArray := prog_10_method_32_code
def yX3_addAxle : MethodName := ⟨RX3, "addAxle", "()I"⟩
def dkwX3_addAxle_1 : List UInt8 := [167, 0, 4, 3, 181, 0, 38, 27, 172]
abbrev dktX3_addAxle_1 : List UInt8 := dkwX3_addAxle_1 ++ []
def dkwX3_addAxle_0 : List UInt8 := [42, 182, 0, 113, 42, 42, 182, 0, 116, 182, 0, 119, 60, 42, 42, 180, 0, 38, 158, 0, 7, 4]
abbrev dktX3_addAxle_0 : List UInt8 := dkwX3_addAxle_0 ++ dktX3_addAxle_1
theorem dksX3_addAxle_0 : cX3_addAxle.data.toList.drop 0 = dktX3_addAxle_0 := by decide +kernel
theorem dksX3_addAxle_1 : cX3_addAxle.data.toList.drop 22 = dktX3_addAxle_1 := dk_seg dksX3_addAxle_0 22 rfl rfl
theorem dX3_addAxle_0 : decode cX3_addAxle 0 = .ok (.aload_n 0, 1) := dk_42 (dk_at dksX3_addAxle_0 0 rfl rfl)
theorem dX3_addAxle_1 : decode cX3_addAxle 1 = .ok (.invokevirtual 113, 3) := dk_182 0 113 (dk_at dksX3_addAxle_0 1 rfl rfl)
theorem dX3_addAxle_4 : decode cX3_addAxle 4 = .ok (.aload_n 0, 1) := dk_42 (dk_at dksX3_addAxle_0 4 rfl rfl)
theorem dX3_addAxle_5 : decode cX3_addAxle 5 = .ok (.aload_n 0, 1) := dk_42 (dk_at dksX3_addAxle_0 5 rfl rfl)
theorem dX3_addAxle_6 : decode cX3_addAxle 6 = .ok (.invokevirtual 116, 3) := dk_182 0 116 (dk_at dksX3_addAxle_0 6 rfl rfl)
theorem dX3_addAxle_9 : decode cX3_addAxle 9 = .ok (.invokevirtual 119, 3) := dk_182 0 119 (dk_at dksX3_addAxle_0 9 rfl rfl)
theorem dX3_addAxle_12 : decode cX3_addAxle 12 = .ok (.istore_n 1, 1) := dk_60 (dk_at dksX3_addAxle_0 12 rfl rfl)
theorem dX3_addAxle_13 : decode cX3_addAxle 13 = .ok (.aload_n 0, 1) := dk_42 (dk_at dksX3_addAxle_0 13 rfl rfl)
theorem dX3_addAxle_14 : decode cX3_addAxle 14 = .ok (.aload_n 0, 1) := dk_42 (dk_at dksX3_addAxle_0 14 rfl rfl)
theorem dX3_addAxle_15 : decode cX3_addAxle 15 = .ok (.getfield 38, 3) := dk_180 0 38 (dk_at dksX3_addAxle_0 15 rfl rfl)
theorem dX3_addAxle_18 : decode cX3_addAxle 18 = .ok (.ifCond .le 7, 3) := dk_158 0 7 (dk_at dksX3_addAxle_0 18 rfl rfl)
theorem dX3_addAxle_21 : decode cX3_addAxle 21 = .ok (.iconst 1, 1) := dk_4 (dk_at dksX3_addAxle_0 21 rfl rfl)
theorem dX3_addAxle_22 : decode cX3_addAxle 22 = .ok (.goto 4, 3) := dk_167 0 4 (dk_at dksX3_addAxle_1 0 rfl rfl)
theorem dX3_addAxle_25 : decode cX3_addAxle 25 = .ok (.iconst 0, 1) := dk_3 (dk_at dksX3_addAxle_1 3 rfl rfl)
theorem dX3_addAxle_26 : decode cX3_addAxle 26 = .ok (.putfield 38, 3) := dk_181 0 38 (dk_at dksX3_addAxle_1 4 rfl rfl)
theorem dX3_addAxle_29 : decode cX3_addAxle 29 = .ok (.iload_n 1, 1) := dk_27 (dk_at dksX3_addAxle_1 7 rfl rfl)
theorem dX3_addAxle_30 : decode cX3_addAxle 30 = .ok (.ireturn, 1) := dk_172 (dk_at dksX3_addAxle_1 8 rfl rfl)
abbrev cX3_begins : ByteArray := prog_10_method_7_code
def yX3_begins : MethodName := ⟨RX3, "begins", "()V"⟩
def dkwX3_begins_0 : List UInt8 := [42, 3, 181, 0, 38, 42, 180, 0, 7, 3, 42, 180, 0, 13, 3, 184, 0, 42, 177]
abbrev dktX3_begins_0 : List UInt8 := dkwX3_begins_0 ++ []
theorem dksX3_begins_0 : cX3_begins.data.toList.drop 0 = dktX3_begins_0 := by decide +kernel
theorem dX3_begins_0 : decode cX3_begins 0 = .ok (.aload_n 0, 1) := dk_42 (dk_at dksX3_begins_0 0 rfl rfl)
theorem dX3_begins_1 : decode cX3_begins 1 = .ok (.iconst 0, 1) := dk_3 (dk_at dksX3_begins_0 1 rfl rfl)
theorem dX3_begins_2 : decode cX3_begins 2 = .ok (.putfield 38, 3) := dk_181 0 38 (dk_at dksX3_begins_0 2 rfl rfl)
theorem dX3_begins_5 : decode cX3_begins 5 = .ok (.aload_n 0, 1) := dk_42 (dk_at dksX3_begins_0 5 rfl rfl)
theorem dX3_begins_6 : decode cX3_begins 6 = .ok (.getfield 7, 3) := dk_180 0 7 (dk_at dksX3_begins_0 6 rfl rfl)
theorem dX3_begins_9 : decode cX3_begins 9 = .ok (.iconst 0, 1) := dk_3 (dk_at dksX3_begins_0 9 rfl rfl)
theorem dX3_begins_10 : decode cX3_begins 10 = .ok (.aload_n 0, 1) := dk_42 (dk_at dksX3_begins_0 10 rfl rfl)
theorem dX3_begins_11 : decode cX3_begins 11 = .ok (.getfield 13, 3) := dk_180 0 13 (dk_at dksX3_begins_0 11 rfl rfl)
theorem dX3_begins_14 : decode cX3_begins 14 = .ok (.iconst 0, 1) := dk_3 (dk_at dksX3_begins_0 14 rfl rfl)
theorem dX3_begins_15 : decode cX3_begins 15 = .ok (.invokestatic 42, 3) := dk_184 0 42 (dk_at dksX3_begins_0 15 rfl rfl)
theorem dX3_begins_18 : decode cX3_begins 18 = .ok (.return_, 1) := dk_177 (dk_at dksX3_begins_0 18 rfl rfl)
abbrev cX3_copies : ByteArray := prog_10_method_6_code
def yX3_copies : MethodName := ⟨RX3, "copies", "([II[II)V"⟩
def dkwX3_copies_1 : List UInt8 := [132, 4, 1, 167, 255, 234, 177]
abbrev dktX3_copies_1 : List UInt8 := dkwX3_copies_1 ++ []
def dkwX3_copies_0 : List UInt8 := [3, 54, 4, 21, 4, 16, 113, 162, 0, 21, 44, 29, 21, 4, 96, 42, 27, 21, 4, 96, 46, 79]
abbrev dktX3_copies_0 : List UInt8 := dkwX3_copies_0 ++ dktX3_copies_1
theorem dksX3_copies_0 : cX3_copies.data.toList.drop 0 = dktX3_copies_0 := by decide +kernel
theorem dksX3_copies_1 : cX3_copies.data.toList.drop 22 = dktX3_copies_1 := dk_seg dksX3_copies_0 22 rfl rfl
theorem dX3_copies_0 : decode cX3_copies 0 = .ok (.iconst 0, 1) := dk_3 (dk_at dksX3_copies_0 0 rfl rfl)
theorem dX3_copies_1 : decode cX3_copies 1 = .ok (.istore 4, 2) := dk_54 4 (dk_at dksX3_copies_0 1 rfl rfl)
theorem dX3_copies_3 : decode cX3_copies 3 = .ok (.iload 4, 2) := dk_21 4 (dk_at dksX3_copies_0 3 rfl rfl)
theorem dX3_copies_5 : decode cX3_copies 5 = .ok (.bipush 113, 2) := dk_16 113 (dk_at dksX3_copies_0 5 rfl rfl)
theorem dX3_copies_7 : decode cX3_copies 7 = .ok (.if_icmp .ge 21, 3) := dk_162 0 21 (dk_at dksX3_copies_0 7 rfl rfl)
theorem dX3_copies_10 : decode cX3_copies 10 = .ok (.aload_n 2, 1) := dk_44 (dk_at dksX3_copies_0 10 rfl rfl)
theorem dX3_copies_11 : decode cX3_copies 11 = .ok (.iload_n 3, 1) := dk_29 (dk_at dksX3_copies_0 11 rfl rfl)
theorem dX3_copies_12 : decode cX3_copies 12 = .ok (.iload 4, 2) := dk_21 4 (dk_at dksX3_copies_0 12 rfl rfl)
theorem dX3_copies_14 : decode cX3_copies 14 = .ok (.iadd, 1) := dk_96 (dk_at dksX3_copies_0 14 rfl rfl)
theorem dX3_copies_15 : decode cX3_copies 15 = .ok (.aload_n 0, 1) := dk_42 (dk_at dksX3_copies_0 15 rfl rfl)
theorem dX3_copies_16 : decode cX3_copies 16 = .ok (.iload_n 1, 1) := dk_27 (dk_at dksX3_copies_0 16 rfl rfl)
theorem dX3_copies_17 : decode cX3_copies 17 = .ok (.iload 4, 2) := dk_21 4 (dk_at dksX3_copies_0 17 rfl rfl)
theorem dX3_copies_19 : decode cX3_copies 19 = .ok (.iadd, 1) := dk_96 (dk_at dksX3_copies_0 19 rfl rfl)
theorem dX3_copies_20 : decode cX3_copies 20 = .ok (.iaload, 1) := dk_46 (dk_at dksX3_copies_0 20 rfl rfl)
theorem dX3_copies_21 : decode cX3_copies 21 = .ok (.iastore, 1) := dk_79 (dk_at dksX3_copies_0 21 rfl rfl)
theorem dX3_copies_22 : decode cX3_copies 22 = .ok (.iinc 4 1, 3) := dk_132 4 1 (dk_at dksX3_copies_1 0 rfl rfl)
theorem dX3_copies_25 : decode cX3_copies 25 = .ok (.goto (-22), 3) := dk_167 255 234 (dk_at dksX3_copies_1 3 rfl rfl)
theorem dX3_copies_28 : decode cX3_copies 28 = .ok (.return_, 1) := dk_177 (dk_at dksX3_copies_1 6 rfl rfl)
abbrev cX3_goAxle : ByteArray := prog_10_method_23_code
def yX3_goAxle : MethodName := ⟨RX3, "goAxle", "()I"⟩
def dkwX3_goAxle_1 : List UInt8 := [42, 180, 0, 7, 3, 46, 4, 100, 172]
abbrev dktX3_goAxle_1 : List UInt8 := dkwX3_goAxle_1 ++ []
def dkwX3_goAxle_0 : List UInt8 := [42, 180, 0, 7, 3, 46, 16, 12, 160, 0, 6, 18, 50, 172, 42, 180, 0, 7, 3, 92, 46, 4, 96, 79]
abbrev dktX3_goAxle_0 : List UInt8 := dkwX3_goAxle_0 ++ dktX3_goAxle_1
theorem dksX3_goAxle_0 : cX3_goAxle.data.toList.drop 0 = dktX3_goAxle_0 := by decide +kernel
theorem dksX3_goAxle_1 : cX3_goAxle.data.toList.drop 24 = dktX3_goAxle_1 := dk_seg dksX3_goAxle_0 24 rfl rfl
theorem dX3_goAxle_0 : decode cX3_goAxle 0 = .ok (.aload_n 0, 1) := dk_42 (dk_at dksX3_goAxle_0 0 rfl rfl)
theorem dX3_goAxle_1 : decode cX3_goAxle 1 = .ok (.getfield 7, 3) := dk_180 0 7 (dk_at dksX3_goAxle_0 1 rfl rfl)
theorem dX3_goAxle_4 : decode cX3_goAxle 4 = .ok (.iconst 0, 1) := dk_3 (dk_at dksX3_goAxle_0 4 rfl rfl)
theorem dX3_goAxle_5 : decode cX3_goAxle 5 = .ok (.iaload, 1) := dk_46 (dk_at dksX3_goAxle_0 5 rfl rfl)
theorem dX3_goAxle_6 : decode cX3_goAxle 6 = .ok (.bipush 12, 2) := dk_16 12 (dk_at dksX3_goAxle_0 6 rfl rfl)
theorem dX3_goAxle_8 : decode cX3_goAxle 8 = .ok (.if_icmp .ne 6, 3) := dk_160 0 6 (dk_at dksX3_goAxle_0 8 rfl rfl)
theorem dX3_goAxle_11 : decode cX3_goAxle 11 = .ok (.ldc 50, 2) := dk_18 50 (dk_at dksX3_goAxle_0 11 rfl rfl)
theorem dX3_goAxle_13 : decode cX3_goAxle 13 = .ok (.ireturn, 1) := dk_172 (dk_at dksX3_goAxle_0 13 rfl rfl)
theorem dX3_goAxle_14 : decode cX3_goAxle 14 = .ok (.aload_n 0, 1) := dk_42 (dk_at dksX3_goAxle_0 14 rfl rfl)
theorem dX3_goAxle_15 : decode cX3_goAxle 15 = .ok (.getfield 7, 3) := dk_180 0 7 (dk_at dksX3_goAxle_0 15 rfl rfl)
theorem dX3_goAxle_18 : decode cX3_goAxle 18 = .ok (.iconst 0, 1) := dk_3 (dk_at dksX3_goAxle_0 18 rfl rfl)
theorem dX3_goAxle_19 : decode cX3_goAxle 19 = .ok (.dup2, 1) := dk_92 (dk_at dksX3_goAxle_0 19 rfl rfl)
theorem dX3_goAxle_20 : decode cX3_goAxle 20 = .ok (.iaload, 1) := dk_46 (dk_at dksX3_goAxle_0 20 rfl rfl)
theorem dX3_goAxle_21 : decode cX3_goAxle 21 = .ok (.iconst 1, 1) := dk_4 (dk_at dksX3_goAxle_0 21 rfl rfl)
theorem dX3_goAxle_22 : decode cX3_goAxle 22 = .ok (.iadd, 1) := dk_96 (dk_at dksX3_goAxle_0 22 rfl rfl)
theorem dX3_goAxle_23 : decode cX3_goAxle 23 = .ok (.iastore, 1) := dk_79 (dk_at dksX3_goAxle_0 23 rfl rfl)
theorem dX3_goAxle_24 : decode cX3_goAxle 24 = .ok (.aload_n 0, 1) := dk_42 (dk_at dksX3_goAxle_1 0 rfl rfl)
theorem dX3_goAxle_25 : decode cX3_goAxle 25 = .ok (.getfield 7, 3) := dk_180 0 7 (dk_at dksX3_goAxle_1 1 rfl rfl)
theorem dX3_goAxle_28 : decode cX3_goAxle 28 = .ok (.iconst 0, 1) := dk_3 (dk_at dksX3_goAxle_1 4 rfl rfl)
theorem dX3_goAxle_29 : decode cX3_goAxle 29 = .ok (.iaload, 1) := dk_46 (dk_at dksX3_goAxle_1 5 rfl rfl)
theorem dX3_goAxle_30 : decode cX3_goAxle 30 = .ok (.iconst 1, 1) := dk_4 (dk_at dksX3_goAxle_1 6 rfl rfl)
theorem dX3_goAxle_31 : decode cX3_goAxle 31 = .ok (.isub, 1) := dk_100 (dk_at dksX3_goAxle_1 7 rfl rfl)
theorem dX3_goAxle_32 : decode cX3_goAxle 32 = .ok (.ireturn, 1) := dk_172 (dk_at dksX3_goAxle_1 8 rfl rfl)
abbrev cX3_ends : ByteArray := prog_10_method_9_code
def yX3_ends : MethodName := ⟨RX3, "ends", "(I)I"⟩
def dkwX3_ends_2 : List UInt8 := [172]
abbrev dktX3_ends_2 : List UInt8 := dkwX3_ends_2 ++ []
def dkwX3_ends_1 : List UInt8 := [184, 0, 42, 42, 27, 18, 49, 160, 0, 7, 4, 167, 0, 4, 5, 182, 0, 51, 172, 42, 182, 0, 55, 27]
abbrev dktX3_ends_1 : List UInt8 := dkwX3_ends_1 ++ dktX3_ends_2
def dkwX3_ends_0 : List UInt8 := [27, 18, 49, 159, 0, 9, 27, 18, 50, 160, 0, 32, 42, 180, 0, 13, 3, 42, 180, 0, 7, 3]
abbrev dktX3_ends_0 : List UInt8 := dkwX3_ends_0 ++ dktX3_ends_1
theorem dksX3_ends_0 : cX3_ends.data.toList.drop 0 = dktX3_ends_0 := by decide +kernel
theorem dksX3_ends_1 : cX3_ends.data.toList.drop 22 = dktX3_ends_1 := dk_seg dksX3_ends_0 22 rfl rfl
theorem dksX3_ends_2 : cX3_ends.data.toList.drop 46 = dktX3_ends_2 := dk_seg dksX3_ends_1 24 rfl rfl
theorem dX3_ends_0 : decode cX3_ends 0 = .ok (.iload_n 1, 1) := dk_27 (dk_at dksX3_ends_0 0 rfl rfl)
theorem dX3_ends_1 : decode cX3_ends 1 = .ok (.ldc 49, 2) := dk_18 49 (dk_at dksX3_ends_0 1 rfl rfl)
theorem dX3_ends_3 : decode cX3_ends 3 = .ok (.if_icmp .eq 9, 3) := dk_159 0 9 (dk_at dksX3_ends_0 3 rfl rfl)
theorem dX3_ends_6 : decode cX3_ends 6 = .ok (.iload_n 1, 1) := dk_27 (dk_at dksX3_ends_0 6 rfl rfl)
theorem dX3_ends_7 : decode cX3_ends 7 = .ok (.ldc 50, 2) := dk_18 50 (dk_at dksX3_ends_0 7 rfl rfl)
theorem dX3_ends_9 : decode cX3_ends 9 = .ok (.if_icmp .ne 32, 3) := dk_160 0 32 (dk_at dksX3_ends_0 9 rfl rfl)
theorem dX3_ends_12 : decode cX3_ends 12 = .ok (.aload_n 0, 1) := dk_42 (dk_at dksX3_ends_0 12 rfl rfl)
theorem dX3_ends_13 : decode cX3_ends 13 = .ok (.getfield 13, 3) := dk_180 0 13 (dk_at dksX3_ends_0 13 rfl rfl)
theorem dX3_ends_16 : decode cX3_ends 16 = .ok (.iconst 0, 1) := dk_3 (dk_at dksX3_ends_0 16 rfl rfl)
theorem dX3_ends_17 : decode cX3_ends 17 = .ok (.aload_n 0, 1) := dk_42 (dk_at dksX3_ends_0 17 rfl rfl)
theorem dX3_ends_18 : decode cX3_ends 18 = .ok (.getfield 7, 3) := dk_180 0 7 (dk_at dksX3_ends_0 18 rfl rfl)
theorem dX3_ends_21 : decode cX3_ends 21 = .ok (.iconst 0, 1) := dk_3 (dk_at dksX3_ends_0 21 rfl rfl)
theorem dX3_ends_22 : decode cX3_ends 22 = .ok (.invokestatic 42, 3) := dk_184 0 42 (dk_at dksX3_ends_1 0 rfl rfl)
theorem dX3_ends_25 : decode cX3_ends 25 = .ok (.aload_n 0, 1) := dk_42 (dk_at dksX3_ends_1 3 rfl rfl)
theorem dX3_ends_26 : decode cX3_ends 26 = .ok (.iload_n 1, 1) := dk_27 (dk_at dksX3_ends_1 4 rfl rfl)
theorem dX3_ends_27 : decode cX3_ends 27 = .ok (.ldc 49, 2) := dk_18 49 (dk_at dksX3_ends_1 5 rfl rfl)
theorem dX3_ends_29 : decode cX3_ends 29 = .ok (.if_icmp .ne 7, 3) := dk_160 0 7 (dk_at dksX3_ends_1 7 rfl rfl)
theorem dX3_ends_32 : decode cX3_ends 32 = .ok (.iconst 1, 1) := dk_4 (dk_at dksX3_ends_1 10 rfl rfl)
theorem dX3_ends_33 : decode cX3_ends 33 = .ok (.goto 4, 3) := dk_167 0 4 (dk_at dksX3_ends_1 11 rfl rfl)
theorem dX3_ends_36 : decode cX3_ends 36 = .ok (.iconst 2, 1) := dk_5 (dk_at dksX3_ends_1 14 rfl rfl)
theorem dX3_ends_37 : decode cX3_ends 37 = .ok (.invokevirtual 51, 3) := dk_182 0 51 (dk_at dksX3_ends_1 15 rfl rfl)
theorem dX3_ends_40 : decode cX3_ends 40 = .ok (.ireturn, 1) := dk_172 (dk_at dksX3_ends_1 18 rfl rfl)
theorem dX3_ends_41 : decode cX3_ends 41 = .ok (.aload_n 0, 1) := dk_42 (dk_at dksX3_ends_1 19 rfl rfl)
theorem dX3_ends_42 : decode cX3_ends 42 = .ok (.invokevirtual 55, 3) := dk_182 0 55 (dk_at dksX3_ends_1 20 rfl rfl)
theorem dX3_ends_45 : decode cX3_ends 45 = .ok (.iload_n 1, 1) := dk_27 (dk_at dksX3_ends_1 23 rfl rfl)
theorem dX3_ends_46 : decode cX3_ends 46 = .ok (.ireturn, 1) := dk_172 (dk_at dksX3_ends_2 0 rfl rfl)
abbrev cX3_fails : ByteArray := prog_10_method_3_code
def yX3_fails : MethodName := ⟨RX3, "fails", "(I)I"⟩
def dkwX3_fails_0 : List UInt8 := [42, 27, 181, 0, 38, 3, 172]
abbrev dktX3_fails_0 : List UInt8 := dkwX3_fails_0 ++ []
theorem dksX3_fails_0 : cX3_fails.data.toList.drop 0 = dktX3_fails_0 := by decide +kernel
theorem dX3_fails_0 : decode cX3_fails 0 = .ok (.aload_n 0, 1) := dk_42 (dk_at dksX3_fails_0 0 rfl rfl)
theorem dX3_fails_1 : decode cX3_fails 1 = .ok (.iload_n 1, 1) := dk_27 (dk_at dksX3_fails_0 1 rfl rfl)
theorem dX3_fails_2 : decode cX3_fails 2 = .ok (.putfield 38, 3) := dk_181 0 38 (dk_at dksX3_fails_0 2 rfl rfl)
theorem dX3_fails_5 : decode cX3_fails 5 = .ok (.iconst 0, 1) := dk_3 (dk_at dksX3_fails_0 5 rfl rfl)
theorem dX3_fails_6 : decode cX3_fails 6 = .ok (.ireturn, 1) := dk_172 (dk_at dksX3_fails_0 6 rfl rfl)
abbrev cX3_records : ByteArray := prog_10_method_8_code
def yX3_records : MethodName := ⟨RX3, "records", "()V"⟩
def dkwX3_records_3 : List UInt8 := [180, 0, 46, 4, 96, 181, 0, 46, 177]
abbrev dktX3_records_3 : List UInt8 := dkwX3_records_3 ++ []
def dkwX3_records_2 : List UInt8 := [181, 0, 46, 42, 180, 0, 13, 3, 42, 180, 0, 19, 16, 113, 42, 180, 0, 46, 104, 184, 0, 42, 42, 89]
abbrev dktX3_records_2 : List UInt8 := dkwX3_records_2 ++ dktX3_records_3
def dkwX3_records_1 : List UInt8 := [180, 0, 19, 27, 16, 113, 96, 46, 79, 132, 1, 1, 167, 255, 231, 42, 89, 180, 0, 46, 4, 100]
abbrev dktX3_records_1 : List UInt8 := dkwX3_records_1 ++ dktX3_records_2
def dkwX3_records_0 : List UInt8 := [42, 180, 0, 46, 7, 160, 0, 43, 3, 60, 27, 17, 1, 83, 162, 0, 24, 42, 180, 0, 19, 27, 42]
abbrev dktX3_records_0 : List UInt8 := dkwX3_records_0 ++ dktX3_records_1
theorem dksX3_records_0 : cX3_records.data.toList.drop 0 = dktX3_records_0 := by decide +kernel
theorem dksX3_records_1 : cX3_records.data.toList.drop 23 = dktX3_records_1 := dk_seg dksX3_records_0 23 rfl rfl
theorem dksX3_records_2 : cX3_records.data.toList.drop 45 = dktX3_records_2 := dk_seg dksX3_records_1 22 rfl rfl
theorem dksX3_records_3 : cX3_records.data.toList.drop 69 = dktX3_records_3 := dk_seg dksX3_records_2 24 rfl rfl
theorem dX3_records_0 : decode cX3_records 0 = .ok (.aload_n 0, 1) := dk_42 (dk_at dksX3_records_0 0 rfl rfl)
theorem dX3_records_1 : decode cX3_records 1 = .ok (.getfield 46, 3) := dk_180 0 46 (dk_at dksX3_records_0 1 rfl rfl)
theorem dX3_records_4 : decode cX3_records 4 = .ok (.iconst 4, 1) := dk_7 (dk_at dksX3_records_0 4 rfl rfl)
theorem dX3_records_5 : decode cX3_records 5 = .ok (.if_icmp .ne 43, 3) := dk_160 0 43 (dk_at dksX3_records_0 5 rfl rfl)
theorem dX3_records_8 : decode cX3_records 8 = .ok (.iconst 0, 1) := dk_3 (dk_at dksX3_records_0 8 rfl rfl)
theorem dX3_records_9 : decode cX3_records 9 = .ok (.istore_n 1, 1) := dk_60 (dk_at dksX3_records_0 9 rfl rfl)
theorem dX3_records_10 : decode cX3_records 10 = .ok (.iload_n 1, 1) := dk_27 (dk_at dksX3_records_0 10 rfl rfl)
theorem dX3_records_11 : decode cX3_records 11 = .ok (.sipush 339, 3) := dk_17 1 83 (dk_at dksX3_records_0 11 rfl rfl)
theorem dX3_records_14 : decode cX3_records 14 = .ok (.if_icmp .ge 24, 3) := dk_162 0 24 (dk_at dksX3_records_0 14 rfl rfl)
theorem dX3_records_17 : decode cX3_records 17 = .ok (.aload_n 0, 1) := dk_42 (dk_at dksX3_records_0 17 rfl rfl)
theorem dX3_records_18 : decode cX3_records 18 = .ok (.getfield 19, 3) := dk_180 0 19 (dk_at dksX3_records_0 18 rfl rfl)
theorem dX3_records_21 : decode cX3_records 21 = .ok (.iload_n 1, 1) := dk_27 (dk_at dksX3_records_0 21 rfl rfl)
theorem dX3_records_22 : decode cX3_records 22 = .ok (.aload_n 0, 1) := dk_42 (dk_at dksX3_records_0 22 rfl rfl)
theorem dX3_records_23 : decode cX3_records 23 = .ok (.getfield 19, 3) := dk_180 0 19 (dk_at dksX3_records_1 0 rfl rfl)
theorem dX3_records_26 : decode cX3_records 26 = .ok (.iload_n 1, 1) := dk_27 (dk_at dksX3_records_1 3 rfl rfl)
theorem dX3_records_27 : decode cX3_records 27 = .ok (.bipush 113, 2) := dk_16 113 (dk_at dksX3_records_1 4 rfl rfl)
theorem dX3_records_29 : decode cX3_records 29 = .ok (.iadd, 1) := dk_96 (dk_at dksX3_records_1 6 rfl rfl)
theorem dX3_records_30 : decode cX3_records 30 = .ok (.iaload, 1) := dk_46 (dk_at dksX3_records_1 7 rfl rfl)
theorem dX3_records_31 : decode cX3_records 31 = .ok (.iastore, 1) := dk_79 (dk_at dksX3_records_1 8 rfl rfl)
theorem dX3_records_32 : decode cX3_records 32 = .ok (.iinc 1 1, 3) := dk_132 1 1 (dk_at dksX3_records_1 9 rfl rfl)
theorem dX3_records_35 : decode cX3_records 35 = .ok (.goto (-25), 3) := dk_167 255 231 (dk_at dksX3_records_1 12 rfl rfl)
theorem dX3_records_38 : decode cX3_records 38 = .ok (.aload_n 0, 1) := dk_42 (dk_at dksX3_records_1 15 rfl rfl)
theorem dX3_records_39 : decode cX3_records 39 = .ok (.dup, 1) := dk_89 (dk_at dksX3_records_1 16 rfl rfl)
theorem dX3_records_40 : decode cX3_records 40 = .ok (.getfield 46, 3) := dk_180 0 46 (dk_at dksX3_records_1 17 rfl rfl)
theorem dX3_records_43 : decode cX3_records 43 = .ok (.iconst 1, 1) := dk_4 (dk_at dksX3_records_1 20 rfl rfl)
theorem dX3_records_44 : decode cX3_records 44 = .ok (.isub, 1) := dk_100 (dk_at dksX3_records_1 21 rfl rfl)
theorem dX3_records_45 : decode cX3_records 45 = .ok (.putfield 46, 3) := dk_181 0 46 (dk_at dksX3_records_2 0 rfl rfl)
theorem dX3_records_48 : decode cX3_records 48 = .ok (.aload_n 0, 1) := dk_42 (dk_at dksX3_records_2 3 rfl rfl)
theorem dX3_records_49 : decode cX3_records 49 = .ok (.getfield 13, 3) := dk_180 0 13 (dk_at dksX3_records_2 4 rfl rfl)
theorem dX3_records_52 : decode cX3_records 52 = .ok (.iconst 0, 1) := dk_3 (dk_at dksX3_records_2 7 rfl rfl)
theorem dX3_records_53 : decode cX3_records 53 = .ok (.aload_n 0, 1) := dk_42 (dk_at dksX3_records_2 8 rfl rfl)
theorem dX3_records_54 : decode cX3_records 54 = .ok (.getfield 19, 3) := dk_180 0 19 (dk_at dksX3_records_2 9 rfl rfl)
theorem dX3_records_57 : decode cX3_records 57 = .ok (.bipush 113, 2) := dk_16 113 (dk_at dksX3_records_2 12 rfl rfl)
theorem dX3_records_59 : decode cX3_records 59 = .ok (.aload_n 0, 1) := dk_42 (dk_at dksX3_records_2 14 rfl rfl)
theorem dX3_records_60 : decode cX3_records 60 = .ok (.getfield 46, 3) := dk_180 0 46 (dk_at dksX3_records_2 15 rfl rfl)
theorem dX3_records_63 : decode cX3_records 63 = .ok (.imul, 1) := dk_104 (dk_at dksX3_records_2 18 rfl rfl)
theorem dX3_records_64 : decode cX3_records 64 = .ok (.invokestatic 42, 3) := dk_184 0 42 (dk_at dksX3_records_2 19 rfl rfl)
theorem dX3_records_67 : decode cX3_records 67 = .ok (.aload_n 0, 1) := dk_42 (dk_at dksX3_records_2 22 rfl rfl)
theorem dX3_records_68 : decode cX3_records 68 = .ok (.dup, 1) := dk_89 (dk_at dksX3_records_2 23 rfl rfl)
theorem dX3_records_69 : decode cX3_records 69 = .ok (.getfield 46, 3) := dk_180 0 46 (dk_at dksX3_records_3 0 rfl rfl)
theorem dX3_records_72 : decode cX3_records 72 = .ok (.iconst 1, 1) := dk_4 (dk_at dksX3_records_3 3 rfl rfl)
theorem dX3_records_73 : decode cX3_records 73 = .ok (.iadd, 1) := dk_96 (dk_at dksX3_records_3 4 rfl rfl)
theorem dX3_records_74 : decode cX3_records 74 = .ok (.putfield 46, 3) := dk_181 0 46 (dk_at dksX3_records_3 5 rfl rfl)
theorem dX3_records_77 : decode cX3_records 77 = .ok (.return_, 1) := dk_177 (dk_at dksX3_records_3 8 rfl rfl)
abbrev cX3_addWheel : ByteArray := prog_10_method_33_code
def yX3_addWheel : MethodName := ⟨RX3, "addWheel", "(II)I"⟩
def dkwX3_addWheel_0 : List UInt8 := [42, 182, 0, 113, 42, 42, 27, 28, 182, 0, 122, 182, 0, 119, 172]
abbrev dktX3_addWheel_0 : List UInt8 := dkwX3_addWheel_0 ++ []
theorem dksX3_addWheel_0 : cX3_addWheel.data.toList.drop 0 = dktX3_addWheel_0 := by decide +kernel
theorem dX3_addWheel_0 : decode cX3_addWheel 0 = .ok (.aload_n 0, 1) := dk_42 (dk_at dksX3_addWheel_0 0 rfl rfl)
theorem dX3_addWheel_1 : decode cX3_addWheel 1 = .ok (.invokevirtual 113, 3) := dk_182 0 113 (dk_at dksX3_addWheel_0 1 rfl rfl)
theorem dX3_addWheel_4 : decode cX3_addWheel 4 = .ok (.aload_n 0, 1) := dk_42 (dk_at dksX3_addWheel_0 4 rfl rfl)
theorem dX3_addWheel_5 : decode cX3_addWheel 5 = .ok (.aload_n 0, 1) := dk_42 (dk_at dksX3_addWheel_0 5 rfl rfl)
theorem dX3_addWheel_6 : decode cX3_addWheel 6 = .ok (.iload_n 1, 1) := dk_27 (dk_at dksX3_addWheel_0 6 rfl rfl)
theorem dX3_addWheel_7 : decode cX3_addWheel 7 = .ok (.iload_n 2, 1) := dk_28 (dk_at dksX3_addWheel_0 7 rfl rfl)
theorem dX3_addWheel_8 : decode cX3_addWheel 8 = .ok (.invokevirtual 122, 3) := dk_182 0 122 (dk_at dksX3_addWheel_0 8 rfl rfl)
theorem dX3_addWheel_11 : decode cX3_addWheel 11 = .ok (.invokevirtual 119, 3) := dk_182 0 119 (dk_at dksX3_addWheel_0 11 rfl rfl)
theorem dX3_addWheel_14 : decode cX3_addWheel 14 = .ok (.ireturn, 1) := dk_172 (dk_at dksX3_addWheel_0 14 rfl rfl)
abbrev cX3_goWheel : ByteArray := prog_10_method_25_code
def yX3_goWheel : MethodName := ⟨RX3, "goWheel", "(II)I"⟩
def dkwX3_goWheel_2 : List UInt8 := [16, 26, 29, 96, 27, 79, 42, 180, 0, 7, 4, 92, 46, 4, 96, 79, 29, 172]
abbrev dktX3_goWheel_2 : List UInt8 := dkwX3_goWheel_2 ++ []
def dkwX3_goWheel_1 : List UInt8 := [62, 29, 16, 24, 160, 0, 6, 18, 50, 172, 42, 180, 0, 7, 5, 29, 96, 28, 79, 42, 180, 0, 7]
abbrev dktX3_goWheel_1 : List UInt8 := dkwX3_goWheel_1 ++ dktX3_goWheel_2
def dkwX3_goWheel_0 : List UInt8 := [42, 27, 182, 0, 88, 153, 0, 10, 28, 184, 0, 92, 154, 0, 6, 18, 49, 172, 42, 180, 0, 7, 4, 46]
abbrev dktX3_goWheel_0 : List UInt8 := dkwX3_goWheel_0 ++ dktX3_goWheel_1
theorem dksX3_goWheel_0 : cX3_goWheel.data.toList.drop 0 = dktX3_goWheel_0 := by decide +kernel
theorem dksX3_goWheel_1 : cX3_goWheel.data.toList.drop 24 = dktX3_goWheel_1 := dk_seg dksX3_goWheel_0 24 rfl rfl
theorem dksX3_goWheel_2 : cX3_goWheel.data.toList.drop 47 = dktX3_goWheel_2 := dk_seg dksX3_goWheel_1 23 rfl rfl
theorem dX3_goWheel_0 : decode cX3_goWheel 0 = .ok (.aload_n 0, 1) := dk_42 (dk_at dksX3_goWheel_0 0 rfl rfl)
theorem dX3_goWheel_1 : decode cX3_goWheel 1 = .ok (.iload_n 1, 1) := dk_27 (dk_at dksX3_goWheel_0 1 rfl rfl)
theorem dX3_goWheel_2 : decode cX3_goWheel 2 = .ok (.invokevirtual 88, 3) := dk_182 0 88 (dk_at dksX3_goWheel_0 2 rfl rfl)
theorem dX3_goWheel_5 : decode cX3_goWheel 5 = .ok (.ifCond .eq 10, 3) := dk_153 0 10 (dk_at dksX3_goWheel_0 5 rfl rfl)
theorem dX3_goWheel_8 : decode cX3_goWheel 8 = .ok (.iload_n 2, 1) := dk_28 (dk_at dksX3_goWheel_0 8 rfl rfl)
theorem dX3_goWheel_9 : decode cX3_goWheel 9 = .ok (.invokestatic 92, 3) := dk_184 0 92 (dk_at dksX3_goWheel_0 9 rfl rfl)
theorem dX3_goWheel_12 : decode cX3_goWheel 12 = .ok (.ifCond .ne 6, 3) := dk_154 0 6 (dk_at dksX3_goWheel_0 12 rfl rfl)
theorem dX3_goWheel_15 : decode cX3_goWheel 15 = .ok (.ldc 49, 2) := dk_18 49 (dk_at dksX3_goWheel_0 15 rfl rfl)
theorem dX3_goWheel_17 : decode cX3_goWheel 17 = .ok (.ireturn, 1) := dk_172 (dk_at dksX3_goWheel_0 17 rfl rfl)
theorem dX3_goWheel_18 : decode cX3_goWheel 18 = .ok (.aload_n 0, 1) := dk_42 (dk_at dksX3_goWheel_0 18 rfl rfl)
theorem dX3_goWheel_19 : decode cX3_goWheel 19 = .ok (.getfield 7, 3) := dk_180 0 7 (dk_at dksX3_goWheel_0 19 rfl rfl)
theorem dX3_goWheel_22 : decode cX3_goWheel 22 = .ok (.iconst 1, 1) := dk_4 (dk_at dksX3_goWheel_0 22 rfl rfl)
theorem dX3_goWheel_23 : decode cX3_goWheel 23 = .ok (.iaload, 1) := dk_46 (dk_at dksX3_goWheel_0 23 rfl rfl)
theorem dX3_goWheel_24 : decode cX3_goWheel 24 = .ok (.istore_n 3, 1) := dk_62 (dk_at dksX3_goWheel_1 0 rfl rfl)
theorem dX3_goWheel_25 : decode cX3_goWheel 25 = .ok (.iload_n 3, 1) := dk_29 (dk_at dksX3_goWheel_1 1 rfl rfl)
theorem dX3_goWheel_26 : decode cX3_goWheel 26 = .ok (.bipush 24, 2) := dk_16 24 (dk_at dksX3_goWheel_1 2 rfl rfl)
theorem dX3_goWheel_28 : decode cX3_goWheel 28 = .ok (.if_icmp .ne 6, 3) := dk_160 0 6 (dk_at dksX3_goWheel_1 4 rfl rfl)
theorem dX3_goWheel_31 : decode cX3_goWheel 31 = .ok (.ldc 50, 2) := dk_18 50 (dk_at dksX3_goWheel_1 7 rfl rfl)
theorem dX3_goWheel_33 : decode cX3_goWheel 33 = .ok (.ireturn, 1) := dk_172 (dk_at dksX3_goWheel_1 9 rfl rfl)
theorem dX3_goWheel_34 : decode cX3_goWheel 34 = .ok (.aload_n 0, 1) := dk_42 (dk_at dksX3_goWheel_1 10 rfl rfl)
theorem dX3_goWheel_35 : decode cX3_goWheel 35 = .ok (.getfield 7, 3) := dk_180 0 7 (dk_at dksX3_goWheel_1 11 rfl rfl)
theorem dX3_goWheel_38 : decode cX3_goWheel 38 = .ok (.iconst 2, 1) := dk_5 (dk_at dksX3_goWheel_1 14 rfl rfl)
theorem dX3_goWheel_39 : decode cX3_goWheel 39 = .ok (.iload_n 3, 1) := dk_29 (dk_at dksX3_goWheel_1 15 rfl rfl)
theorem dX3_goWheel_40 : decode cX3_goWheel 40 = .ok (.iadd, 1) := dk_96 (dk_at dksX3_goWheel_1 16 rfl rfl)
theorem dX3_goWheel_41 : decode cX3_goWheel 41 = .ok (.iload_n 2, 1) := dk_28 (dk_at dksX3_goWheel_1 17 rfl rfl)
theorem dX3_goWheel_42 : decode cX3_goWheel 42 = .ok (.iastore, 1) := dk_79 (dk_at dksX3_goWheel_1 18 rfl rfl)
theorem dX3_goWheel_43 : decode cX3_goWheel 43 = .ok (.aload_n 0, 1) := dk_42 (dk_at dksX3_goWheel_1 19 rfl rfl)
theorem dX3_goWheel_44 : decode cX3_goWheel 44 = .ok (.getfield 7, 3) := dk_180 0 7 (dk_at dksX3_goWheel_1 20 rfl rfl)
theorem dX3_goWheel_47 : decode cX3_goWheel 47 = .ok (.bipush 26, 2) := dk_16 26 (dk_at dksX3_goWheel_2 0 rfl rfl)
theorem dX3_goWheel_49 : decode cX3_goWheel 49 = .ok (.iload_n 3, 1) := dk_29 (dk_at dksX3_goWheel_2 2 rfl rfl)
theorem dX3_goWheel_50 : decode cX3_goWheel 50 = .ok (.iadd, 1) := dk_96 (dk_at dksX3_goWheel_2 3 rfl rfl)
theorem dX3_goWheel_51 : decode cX3_goWheel 51 = .ok (.iload_n 1, 1) := dk_27 (dk_at dksX3_goWheel_2 4 rfl rfl)
theorem dX3_goWheel_52 : decode cX3_goWheel 52 = .ok (.iastore, 1) := dk_79 (dk_at dksX3_goWheel_2 5 rfl rfl)
theorem dX3_goWheel_53 : decode cX3_goWheel 53 = .ok (.aload_n 0, 1) := dk_42 (dk_at dksX3_goWheel_2 6 rfl rfl)
theorem dX3_goWheel_54 : decode cX3_goWheel 54 = .ok (.getfield 7, 3) := dk_180 0 7 (dk_at dksX3_goWheel_2 7 rfl rfl)
theorem dX3_goWheel_57 : decode cX3_goWheel 57 = .ok (.iconst 1, 1) := dk_4 (dk_at dksX3_goWheel_2 10 rfl rfl)
theorem dX3_goWheel_58 : decode cX3_goWheel 58 = .ok (.dup2, 1) := dk_92 (dk_at dksX3_goWheel_2 11 rfl rfl)
theorem dX3_goWheel_59 : decode cX3_goWheel 59 = .ok (.iaload, 1) := dk_46 (dk_at dksX3_goWheel_2 12 rfl rfl)
theorem dX3_goWheel_60 : decode cX3_goWheel 60 = .ok (.iconst 1, 1) := dk_4 (dk_at dksX3_goWheel_2 13 rfl rfl)
theorem dX3_goWheel_61 : decode cX3_goWheel 61 = .ok (.iadd, 1) := dk_96 (dk_at dksX3_goWheel_2 14 rfl rfl)
theorem dX3_goWheel_62 : decode cX3_goWheel 62 = .ok (.iastore, 1) := dk_79 (dk_at dksX3_goWheel_2 15 rfl rfl)
theorem dX3_goWheel_63 : decode cX3_goWheel 63 = .ok (.iload_n 3, 1) := dk_29 (dk_at dksX3_goWheel_2 16 rfl rfl)
theorem dX3_goWheel_64 : decode cX3_goWheel 64 = .ok (.ireturn, 1) := dk_172 (dk_at dksX3_goWheel_2 17 rfl rfl)
abbrev cX3_isAxle : ByteArray := prog_10_method_10_code
def yX3_isAxle : MethodName := ⟨RX3, "isAxle", "(I)Z"⟩
def dkwX3_isAxle_0 : List UInt8 := [27, 3, 42, 180, 0, 7, 3, 46, 4, 100, 184, 0, 58, 172]
abbrev dktX3_isAxle_0 : List UInt8 := dkwX3_isAxle_0 ++ []
theorem dksX3_isAxle_0 : cX3_isAxle.data.toList.drop 0 = dktX3_isAxle_0 := by decide +kernel
theorem dX3_isAxle_0 : decode cX3_isAxle 0 = .ok (.iload_n 1, 1) := dk_27 (dk_at dksX3_isAxle_0 0 rfl rfl)
theorem dX3_isAxle_1 : decode cX3_isAxle 1 = .ok (.iconst 0, 1) := dk_3 (dk_at dksX3_isAxle_0 1 rfl rfl)
theorem dX3_isAxle_2 : decode cX3_isAxle 2 = .ok (.aload_n 0, 1) := dk_42 (dk_at dksX3_isAxle_0 2 rfl rfl)
theorem dX3_isAxle_3 : decode cX3_isAxle 3 = .ok (.getfield 7, 3) := dk_180 0 7 (dk_at dksX3_isAxle_0 3 rfl rfl)
theorem dX3_isAxle_6 : decode cX3_isAxle 6 = .ok (.iconst 0, 1) := dk_3 (dk_at dksX3_isAxle_0 6 rfl rfl)
theorem dX3_isAxle_7 : decode cX3_isAxle 7 = .ok (.iaload, 1) := dk_46 (dk_at dksX3_isAxle_0 7 rfl rfl)
theorem dX3_isAxle_8 : decode cX3_isAxle 8 = .ok (.iconst 1, 1) := dk_4 (dk_at dksX3_isAxle_0 8 rfl rfl)
theorem dX3_isAxle_9 : decode cX3_isAxle 9 = .ok (.isub, 1) := dk_100 (dk_at dksX3_isAxle_0 9 rfl rfl)
theorem dX3_isAxle_10 : decode cX3_isAxle 10 = .ok (.invokestatic 58, 3) := dk_184 0 58 (dk_at dksX3_isAxle_0 10 rfl rfl)
theorem dX3_isAxle_13 : decode cX3_isAxle 13 = .ok (.ireturn, 1) := dk_172 (dk_at dksX3_isAxle_0 13 rfl rfl)
abbrev cX3_in : ByteArray := prog_10_method_5_code
def yX3_in : MethodName := ⟨RX3, "in", "(III)Z"⟩
def dkwX3_in_0 : List UInt8 := [26, 27, 161, 0, 12, 26, 28, 163, 0, 7, 4, 167, 0, 4, 3, 172]
abbrev dktX3_in_0 : List UInt8 := dkwX3_in_0 ++ []
theorem dksX3_in_0 : cX3_in.data.toList.drop 0 = dktX3_in_0 := by decide +kernel
theorem dX3_in_0 : decode cX3_in 0 = .ok (.iload_n 0, 1) := dk_26 (dk_at dksX3_in_0 0 rfl rfl)
theorem dX3_in_1 : decode cX3_in 1 = .ok (.iload_n 1, 1) := dk_27 (dk_at dksX3_in_0 1 rfl rfl)
theorem dX3_in_2 : decode cX3_in 2 = .ok (.if_icmp .lt 12, 3) := dk_161 0 12 (dk_at dksX3_in_0 2 rfl rfl)
theorem dX3_in_5 : decode cX3_in 5 = .ok (.iload_n 0, 1) := dk_26 (dk_at dksX3_in_0 5 rfl rfl)
theorem dX3_in_6 : decode cX3_in 6 = .ok (.iload_n 2, 1) := dk_28 (dk_at dksX3_in_0 6 rfl rfl)
theorem dX3_in_7 : decode cX3_in 7 = .ok (.if_icmp .gt 7, 3) := dk_163 0 7 (dk_at dksX3_in_0 7 rfl rfl)
theorem dX3_in_10 : decode cX3_in 10 = .ok (.iconst 1, 1) := dk_4 (dk_at dksX3_in_0 10 rfl rfl)
theorem dX3_in_11 : decode cX3_in 11 = .ok (.goto 4, 3) := dk_167 0 4 (dk_at dksX3_in_0 11 rfl rfl)
theorem dX3_in_14 : decode cX3_in 14 = .ok (.iconst 0, 1) := dk_3 (dk_at dksX3_in_0 14 rfl rfl)
theorem dX3_in_15 : decode cX3_in 15 = .ok (.ireturn, 1) := dk_172 (dk_at dksX3_in_0 15 rfl rfl)
abbrev cX3_isTeeth : ByteArray := prog_10_method_24_code
def yX3_isTeeth : MethodName := ⟨RX3, "isTeeth", "(I)Z"⟩
def dkwX3_isTeeth_0 : List UInt8 := [26, 16, 8, 16, 120, 184, 0, 58, 172]
abbrev dktX3_isTeeth_0 : List UInt8 := dkwX3_isTeeth_0 ++ []
theorem dksX3_isTeeth_0 : cX3_isTeeth.data.toList.drop 0 = dktX3_isTeeth_0 := by decide +kernel
theorem dX3_isTeeth_0 : decode cX3_isTeeth 0 = .ok (.iload_n 0, 1) := dk_26 (dk_at dksX3_isTeeth_0 0 rfl rfl)
theorem dX3_isTeeth_1 : decode cX3_isTeeth 1 = .ok (.bipush 8, 2) := dk_16 8 (dk_at dksX3_isTeeth_0 1 rfl rfl)
theorem dX3_isTeeth_3 : decode cX3_isTeeth 3 = .ok (.bipush 120, 2) := dk_16 120 (dk_at dksX3_isTeeth_0 3 rfl rfl)
theorem dX3_isTeeth_5 : decode cX3_isTeeth 5 = .ok (.invokestatic 58, 3) := dk_184 0 58 (dk_at dksX3_isTeeth_0 5 rfl rfl)
theorem dX3_isTeeth_8 : decode cX3_isTeeth 8 = .ok (.ireturn, 1) := dk_172 (dk_at dksX3_isTeeth_0 8 rfl rfl)
abbrev cX3_mesh : ByteArray := prog_10_method_34_code
def yX3_mesh : MethodName := ⟨RX3, "mesh", "(II)I"⟩
def dkwX3_mesh_0 : List UInt8 := [42, 182, 0, 113, 42, 42, 27, 28, 182, 0, 125, 182, 0, 119, 172]
abbrev dktX3_mesh_0 : List UInt8 := dkwX3_mesh_0 ++ []
theorem dksX3_mesh_0 : cX3_mesh.data.toList.drop 0 = dktX3_mesh_0 := by decide +kernel
theorem dX3_mesh_0 : decode cX3_mesh 0 = .ok (.aload_n 0, 1) := dk_42 (dk_at dksX3_mesh_0 0 rfl rfl)
theorem dX3_mesh_1 : decode cX3_mesh 1 = .ok (.invokevirtual 113, 3) := dk_182 0 113 (dk_at dksX3_mesh_0 1 rfl rfl)
theorem dX3_mesh_4 : decode cX3_mesh 4 = .ok (.aload_n 0, 1) := dk_42 (dk_at dksX3_mesh_0 4 rfl rfl)
theorem dX3_mesh_5 : decode cX3_mesh 5 = .ok (.aload_n 0, 1) := dk_42 (dk_at dksX3_mesh_0 5 rfl rfl)
theorem dX3_mesh_6 : decode cX3_mesh 6 = .ok (.iload_n 1, 1) := dk_27 (dk_at dksX3_mesh_0 6 rfl rfl)
theorem dX3_mesh_7 : decode cX3_mesh 7 = .ok (.iload_n 2, 1) := dk_28 (dk_at dksX3_mesh_0 7 rfl rfl)
theorem dX3_mesh_8 : decode cX3_mesh 8 = .ok (.invokevirtual 125, 3) := dk_182 0 125 (dk_at dksX3_mesh_0 8 rfl rfl)
theorem dX3_mesh_11 : decode cX3_mesh 11 = .ok (.invokevirtual 119, 3) := dk_182 0 119 (dk_at dksX3_mesh_0 11 rfl rfl)
theorem dX3_mesh_14 : decode cX3_mesh 14 = .ok (.ireturn, 1) := dk_172 (dk_at dksX3_mesh_0 14 rfl rfl)
abbrev cX3_goMesh : ByteArray := prog_10_method_27_code
def yX3_goMesh : MethodName := ⟨RX3, "goMesh", "(II)I"⟩
def dkwX3_goMesh_1 : List UInt8 := [167, 0, 7, 42, 182, 0, 105, 172]
abbrev dktX3_goMesh_1 : List UInt8 := dkwX3_goMesh_1 ++ []
def dkwX3_goMesh_0 : List UInt8 := [42, 27, 28, 182, 0, 98, 154, 0, 6, 18, 49, 172, 42, 27, 28, 182, 0, 101, 158, 0, 8, 18, 50]
abbrev dktX3_goMesh_0 : List UInt8 := dkwX3_goMesh_0 ++ dktX3_goMesh_1
theorem dksX3_goMesh_0 : cX3_goMesh.data.toList.drop 0 = dktX3_goMesh_0 := by decide +kernel
theorem dksX3_goMesh_1 : cX3_goMesh.data.toList.drop 23 = dktX3_goMesh_1 := dk_seg dksX3_goMesh_0 23 rfl rfl
theorem dX3_goMesh_0 : decode cX3_goMesh 0 = .ok (.aload_n 0, 1) := dk_42 (dk_at dksX3_goMesh_0 0 rfl rfl)
theorem dX3_goMesh_1 : decode cX3_goMesh 1 = .ok (.iload_n 1, 1) := dk_27 (dk_at dksX3_goMesh_0 1 rfl rfl)
theorem dX3_goMesh_2 : decode cX3_goMesh 2 = .ok (.iload_n 2, 1) := dk_28 (dk_at dksX3_goMesh_0 2 rfl rfl)
theorem dX3_goMesh_3 : decode cX3_goMesh 3 = .ok (.invokevirtual 98, 3) := dk_182 0 98 (dk_at dksX3_goMesh_0 3 rfl rfl)
theorem dX3_goMesh_6 : decode cX3_goMesh 6 = .ok (.ifCond .ne 6, 3) := dk_154 0 6 (dk_at dksX3_goMesh_0 6 rfl rfl)
theorem dX3_goMesh_9 : decode cX3_goMesh 9 = .ok (.ldc 49, 2) := dk_18 49 (dk_at dksX3_goMesh_0 9 rfl rfl)
theorem dX3_goMesh_11 : decode cX3_goMesh 11 = .ok (.ireturn, 1) := dk_172 (dk_at dksX3_goMesh_0 11 rfl rfl)
theorem dX3_goMesh_12 : decode cX3_goMesh 12 = .ok (.aload_n 0, 1) := dk_42 (dk_at dksX3_goMesh_0 12 rfl rfl)
theorem dX3_goMesh_13 : decode cX3_goMesh 13 = .ok (.iload_n 1, 1) := dk_27 (dk_at dksX3_goMesh_0 13 rfl rfl)
theorem dX3_goMesh_14 : decode cX3_goMesh 14 = .ok (.iload_n 2, 1) := dk_28 (dk_at dksX3_goMesh_0 14 rfl rfl)
theorem dX3_goMesh_15 : decode cX3_goMesh 15 = .ok (.invokevirtual 101, 3) := dk_182 0 101 (dk_at dksX3_goMesh_0 15 rfl rfl)
theorem dX3_goMesh_18 : decode cX3_goMesh 18 = .ok (.ifCond .le 8, 3) := dk_158 0 8 (dk_at dksX3_goMesh_0 18 rfl rfl)
theorem dX3_goMesh_21 : decode cX3_goMesh 21 = .ok (.ldc 50, 2) := dk_18 50 (dk_at dksX3_goMesh_0 21 rfl rfl)
theorem dX3_goMesh_23 : decode cX3_goMesh 23 = .ok (.goto 7, 3) := dk_167 0 7 (dk_at dksX3_goMesh_1 0 rfl rfl)
theorem dX3_goMesh_26 : decode cX3_goMesh 26 = .ok (.aload_n 0, 1) := dk_42 (dk_at dksX3_goMesh_1 3 rfl rfl)
theorem dX3_goMesh_27 : decode cX3_goMesh 27 = .ok (.invokevirtual 105, 3) := dk_182 0 105 (dk_at dksX3_goMesh_1 4 rfl rfl)
theorem dX3_goMesh_30 : decode cX3_goMesh 30 = .ok (.ireturn, 1) := dk_172 (dk_at dksX3_goMesh_1 7 rfl rfl)
abbrev cX3_areWheels : ByteArray := prog_10_method_26_code
def yX3_areWheels : MethodName := ⟨RX3, "areWheels", "(II)Z"⟩
def dkwX3_areWheels_1 : List UInt8 := [167, 0, 4, 3, 172]
abbrev dktX3_areWheels_1 : List UInt8 := dkwX3_areWheels_1 ++ []
def dkwX3_areWheels_0 : List UInt8 := [42, 27, 182, 0, 95, 153, 0, 20, 42, 28, 182, 0, 95, 153, 0, 12, 27, 28, 159, 0, 7, 4]
abbrev dktX3_areWheels_0 : List UInt8 := dkwX3_areWheels_0 ++ dktX3_areWheels_1
theorem dksX3_areWheels_0 : cX3_areWheels.data.toList.drop 0 = dktX3_areWheels_0 := by decide +kernel
theorem dksX3_areWheels_1 : cX3_areWheels.data.toList.drop 22 = dktX3_areWheels_1 := dk_seg dksX3_areWheels_0 22 rfl rfl
theorem dX3_areWheels_0 : decode cX3_areWheels 0 = .ok (.aload_n 0, 1) := dk_42 (dk_at dksX3_areWheels_0 0 rfl rfl)
theorem dX3_areWheels_1 : decode cX3_areWheels 1 = .ok (.iload_n 1, 1) := dk_27 (dk_at dksX3_areWheels_0 1 rfl rfl)
theorem dX3_areWheels_2 : decode cX3_areWheels 2 = .ok (.invokevirtual 95, 3) := dk_182 0 95 (dk_at dksX3_areWheels_0 2 rfl rfl)
theorem dX3_areWheels_5 : decode cX3_areWheels 5 = .ok (.ifCond .eq 20, 3) := dk_153 0 20 (dk_at dksX3_areWheels_0 5 rfl rfl)
theorem dX3_areWheels_8 : decode cX3_areWheels 8 = .ok (.aload_n 0, 1) := dk_42 (dk_at dksX3_areWheels_0 8 rfl rfl)
theorem dX3_areWheels_9 : decode cX3_areWheels 9 = .ok (.iload_n 2, 1) := dk_28 (dk_at dksX3_areWheels_0 9 rfl rfl)
theorem dX3_areWheels_10 : decode cX3_areWheels 10 = .ok (.invokevirtual 95, 3) := dk_182 0 95 (dk_at dksX3_areWheels_0 10 rfl rfl)
theorem dX3_areWheels_13 : decode cX3_areWheels 13 = .ok (.ifCond .eq 12, 3) := dk_153 0 12 (dk_at dksX3_areWheels_0 13 rfl rfl)
theorem dX3_areWheels_16 : decode cX3_areWheels 16 = .ok (.iload_n 1, 1) := dk_27 (dk_at dksX3_areWheels_0 16 rfl rfl)
theorem dX3_areWheels_17 : decode cX3_areWheels 17 = .ok (.iload_n 2, 1) := dk_28 (dk_at dksX3_areWheels_0 17 rfl rfl)
theorem dX3_areWheels_18 : decode cX3_areWheels 18 = .ok (.if_icmp .eq 7, 3) := dk_159 0 7 (dk_at dksX3_areWheels_0 18 rfl rfl)
theorem dX3_areWheels_21 : decode cX3_areWheels 21 = .ok (.iconst 1, 1) := dk_4 (dk_at dksX3_areWheels_0 21 rfl rfl)
theorem dX3_areWheels_22 : decode cX3_areWheels 22 = .ok (.goto 4, 3) := dk_167 0 4 (dk_at dksX3_areWheels_1 0 rfl rfl)
theorem dX3_areWheels_25 : decode cX3_areWheels 25 = .ok (.iconst 0, 1) := dk_3 (dk_at dksX3_areWheels_1 3 rfl rfl)
theorem dX3_areWheels_26 : decode cX3_areWheels 26 = .ok (.ireturn, 1) := dk_172 (dk_at dksX3_areWheels_1 4 rfl rfl)
abbrev cX3_isWheel : ByteArray := prog_10_method_11_code
def yX3_isWheel : MethodName := ⟨RX3, "isWheel", "(I)Z"⟩
def dkwX3_isWheel_0 : List UInt8 := [27, 3, 42, 180, 0, 7, 4, 46, 4, 100, 184, 0, 58, 172]
abbrev dktX3_isWheel_0 : List UInt8 := dkwX3_isWheel_0 ++ []
theorem dksX3_isWheel_0 : cX3_isWheel.data.toList.drop 0 = dktX3_isWheel_0 := by decide +kernel
theorem dX3_isWheel_0 : decode cX3_isWheel 0 = .ok (.iload_n 1, 1) := dk_27 (dk_at dksX3_isWheel_0 0 rfl rfl)
theorem dX3_isWheel_1 : decode cX3_isWheel 1 = .ok (.iconst 0, 1) := dk_3 (dk_at dksX3_isWheel_0 1 rfl rfl)
theorem dX3_isWheel_2 : decode cX3_isWheel 2 = .ok (.aload_n 0, 1) := dk_42 (dk_at dksX3_isWheel_0 2 rfl rfl)
theorem dX3_isWheel_3 : decode cX3_isWheel 3 = .ok (.getfield 7, 3) := dk_180 0 7 (dk_at dksX3_isWheel_0 3 rfl rfl)
theorem dX3_isWheel_6 : decode cX3_isWheel 6 = .ok (.iconst 1, 1) := dk_4 (dk_at dksX3_isWheel_0 6 rfl rfl)
theorem dX3_isWheel_7 : decode cX3_isWheel 7 = .ok (.iaload, 1) := dk_46 (dk_at dksX3_isWheel_0 7 rfl rfl)
theorem dX3_isWheel_8 : decode cX3_isWheel 8 = .ok (.iconst 1, 1) := dk_4 (dk_at dksX3_isWheel_0 8 rfl rfl)
theorem dX3_isWheel_9 : decode cX3_isWheel 9 = .ok (.isub, 1) := dk_100 (dk_at dksX3_isWheel_0 9 rfl rfl)
theorem dX3_isWheel_10 : decode cX3_isWheel 10 = .ok (.invokestatic 58, 3) := dk_184 0 58 (dk_at dksX3_isWheel_0 10 rfl rfl)
theorem dX3_isWheel_13 : decode cX3_isWheel 13 = .ok (.ireturn, 1) := dk_172 (dk_at dksX3_isWheel_0 13 rfl rfl)
abbrev cX3_reason : ByteArray := prog_10_method_22_code
def yX3_reason : MethodName := ⟨RX3, "reason", "(II)I"⟩
def dkwX3_reason_3 : List UInt8 := [8, 167, 0, 4, 3, 172]
abbrev dktX3_reason_3 : List UInt8 := dkwX3_reason_3 ++ []
def dkwX3_reason_2 : List UInt8 := [42, 27, 28, 182, 0, 81, 42, 182, 0, 73, 154, 0, 7, 7, 167, 0, 15, 42, 182, 0, 85, 153, 0, 7]
abbrev dktX3_reason_2 : List UInt8 := dkwX3_reason_2 ++ dktX3_reason_3
def dkwX3_reason_1 : List UInt8 := [27, 28, 182, 0, 77, 153, 0, 5, 5, 172, 42, 180, 0, 7, 16, 50, 46, 16, 16, 160, 0, 5, 6, 172]
abbrev dktX3_reason_1 : List UInt8 := dkwX3_reason_1 ++ dktX3_reason_2
def dkwX3_reason_0 : List UInt8 := [42, 180, 0, 7, 16, 26, 27, 96, 46, 42, 180, 0, 7, 16, 26, 28, 96, 46, 160, 0, 5, 4, 172, 42]
abbrev dktX3_reason_0 : List UInt8 := dkwX3_reason_0 ++ dktX3_reason_1
theorem dksX3_reason_0 : cX3_reason.data.toList.drop 0 = dktX3_reason_0 := by decide +kernel
theorem dksX3_reason_1 : cX3_reason.data.toList.drop 24 = dktX3_reason_1 := dk_seg dksX3_reason_0 24 rfl rfl
theorem dksX3_reason_2 : cX3_reason.data.toList.drop 48 = dktX3_reason_2 := dk_seg dksX3_reason_1 24 rfl rfl
theorem dksX3_reason_3 : cX3_reason.data.toList.drop 72 = dktX3_reason_3 := dk_seg dksX3_reason_2 24 rfl rfl
theorem dX3_reason_0 : decode cX3_reason 0 = .ok (.aload_n 0, 1) := dk_42 (dk_at dksX3_reason_0 0 rfl rfl)
theorem dX3_reason_1 : decode cX3_reason 1 = .ok (.getfield 7, 3) := dk_180 0 7 (dk_at dksX3_reason_0 1 rfl rfl)
theorem dX3_reason_4 : decode cX3_reason 4 = .ok (.bipush 26, 2) := dk_16 26 (dk_at dksX3_reason_0 4 rfl rfl)
theorem dX3_reason_6 : decode cX3_reason 6 = .ok (.iload_n 1, 1) := dk_27 (dk_at dksX3_reason_0 6 rfl rfl)
theorem dX3_reason_7 : decode cX3_reason 7 = .ok (.iadd, 1) := dk_96 (dk_at dksX3_reason_0 7 rfl rfl)
theorem dX3_reason_8 : decode cX3_reason 8 = .ok (.iaload, 1) := dk_46 (dk_at dksX3_reason_0 8 rfl rfl)
theorem dX3_reason_9 : decode cX3_reason 9 = .ok (.aload_n 0, 1) := dk_42 (dk_at dksX3_reason_0 9 rfl rfl)
theorem dX3_reason_10 : decode cX3_reason 10 = .ok (.getfield 7, 3) := dk_180 0 7 (dk_at dksX3_reason_0 10 rfl rfl)
theorem dX3_reason_13 : decode cX3_reason 13 = .ok (.bipush 26, 2) := dk_16 26 (dk_at dksX3_reason_0 13 rfl rfl)
theorem dX3_reason_15 : decode cX3_reason 15 = .ok (.iload_n 2, 1) := dk_28 (dk_at dksX3_reason_0 15 rfl rfl)
theorem dX3_reason_16 : decode cX3_reason 16 = .ok (.iadd, 1) := dk_96 (dk_at dksX3_reason_0 16 rfl rfl)
theorem dX3_reason_17 : decode cX3_reason 17 = .ok (.iaload, 1) := dk_46 (dk_at dksX3_reason_0 17 rfl rfl)
theorem dX3_reason_18 : decode cX3_reason 18 = .ok (.if_icmp .ne 5, 3) := dk_160 0 5 (dk_at dksX3_reason_0 18 rfl rfl)
theorem dX3_reason_21 : decode cX3_reason 21 = .ok (.iconst 1, 1) := dk_4 (dk_at dksX3_reason_0 21 rfl rfl)
theorem dX3_reason_22 : decode cX3_reason 22 = .ok (.ireturn, 1) := dk_172 (dk_at dksX3_reason_0 22 rfl rfl)
theorem dX3_reason_23 : decode cX3_reason 23 = .ok (.aload_n 0, 1) := dk_42 (dk_at dksX3_reason_0 23 rfl rfl)
theorem dX3_reason_24 : decode cX3_reason 24 = .ok (.iload_n 1, 1) := dk_27 (dk_at dksX3_reason_1 0 rfl rfl)
theorem dX3_reason_25 : decode cX3_reason 25 = .ok (.iload_n 2, 1) := dk_28 (dk_at dksX3_reason_1 1 rfl rfl)
theorem dX3_reason_26 : decode cX3_reason 26 = .ok (.invokevirtual 77, 3) := dk_182 0 77 (dk_at dksX3_reason_1 2 rfl rfl)
theorem dX3_reason_29 : decode cX3_reason 29 = .ok (.ifCond .eq 5, 3) := dk_153 0 5 (dk_at dksX3_reason_1 5 rfl rfl)
theorem dX3_reason_32 : decode cX3_reason 32 = .ok (.iconst 2, 1) := dk_5 (dk_at dksX3_reason_1 8 rfl rfl)
theorem dX3_reason_33 : decode cX3_reason 33 = .ok (.ireturn, 1) := dk_172 (dk_at dksX3_reason_1 9 rfl rfl)
theorem dX3_reason_34 : decode cX3_reason 34 = .ok (.aload_n 0, 1) := dk_42 (dk_at dksX3_reason_1 10 rfl rfl)
theorem dX3_reason_35 : decode cX3_reason 35 = .ok (.getfield 7, 3) := dk_180 0 7 (dk_at dksX3_reason_1 11 rfl rfl)
theorem dX3_reason_38 : decode cX3_reason 38 = .ok (.bipush 50, 2) := dk_16 50 (dk_at dksX3_reason_1 14 rfl rfl)
theorem dX3_reason_40 : decode cX3_reason 40 = .ok (.iaload, 1) := dk_46 (dk_at dksX3_reason_1 16 rfl rfl)
theorem dX3_reason_41 : decode cX3_reason 41 = .ok (.bipush 16, 2) := dk_16 16 (dk_at dksX3_reason_1 17 rfl rfl)
theorem dX3_reason_43 : decode cX3_reason 43 = .ok (.if_icmp .ne 5, 3) := dk_160 0 5 (dk_at dksX3_reason_1 19 rfl rfl)
theorem dX3_reason_46 : decode cX3_reason 46 = .ok (.iconst 3, 1) := dk_6 (dk_at dksX3_reason_1 22 rfl rfl)
theorem dX3_reason_47 : decode cX3_reason 47 = .ok (.ireturn, 1) := dk_172 (dk_at dksX3_reason_1 23 rfl rfl)
theorem dX3_reason_48 : decode cX3_reason 48 = .ok (.aload_n 0, 1) := dk_42 (dk_at dksX3_reason_2 0 rfl rfl)
theorem dX3_reason_49 : decode cX3_reason 49 = .ok (.iload_n 1, 1) := dk_27 (dk_at dksX3_reason_2 1 rfl rfl)
theorem dX3_reason_50 : decode cX3_reason 50 = .ok (.iload_n 2, 1) := dk_28 (dk_at dksX3_reason_2 2 rfl rfl)
theorem dX3_reason_51 : decode cX3_reason 51 = .ok (.invokevirtual 81, 3) := dk_182 0 81 (dk_at dksX3_reason_2 3 rfl rfl)
theorem dX3_reason_54 : decode cX3_reason 54 = .ok (.aload_n 0, 1) := dk_42 (dk_at dksX3_reason_2 6 rfl rfl)
theorem dX3_reason_55 : decode cX3_reason 55 = .ok (.invokevirtual 73, 3) := dk_182 0 73 (dk_at dksX3_reason_2 7 rfl rfl)
theorem dX3_reason_58 : decode cX3_reason 58 = .ok (.ifCond .ne 7, 3) := dk_154 0 7 (dk_at dksX3_reason_2 10 rfl rfl)
theorem dX3_reason_61 : decode cX3_reason 61 = .ok (.iconst 4, 1) := dk_7 (dk_at dksX3_reason_2 13 rfl rfl)
theorem dX3_reason_62 : decode cX3_reason 62 = .ok (.goto 15, 3) := dk_167 0 15 (dk_at dksX3_reason_2 14 rfl rfl)
theorem dX3_reason_65 : decode cX3_reason 65 = .ok (.aload_n 0, 1) := dk_42 (dk_at dksX3_reason_2 17 rfl rfl)
theorem dX3_reason_66 : decode cX3_reason 66 = .ok (.invokevirtual 85, 3) := dk_182 0 85 (dk_at dksX3_reason_2 18 rfl rfl)
theorem dX3_reason_69 : decode cX3_reason 69 = .ok (.ifCond .eq 7, 3) := dk_153 0 7 (dk_at dksX3_reason_2 21 rfl rfl)
theorem dX3_reason_72 : decode cX3_reason 72 = .ok (.iconst 5, 1) := dk_8 (dk_at dksX3_reason_3 0 rfl rfl)
theorem dX3_reason_73 : decode cX3_reason 73 = .ok (.goto 4, 3) := dk_167 0 4 (dk_at dksX3_reason_3 1 rfl rfl)
theorem dX3_reason_76 : decode cX3_reason 76 = .ok (.iconst 0, 1) := dk_3 (dk_at dksX3_reason_3 4 rfl rfl)
theorem dX3_reason_77 : decode cX3_reason 77 = .ok (.ireturn, 1) := dk_172 (dk_at dksX3_reason_3 5 rfl rfl)
abbrev cX3_arePair : ByteArray := prog_10_method_20_code
def yX3_arePair : MethodName := ⟨RX3, "arePair", "(II)Z"⟩
def dkwX3_arePair_4 : List UInt8 := [154, 0, 8, 21, 6, 153, 0, 7, 4, 167, 0, 4, 3, 62, 132, 4, 1, 167, 255, 151, 29, 172]
abbrev dktX3_arePair_4 : List UInt8 := dkwX3_arePair_4 ++ []
def dkwX3_arePair_3 : List UInt8 := [16, 67, 21, 4, 96, 46, 27, 160, 0, 7, 4, 167, 0, 4, 3, 54, 6, 29, 154, 0, 13, 21, 5]
abbrev dktX3_arePair_3 : List UInt8 := dkwX3_arePair_3 ++ dktX3_arePair_4
def dkwX3_arePair_2 : List UInt8 := [167, 0, 4, 3, 54, 5, 42, 180, 0, 7, 16, 51, 21, 4, 96, 46, 28, 160, 0, 21, 42, 180, 0, 7]
abbrev dktX3_arePair_2 : List UInt8 := dkwX3_arePair_2 ++ dktX3_arePair_3
def dkwX3_arePair_1 : List UInt8 := [21, 4, 96, 46, 27, 160, 0, 21, 42, 180, 0, 7, 16, 67, 21, 4, 96, 46, 28, 160, 0, 7, 4]
abbrev dktX3_arePair_1 : List UInt8 := dkwX3_arePair_1 ++ dktX3_arePair_2
def dkwX3_arePair_0 : List UInt8 := [3, 62, 3, 54, 4, 21, 4, 42, 180, 0, 7, 16, 50, 46, 162, 0, 99, 42, 180, 0, 7, 16, 51]
abbrev dktX3_arePair_0 : List UInt8 := dkwX3_arePair_0 ++ dktX3_arePair_1
theorem dksX3_arePair_0 : cX3_arePair.data.toList.drop 0 = dktX3_arePair_0 := by decide +kernel
theorem dksX3_arePair_1 : cX3_arePair.data.toList.drop 23 = dktX3_arePair_1 := dk_seg dksX3_arePair_0 23 rfl rfl
theorem dksX3_arePair_2 : cX3_arePair.data.toList.drop 46 = dktX3_arePair_2 := dk_seg dksX3_arePair_1 23 rfl rfl
theorem dksX3_arePair_3 : cX3_arePair.data.toList.drop 70 = dktX3_arePair_3 := dk_seg dksX3_arePair_2 24 rfl rfl
theorem dksX3_arePair_4 : cX3_arePair.data.toList.drop 93 = dktX3_arePair_4 := dk_seg dksX3_arePair_3 23 rfl rfl
theorem dX3_arePair_0 : decode cX3_arePair 0 = .ok (.iconst 0, 1) := dk_3 (dk_at dksX3_arePair_0 0 rfl rfl)
theorem dX3_arePair_1 : decode cX3_arePair 1 = .ok (.istore_n 3, 1) := dk_62 (dk_at dksX3_arePair_0 1 rfl rfl)
theorem dX3_arePair_2 : decode cX3_arePair 2 = .ok (.iconst 0, 1) := dk_3 (dk_at dksX3_arePair_0 2 rfl rfl)
theorem dX3_arePair_3 : decode cX3_arePair 3 = .ok (.istore 4, 2) := dk_54 4 (dk_at dksX3_arePair_0 3 rfl rfl)
theorem dX3_arePair_5 : decode cX3_arePair 5 = .ok (.iload 4, 2) := dk_21 4 (dk_at dksX3_arePair_0 5 rfl rfl)
theorem dX3_arePair_7 : decode cX3_arePair 7 = .ok (.aload_n 0, 1) := dk_42 (dk_at dksX3_arePair_0 7 rfl rfl)
theorem dX3_arePair_8 : decode cX3_arePair 8 = .ok (.getfield 7, 3) := dk_180 0 7 (dk_at dksX3_arePair_0 8 rfl rfl)
theorem dX3_arePair_11 : decode cX3_arePair 11 = .ok (.bipush 50, 2) := dk_16 50 (dk_at dksX3_arePair_0 11 rfl rfl)
theorem dX3_arePair_13 : decode cX3_arePair 13 = .ok (.iaload, 1) := dk_46 (dk_at dksX3_arePair_0 13 rfl rfl)
theorem dX3_arePair_14 : decode cX3_arePair 14 = .ok (.if_icmp .ge 99, 3) := dk_162 0 99 (dk_at dksX3_arePair_0 14 rfl rfl)
theorem dX3_arePair_17 : decode cX3_arePair 17 = .ok (.aload_n 0, 1) := dk_42 (dk_at dksX3_arePair_0 17 rfl rfl)
theorem dX3_arePair_18 : decode cX3_arePair 18 = .ok (.getfield 7, 3) := dk_180 0 7 (dk_at dksX3_arePair_0 18 rfl rfl)
theorem dX3_arePair_21 : decode cX3_arePair 21 = .ok (.bipush 51, 2) := dk_16 51 (dk_at dksX3_arePair_0 21 rfl rfl)
theorem dX3_arePair_23 : decode cX3_arePair 23 = .ok (.iload 4, 2) := dk_21 4 (dk_at dksX3_arePair_1 0 rfl rfl)
theorem dX3_arePair_25 : decode cX3_arePair 25 = .ok (.iadd, 1) := dk_96 (dk_at dksX3_arePair_1 2 rfl rfl)
theorem dX3_arePair_26 : decode cX3_arePair 26 = .ok (.iaload, 1) := dk_46 (dk_at dksX3_arePair_1 3 rfl rfl)
theorem dX3_arePair_27 : decode cX3_arePair 27 = .ok (.iload_n 1, 1) := dk_27 (dk_at dksX3_arePair_1 4 rfl rfl)
theorem dX3_arePair_28 : decode cX3_arePair 28 = .ok (.if_icmp .ne 21, 3) := dk_160 0 21 (dk_at dksX3_arePair_1 5 rfl rfl)
theorem dX3_arePair_31 : decode cX3_arePair 31 = .ok (.aload_n 0, 1) := dk_42 (dk_at dksX3_arePair_1 8 rfl rfl)
theorem dX3_arePair_32 : decode cX3_arePair 32 = .ok (.getfield 7, 3) := dk_180 0 7 (dk_at dksX3_arePair_1 9 rfl rfl)
theorem dX3_arePair_35 : decode cX3_arePair 35 = .ok (.bipush 67, 2) := dk_16 67 (dk_at dksX3_arePair_1 12 rfl rfl)
theorem dX3_arePair_37 : decode cX3_arePair 37 = .ok (.iload 4, 2) := dk_21 4 (dk_at dksX3_arePair_1 14 rfl rfl)
theorem dX3_arePair_39 : decode cX3_arePair 39 = .ok (.iadd, 1) := dk_96 (dk_at dksX3_arePair_1 16 rfl rfl)
theorem dX3_arePair_40 : decode cX3_arePair 40 = .ok (.iaload, 1) := dk_46 (dk_at dksX3_arePair_1 17 rfl rfl)
theorem dX3_arePair_41 : decode cX3_arePair 41 = .ok (.iload_n 2, 1) := dk_28 (dk_at dksX3_arePair_1 18 rfl rfl)
theorem dX3_arePair_42 : decode cX3_arePair 42 = .ok (.if_icmp .ne 7, 3) := dk_160 0 7 (dk_at dksX3_arePair_1 19 rfl rfl)
theorem dX3_arePair_45 : decode cX3_arePair 45 = .ok (.iconst 1, 1) := dk_4 (dk_at dksX3_arePair_1 22 rfl rfl)
theorem dX3_arePair_46 : decode cX3_arePair 46 = .ok (.goto 4, 3) := dk_167 0 4 (dk_at dksX3_arePair_2 0 rfl rfl)
theorem dX3_arePair_49 : decode cX3_arePair 49 = .ok (.iconst 0, 1) := dk_3 (dk_at dksX3_arePair_2 3 rfl rfl)
theorem dX3_arePair_50 : decode cX3_arePair 50 = .ok (.istore 5, 2) := dk_54 5 (dk_at dksX3_arePair_2 4 rfl rfl)
theorem dX3_arePair_52 : decode cX3_arePair 52 = .ok (.aload_n 0, 1) := dk_42 (dk_at dksX3_arePair_2 6 rfl rfl)
theorem dX3_arePair_53 : decode cX3_arePair 53 = .ok (.getfield 7, 3) := dk_180 0 7 (dk_at dksX3_arePair_2 7 rfl rfl)
theorem dX3_arePair_56 : decode cX3_arePair 56 = .ok (.bipush 51, 2) := dk_16 51 (dk_at dksX3_arePair_2 10 rfl rfl)
theorem dX3_arePair_58 : decode cX3_arePair 58 = .ok (.iload 4, 2) := dk_21 4 (dk_at dksX3_arePair_2 12 rfl rfl)
theorem dX3_arePair_60 : decode cX3_arePair 60 = .ok (.iadd, 1) := dk_96 (dk_at dksX3_arePair_2 14 rfl rfl)
theorem dX3_arePair_61 : decode cX3_arePair 61 = .ok (.iaload, 1) := dk_46 (dk_at dksX3_arePair_2 15 rfl rfl)
theorem dX3_arePair_62 : decode cX3_arePair 62 = .ok (.iload_n 2, 1) := dk_28 (dk_at dksX3_arePair_2 16 rfl rfl)
theorem dX3_arePair_63 : decode cX3_arePair 63 = .ok (.if_icmp .ne 21, 3) := dk_160 0 21 (dk_at dksX3_arePair_2 17 rfl rfl)
theorem dX3_arePair_66 : decode cX3_arePair 66 = .ok (.aload_n 0, 1) := dk_42 (dk_at dksX3_arePair_2 20 rfl rfl)
theorem dX3_arePair_67 : decode cX3_arePair 67 = .ok (.getfield 7, 3) := dk_180 0 7 (dk_at dksX3_arePair_2 21 rfl rfl)
theorem dX3_arePair_70 : decode cX3_arePair 70 = .ok (.bipush 67, 2) := dk_16 67 (dk_at dksX3_arePair_3 0 rfl rfl)
theorem dX3_arePair_72 : decode cX3_arePair 72 = .ok (.iload 4, 2) := dk_21 4 (dk_at dksX3_arePair_3 2 rfl rfl)
theorem dX3_arePair_74 : decode cX3_arePair 74 = .ok (.iadd, 1) := dk_96 (dk_at dksX3_arePair_3 4 rfl rfl)
theorem dX3_arePair_75 : decode cX3_arePair 75 = .ok (.iaload, 1) := dk_46 (dk_at dksX3_arePair_3 5 rfl rfl)
theorem dX3_arePair_76 : decode cX3_arePair 76 = .ok (.iload_n 1, 1) := dk_27 (dk_at dksX3_arePair_3 6 rfl rfl)
theorem dX3_arePair_77 : decode cX3_arePair 77 = .ok (.if_icmp .ne 7, 3) := dk_160 0 7 (dk_at dksX3_arePair_3 7 rfl rfl)
theorem dX3_arePair_80 : decode cX3_arePair 80 = .ok (.iconst 1, 1) := dk_4 (dk_at dksX3_arePair_3 10 rfl rfl)
theorem dX3_arePair_81 : decode cX3_arePair 81 = .ok (.goto 4, 3) := dk_167 0 4 (dk_at dksX3_arePair_3 11 rfl rfl)
theorem dX3_arePair_84 : decode cX3_arePair 84 = .ok (.iconst 0, 1) := dk_3 (dk_at dksX3_arePair_3 14 rfl rfl)
theorem dX3_arePair_85 : decode cX3_arePair 85 = .ok (.istore 6, 2) := dk_54 6 (dk_at dksX3_arePair_3 15 rfl rfl)
theorem dX3_arePair_87 : decode cX3_arePair 87 = .ok (.iload_n 3, 1) := dk_29 (dk_at dksX3_arePair_3 17 rfl rfl)
theorem dX3_arePair_88 : decode cX3_arePair 88 = .ok (.ifCond .ne 13, 3) := dk_154 0 13 (dk_at dksX3_arePair_3 18 rfl rfl)
theorem dX3_arePair_91 : decode cX3_arePair 91 = .ok (.iload 5, 2) := dk_21 5 (dk_at dksX3_arePair_3 21 rfl rfl)
theorem dX3_arePair_93 : decode cX3_arePair 93 = .ok (.ifCond .ne 8, 3) := dk_154 0 8 (dk_at dksX3_arePair_4 0 rfl rfl)
theorem dX3_arePair_96 : decode cX3_arePair 96 = .ok (.iload 6, 2) := dk_21 6 (dk_at dksX3_arePair_4 3 rfl rfl)
theorem dX3_arePair_98 : decode cX3_arePair 98 = .ok (.ifCond .eq 7, 3) := dk_153 0 7 (dk_at dksX3_arePair_4 5 rfl rfl)
theorem dX3_arePair_101 : decode cX3_arePair 101 = .ok (.iconst 1, 1) := dk_4 (dk_at dksX3_arePair_4 8 rfl rfl)
theorem dX3_arePair_102 : decode cX3_arePair 102 = .ok (.goto 4, 3) := dk_167 0 4 (dk_at dksX3_arePair_4 9 rfl rfl)
theorem dX3_arePair_105 : decode cX3_arePair 105 = .ok (.iconst 0, 1) := dk_3 (dk_at dksX3_arePair_4 12 rfl rfl)
theorem dX3_arePair_106 : decode cX3_arePair 106 = .ok (.istore_n 3, 1) := dk_62 (dk_at dksX3_arePair_4 13 rfl rfl)
theorem dX3_arePair_107 : decode cX3_arePair 107 = .ok (.iinc 4 1, 3) := dk_132 4 1 (dk_at dksX3_arePair_4 14 rfl rfl)
theorem dX3_arePair_110 : decode cX3_arePair 110 = .ok (.goto (-105), 3) := dk_167 255 151 (dk_at dksX3_arePair_4 17 rfl rfl)
theorem dX3_arePair_113 : decode cX3_arePair 113 = .ok (.iload_n 3, 1) := dk_29 (dk_at dksX3_arePair_4 20 rfl rfl)
theorem dX3_arePair_114 : decode cX3_arePair 114 = .ok (.ireturn, 1) := dk_172 (dk_at dksX3_arePair_4 21 rfl rfl)
abbrev cX3_adds : ByteArray := prog_10_method_21_code
def yX3_adds : MethodName := ⟨RX3, "adds", "(II)V"⟩
def dkwX3_adds_1 : List UInt8 := [180, 0, 7, 16, 50, 46, 96, 28, 79, 42, 180, 0, 7, 16, 50, 92, 46, 4, 96, 79, 177]
abbrev dktX3_adds_1 : List UInt8 := dkwX3_adds_1 ++ []
def dkwX3_adds_0 : List UInt8 := [42, 180, 0, 7, 16, 51, 42, 180, 0, 7, 16, 50, 46, 96, 27, 79, 42, 180, 0, 7, 16, 67, 42]
abbrev dktX3_adds_0 : List UInt8 := dkwX3_adds_0 ++ dktX3_adds_1
theorem dksX3_adds_0 : cX3_adds.data.toList.drop 0 = dktX3_adds_0 := by decide +kernel
theorem dksX3_adds_1 : cX3_adds.data.toList.drop 23 = dktX3_adds_1 := dk_seg dksX3_adds_0 23 rfl rfl
theorem dX3_adds_0 : decode cX3_adds 0 = .ok (.aload_n 0, 1) := dk_42 (dk_at dksX3_adds_0 0 rfl rfl)
theorem dX3_adds_1 : decode cX3_adds 1 = .ok (.getfield 7, 3) := dk_180 0 7 (dk_at dksX3_adds_0 1 rfl rfl)
theorem dX3_adds_4 : decode cX3_adds 4 = .ok (.bipush 51, 2) := dk_16 51 (dk_at dksX3_adds_0 4 rfl rfl)
theorem dX3_adds_6 : decode cX3_adds 6 = .ok (.aload_n 0, 1) := dk_42 (dk_at dksX3_adds_0 6 rfl rfl)
theorem dX3_adds_7 : decode cX3_adds 7 = .ok (.getfield 7, 3) := dk_180 0 7 (dk_at dksX3_adds_0 7 rfl rfl)
theorem dX3_adds_10 : decode cX3_adds 10 = .ok (.bipush 50, 2) := dk_16 50 (dk_at dksX3_adds_0 10 rfl rfl)
theorem dX3_adds_12 : decode cX3_adds 12 = .ok (.iaload, 1) := dk_46 (dk_at dksX3_adds_0 12 rfl rfl)
theorem dX3_adds_13 : decode cX3_adds 13 = .ok (.iadd, 1) := dk_96 (dk_at dksX3_adds_0 13 rfl rfl)
theorem dX3_adds_14 : decode cX3_adds 14 = .ok (.iload_n 1, 1) := dk_27 (dk_at dksX3_adds_0 14 rfl rfl)
theorem dX3_adds_15 : decode cX3_adds 15 = .ok (.iastore, 1) := dk_79 (dk_at dksX3_adds_0 15 rfl rfl)
theorem dX3_adds_16 : decode cX3_adds 16 = .ok (.aload_n 0, 1) := dk_42 (dk_at dksX3_adds_0 16 rfl rfl)
theorem dX3_adds_17 : decode cX3_adds 17 = .ok (.getfield 7, 3) := dk_180 0 7 (dk_at dksX3_adds_0 17 rfl rfl)
theorem dX3_adds_20 : decode cX3_adds 20 = .ok (.bipush 67, 2) := dk_16 67 (dk_at dksX3_adds_0 20 rfl rfl)
theorem dX3_adds_22 : decode cX3_adds 22 = .ok (.aload_n 0, 1) := dk_42 (dk_at dksX3_adds_0 22 rfl rfl)
theorem dX3_adds_23 : decode cX3_adds 23 = .ok (.getfield 7, 3) := dk_180 0 7 (dk_at dksX3_adds_1 0 rfl rfl)
theorem dX3_adds_26 : decode cX3_adds 26 = .ok (.bipush 50, 2) := dk_16 50 (dk_at dksX3_adds_1 3 rfl rfl)
theorem dX3_adds_28 : decode cX3_adds 28 = .ok (.iaload, 1) := dk_46 (dk_at dksX3_adds_1 5 rfl rfl)
theorem dX3_adds_29 : decode cX3_adds 29 = .ok (.iadd, 1) := dk_96 (dk_at dksX3_adds_1 6 rfl rfl)
theorem dX3_adds_30 : decode cX3_adds 30 = .ok (.iload_n 2, 1) := dk_28 (dk_at dksX3_adds_1 7 rfl rfl)
theorem dX3_adds_31 : decode cX3_adds 31 = .ok (.iastore, 1) := dk_79 (dk_at dksX3_adds_1 8 rfl rfl)
theorem dX3_adds_32 : decode cX3_adds 32 = .ok (.aload_n 0, 1) := dk_42 (dk_at dksX3_adds_1 9 rfl rfl)
theorem dX3_adds_33 : decode cX3_adds 33 = .ok (.getfield 7, 3) := dk_180 0 7 (dk_at dksX3_adds_1 10 rfl rfl)
theorem dX3_adds_36 : decode cX3_adds 36 = .ok (.bipush 50, 2) := dk_16 50 (dk_at dksX3_adds_1 13 rfl rfl)
theorem dX3_adds_38 : decode cX3_adds 38 = .ok (.dup2, 1) := dk_92 (dk_at dksX3_adds_1 15 rfl rfl)
theorem dX3_adds_39 : decode cX3_adds 39 = .ok (.iaload, 1) := dk_46 (dk_at dksX3_adds_1 16 rfl rfl)
theorem dX3_adds_40 : decode cX3_adds 40 = .ok (.iconst 1, 1) := dk_4 (dk_at dksX3_adds_1 17 rfl rfl)
theorem dX3_adds_41 : decode cX3_adds 41 = .ok (.iadd, 1) := dk_96 (dk_at dksX3_adds_1 18 rfl rfl)
theorem dX3_adds_42 : decode cX3_adds 42 = .ok (.iastore, 1) := dk_79 (dk_at dksX3_adds_1 19 rfl rfl)
theorem dX3_adds_43 : decode cX3_adds 43 = .ok (.return_, 1) := dk_177 (dk_at dksX3_adds_1 20 rfl rfl)
abbrev cX3_drives : ByteArray := prog_10_method_17_code
def yX3_drives : MethodName := ⟨RX3, "drives", "()Z"⟩
def dkwX3_drives_10 : List UInt8 := [132, 2, 1, 167, 255, 76, 27, 172]
abbrev dktX3_drives_10 : List UInt8 := dkwX3_drives_10 ++ []
def dkwX3_drives_9 : List UInt8 := [21, 6, 96, 46, 42, 180, 0, 7, 5, 21, 5, 96, 46, 182, 0, 69, 132, 4, 1, 167, 255, 120]
abbrev dktX3_drives_9 : List UInt8 := dkwX3_drives_9 ++ dktX3_drives_10
def dkwX3_drives_8 : List UInt8 := [96, 46, 29, 160, 0, 36, 42, 42, 180, 0, 7, 16, 26, 21, 5, 96, 46, 29, 42, 180, 0, 7, 5]
abbrev dktX3_drives_8 : List UInt8 := dkwX3_drives_8 ++ dktX3_drives_9
def dkwX3_drives_7 : List UInt8 := [46, 42, 180, 0, 7, 5, 21, 6, 96, 46, 182, 0, 69, 167, 0, 50, 42, 180, 0, 7, 16, 26, 21, 6]
abbrev dktX3_drives_7 : List UInt8 := dkwX3_drives_7 ++ dktX3_drives_8
def dkwX3_drives_6 : List UInt8 := [29, 160, 0, 39, 42, 42, 180, 0, 7, 16, 26, 21, 6, 96, 46, 29, 42, 180, 0, 7, 5, 21, 5, 96]
abbrev dktX3_drives_6 : List UInt8 := dkwX3_drives_6 ++ dktX3_drives_7
def dkwX3_drives_5 : List UInt8 := [54, 5, 42, 180, 0, 7, 16, 67, 21, 4, 96, 46, 54, 6, 42, 180, 0, 7, 16, 26, 21, 5, 96, 46]
abbrev dktX3_drives_5 : List UInt8 := dkwX3_drives_5 ++ dktX3_drives_6
def dkwX3_drives_4 : List UInt8 := [54, 4, 21, 4, 42, 180, 0, 7, 16, 50, 46, 162, 0, 130, 42, 180, 0, 7, 16, 51, 21, 4, 96, 46]
abbrev dktX3_drives_4 : List UInt8 := dkwX3_drives_4 ++ dktX3_drives_5
def dkwX3_drives_3 : List UInt8 := [28, 46, 62, 27, 153, 0, 17, 42, 180, 0, 25, 29, 46, 7, 163, 0, 7, 4, 167, 0, 4, 3, 60, 3]
abbrev dktX3_drives_3 : List UInt8 := dkwX3_drives_3 ++ dktX3_drives_4
def dkwX3_drives_2 : List UInt8 := [3, 3, 79, 42, 4, 181, 0, 62, 4, 60, 3, 61, 28, 42, 180, 0, 62, 162, 0, 178, 42, 180, 0, 35]
abbrev dktX3_drives_2 : List UInt8 := dkwX3_drives_2 ++ dktX3_drives_3
def dkwX3_drives_1 : List UInt8 := [180, 0, 25, 3, 3, 79, 42, 180, 0, 28, 3, 10, 80, 42, 180, 0, 32, 3, 10, 80, 42, 180, 0, 35]
abbrev dktX3_drives_1 : List UInt8 := dkwX3_drives_1 ++ dktX3_drives_2
def dkwX3_drives_0 : List UInt8 := [3, 60, 27, 16, 12, 162, 0, 16, 42, 180, 0, 25, 27, 2, 79, 132, 1, 1, 167, 255, 240, 42]
abbrev dktX3_drives_0 : List UInt8 := dkwX3_drives_0 ++ dktX3_drives_1
theorem dksX3_drives_0 : cX3_drives.data.toList.drop 0 = dktX3_drives_0 := by decide +kernel
theorem dksX3_drives_1 : cX3_drives.data.toList.drop 22 = dktX3_drives_1 := dk_seg dksX3_drives_0 22 rfl rfl
theorem dksX3_drives_2 : cX3_drives.data.toList.drop 46 = dktX3_drives_2 := dk_seg dksX3_drives_1 24 rfl rfl
theorem dksX3_drives_3 : cX3_drives.data.toList.drop 70 = dktX3_drives_3 := dk_seg dksX3_drives_2 24 rfl rfl
theorem dksX3_drives_4 : cX3_drives.data.toList.drop 94 = dktX3_drives_4 := dk_seg dksX3_drives_3 24 rfl rfl
theorem dksX3_drives_5 : cX3_drives.data.toList.drop 118 = dktX3_drives_5 := dk_seg dksX3_drives_4 24 rfl rfl
theorem dksX3_drives_6 : cX3_drives.data.toList.drop 142 = dktX3_drives_6 := dk_seg dksX3_drives_5 24 rfl rfl
theorem dksX3_drives_7 : cX3_drives.data.toList.drop 166 = dktX3_drives_7 := dk_seg dksX3_drives_6 24 rfl rfl
theorem dksX3_drives_8 : cX3_drives.data.toList.drop 190 = dktX3_drives_8 := dk_seg dksX3_drives_7 24 rfl rfl
theorem dksX3_drives_9 : cX3_drives.data.toList.drop 213 = dktX3_drives_9 := dk_seg dksX3_drives_8 23 rfl rfl
theorem dksX3_drives_10 : cX3_drives.data.toList.drop 235 = dktX3_drives_10 := dk_seg dksX3_drives_9 22 rfl rfl
theorem dX3_drives_0 : decode cX3_drives 0 = .ok (.iconst 0, 1) := dk_3 (dk_at dksX3_drives_0 0 rfl rfl)
theorem dX3_drives_1 : decode cX3_drives 1 = .ok (.istore_n 1, 1) := dk_60 (dk_at dksX3_drives_0 1 rfl rfl)
theorem dX3_drives_2 : decode cX3_drives 2 = .ok (.iload_n 1, 1) := dk_27 (dk_at dksX3_drives_0 2 rfl rfl)
theorem dX3_drives_3 : decode cX3_drives 3 = .ok (.bipush 12, 2) := dk_16 12 (dk_at dksX3_drives_0 3 rfl rfl)
theorem dX3_drives_5 : decode cX3_drives 5 = .ok (.if_icmp .ge 16, 3) := dk_162 0 16 (dk_at dksX3_drives_0 5 rfl rfl)
theorem dX3_drives_8 : decode cX3_drives 8 = .ok (.aload_n 0, 1) := dk_42 (dk_at dksX3_drives_0 8 rfl rfl)
theorem dX3_drives_9 : decode cX3_drives 9 = .ok (.getfield 25, 3) := dk_180 0 25 (dk_at dksX3_drives_0 9 rfl rfl)
theorem dX3_drives_12 : decode cX3_drives 12 = .ok (.iload_n 1, 1) := dk_27 (dk_at dksX3_drives_0 12 rfl rfl)
theorem dX3_drives_13 : decode cX3_drives 13 = .ok (.iconst (-1), 1) := dk_2 (dk_at dksX3_drives_0 13 rfl rfl)
theorem dX3_drives_14 : decode cX3_drives 14 = .ok (.iastore, 1) := dk_79 (dk_at dksX3_drives_0 14 rfl rfl)
theorem dX3_drives_15 : decode cX3_drives 15 = .ok (.iinc 1 1, 3) := dk_132 1 1 (dk_at dksX3_drives_0 15 rfl rfl)
theorem dX3_drives_18 : decode cX3_drives 18 = .ok (.goto (-16), 3) := dk_167 255 240 (dk_at dksX3_drives_0 18 rfl rfl)
theorem dX3_drives_21 : decode cX3_drives 21 = .ok (.aload_n 0, 1) := dk_42 (dk_at dksX3_drives_0 21 rfl rfl)
theorem dX3_drives_22 : decode cX3_drives 22 = .ok (.getfield 25, 3) := dk_180 0 25 (dk_at dksX3_drives_1 0 rfl rfl)
theorem dX3_drives_25 : decode cX3_drives 25 = .ok (.iconst 0, 1) := dk_3 (dk_at dksX3_drives_1 3 rfl rfl)
theorem dX3_drives_26 : decode cX3_drives 26 = .ok (.iconst 0, 1) := dk_3 (dk_at dksX3_drives_1 4 rfl rfl)
theorem dX3_drives_27 : decode cX3_drives 27 = .ok (.iastore, 1) := dk_79 (dk_at dksX3_drives_1 5 rfl rfl)
theorem dX3_drives_28 : decode cX3_drives 28 = .ok (.aload_n 0, 1) := dk_42 (dk_at dksX3_drives_1 6 rfl rfl)
theorem dX3_drives_29 : decode cX3_drives 29 = .ok (.getfield 28, 3) := dk_180 0 28 (dk_at dksX3_drives_1 7 rfl rfl)
theorem dX3_drives_32 : decode cX3_drives 32 = .ok (.iconst 0, 1) := dk_3 (dk_at dksX3_drives_1 10 rfl rfl)
theorem dX3_drives_33 : decode cX3_drives 33 = .ok (.lconst 1, 1) := dk_10 (dk_at dksX3_drives_1 11 rfl rfl)
theorem dX3_drives_34 : decode cX3_drives 34 = .ok (.lastore, 1) := dk_80 (dk_at dksX3_drives_1 12 rfl rfl)
theorem dX3_drives_35 : decode cX3_drives 35 = .ok (.aload_n 0, 1) := dk_42 (dk_at dksX3_drives_1 13 rfl rfl)
theorem dX3_drives_36 : decode cX3_drives 36 = .ok (.getfield 32, 3) := dk_180 0 32 (dk_at dksX3_drives_1 14 rfl rfl)
theorem dX3_drives_39 : decode cX3_drives 39 = .ok (.iconst 0, 1) := dk_3 (dk_at dksX3_drives_1 17 rfl rfl)
theorem dX3_drives_40 : decode cX3_drives 40 = .ok (.lconst 1, 1) := dk_10 (dk_at dksX3_drives_1 18 rfl rfl)
theorem dX3_drives_41 : decode cX3_drives 41 = .ok (.lastore, 1) := dk_80 (dk_at dksX3_drives_1 19 rfl rfl)
theorem dX3_drives_42 : decode cX3_drives 42 = .ok (.aload_n 0, 1) := dk_42 (dk_at dksX3_drives_1 20 rfl rfl)
theorem dX3_drives_43 : decode cX3_drives 43 = .ok (.getfield 35, 3) := dk_180 0 35 (dk_at dksX3_drives_1 21 rfl rfl)
theorem dX3_drives_46 : decode cX3_drives 46 = .ok (.iconst 0, 1) := dk_3 (dk_at dksX3_drives_2 0 rfl rfl)
theorem dX3_drives_47 : decode cX3_drives 47 = .ok (.iconst 0, 1) := dk_3 (dk_at dksX3_drives_2 1 rfl rfl)
theorem dX3_drives_48 : decode cX3_drives 48 = .ok (.iastore, 1) := dk_79 (dk_at dksX3_drives_2 2 rfl rfl)
theorem dX3_drives_49 : decode cX3_drives 49 = .ok (.aload_n 0, 1) := dk_42 (dk_at dksX3_drives_2 3 rfl rfl)
theorem dX3_drives_50 : decode cX3_drives 50 = .ok (.iconst 1, 1) := dk_4 (dk_at dksX3_drives_2 4 rfl rfl)
theorem dX3_drives_51 : decode cX3_drives 51 = .ok (.putfield 62, 3) := dk_181 0 62 (dk_at dksX3_drives_2 5 rfl rfl)
theorem dX3_drives_54 : decode cX3_drives 54 = .ok (.iconst 1, 1) := dk_4 (dk_at dksX3_drives_2 8 rfl rfl)
theorem dX3_drives_55 : decode cX3_drives 55 = .ok (.istore_n 1, 1) := dk_60 (dk_at dksX3_drives_2 9 rfl rfl)
theorem dX3_drives_56 : decode cX3_drives 56 = .ok (.iconst 0, 1) := dk_3 (dk_at dksX3_drives_2 10 rfl rfl)
theorem dX3_drives_57 : decode cX3_drives 57 = .ok (.istore_n 2, 1) := dk_61 (dk_at dksX3_drives_2 11 rfl rfl)
theorem dX3_drives_58 : decode cX3_drives 58 = .ok (.iload_n 2, 1) := dk_28 (dk_at dksX3_drives_2 12 rfl rfl)
theorem dX3_drives_59 : decode cX3_drives 59 = .ok (.aload_n 0, 1) := dk_42 (dk_at dksX3_drives_2 13 rfl rfl)
theorem dX3_drives_60 : decode cX3_drives 60 = .ok (.getfield 62, 3) := dk_180 0 62 (dk_at dksX3_drives_2 14 rfl rfl)
theorem dX3_drives_63 : decode cX3_drives 63 = .ok (.if_icmp .ge 178, 3) := dk_162 0 178 (dk_at dksX3_drives_2 17 rfl rfl)
theorem dX3_drives_66 : decode cX3_drives 66 = .ok (.aload_n 0, 1) := dk_42 (dk_at dksX3_drives_2 20 rfl rfl)
theorem dX3_drives_67 : decode cX3_drives 67 = .ok (.getfield 35, 3) := dk_180 0 35 (dk_at dksX3_drives_2 21 rfl rfl)
theorem dX3_drives_70 : decode cX3_drives 70 = .ok (.iload_n 2, 1) := dk_28 (dk_at dksX3_drives_3 0 rfl rfl)
theorem dX3_drives_71 : decode cX3_drives 71 = .ok (.iaload, 1) := dk_46 (dk_at dksX3_drives_3 1 rfl rfl)
theorem dX3_drives_72 : decode cX3_drives 72 = .ok (.istore_n 3, 1) := dk_62 (dk_at dksX3_drives_3 2 rfl rfl)
theorem dX3_drives_73 : decode cX3_drives 73 = .ok (.iload_n 1, 1) := dk_27 (dk_at dksX3_drives_3 3 rfl rfl)
theorem dX3_drives_74 : decode cX3_drives 74 = .ok (.ifCond .eq 17, 3) := dk_153 0 17 (dk_at dksX3_drives_3 4 rfl rfl)
theorem dX3_drives_77 : decode cX3_drives 77 = .ok (.aload_n 0, 1) := dk_42 (dk_at dksX3_drives_3 7 rfl rfl)
theorem dX3_drives_78 : decode cX3_drives 78 = .ok (.getfield 25, 3) := dk_180 0 25 (dk_at dksX3_drives_3 8 rfl rfl)
theorem dX3_drives_81 : decode cX3_drives 81 = .ok (.iload_n 3, 1) := dk_29 (dk_at dksX3_drives_3 11 rfl rfl)
theorem dX3_drives_82 : decode cX3_drives 82 = .ok (.iaload, 1) := dk_46 (dk_at dksX3_drives_3 12 rfl rfl)
theorem dX3_drives_83 : decode cX3_drives 83 = .ok (.iconst 4, 1) := dk_7 (dk_at dksX3_drives_3 13 rfl rfl)
theorem dX3_drives_84 : decode cX3_drives 84 = .ok (.if_icmp .gt 7, 3) := dk_163 0 7 (dk_at dksX3_drives_3 14 rfl rfl)
theorem dX3_drives_87 : decode cX3_drives 87 = .ok (.iconst 1, 1) := dk_4 (dk_at dksX3_drives_3 17 rfl rfl)
theorem dX3_drives_88 : decode cX3_drives 88 = .ok (.goto 4, 3) := dk_167 0 4 (dk_at dksX3_drives_3 18 rfl rfl)
theorem dX3_drives_91 : decode cX3_drives 91 = .ok (.iconst 0, 1) := dk_3 (dk_at dksX3_drives_3 21 rfl rfl)
theorem dX3_drives_92 : decode cX3_drives 92 = .ok (.istore_n 1, 1) := dk_60 (dk_at dksX3_drives_3 22 rfl rfl)
theorem dX3_drives_93 : decode cX3_drives 93 = .ok (.iconst 0, 1) := dk_3 (dk_at dksX3_drives_3 23 rfl rfl)
theorem dX3_drives_94 : decode cX3_drives 94 = .ok (.istore 4, 2) := dk_54 4 (dk_at dksX3_drives_4 0 rfl rfl)
theorem dX3_drives_96 : decode cX3_drives 96 = .ok (.iload 4, 2) := dk_21 4 (dk_at dksX3_drives_4 2 rfl rfl)
theorem dX3_drives_98 : decode cX3_drives 98 = .ok (.aload_n 0, 1) := dk_42 (dk_at dksX3_drives_4 4 rfl rfl)
theorem dX3_drives_99 : decode cX3_drives 99 = .ok (.getfield 7, 3) := dk_180 0 7 (dk_at dksX3_drives_4 5 rfl rfl)
theorem dX3_drives_102 : decode cX3_drives 102 = .ok (.bipush 50, 2) := dk_16 50 (dk_at dksX3_drives_4 8 rfl rfl)
theorem dX3_drives_104 : decode cX3_drives 104 = .ok (.iaload, 1) := dk_46 (dk_at dksX3_drives_4 10 rfl rfl)
theorem dX3_drives_105 : decode cX3_drives 105 = .ok (.if_icmp .ge 130, 3) := dk_162 0 130 (dk_at dksX3_drives_4 11 rfl rfl)
theorem dX3_drives_108 : decode cX3_drives 108 = .ok (.aload_n 0, 1) := dk_42 (dk_at dksX3_drives_4 14 rfl rfl)
theorem dX3_drives_109 : decode cX3_drives 109 = .ok (.getfield 7, 3) := dk_180 0 7 (dk_at dksX3_drives_4 15 rfl rfl)
theorem dX3_drives_112 : decode cX3_drives 112 = .ok (.bipush 51, 2) := dk_16 51 (dk_at dksX3_drives_4 18 rfl rfl)
theorem dX3_drives_114 : decode cX3_drives 114 = .ok (.iload 4, 2) := dk_21 4 (dk_at dksX3_drives_4 20 rfl rfl)
theorem dX3_drives_116 : decode cX3_drives 116 = .ok (.iadd, 1) := dk_96 (dk_at dksX3_drives_4 22 rfl rfl)
theorem dX3_drives_117 : decode cX3_drives 117 = .ok (.iaload, 1) := dk_46 (dk_at dksX3_drives_4 23 rfl rfl)
theorem dX3_drives_118 : decode cX3_drives 118 = .ok (.istore 5, 2) := dk_54 5 (dk_at dksX3_drives_5 0 rfl rfl)
theorem dX3_drives_120 : decode cX3_drives 120 = .ok (.aload_n 0, 1) := dk_42 (dk_at dksX3_drives_5 2 rfl rfl)
theorem dX3_drives_121 : decode cX3_drives 121 = .ok (.getfield 7, 3) := dk_180 0 7 (dk_at dksX3_drives_5 3 rfl rfl)
theorem dX3_drives_124 : decode cX3_drives 124 = .ok (.bipush 67, 2) := dk_16 67 (dk_at dksX3_drives_5 6 rfl rfl)
theorem dX3_drives_126 : decode cX3_drives 126 = .ok (.iload 4, 2) := dk_21 4 (dk_at dksX3_drives_5 8 rfl rfl)
theorem dX3_drives_128 : decode cX3_drives 128 = .ok (.iadd, 1) := dk_96 (dk_at dksX3_drives_5 10 rfl rfl)
theorem dX3_drives_129 : decode cX3_drives 129 = .ok (.iaload, 1) := dk_46 (dk_at dksX3_drives_5 11 rfl rfl)
theorem dX3_drives_130 : decode cX3_drives 130 = .ok (.istore 6, 2) := dk_54 6 (dk_at dksX3_drives_5 12 rfl rfl)
theorem dX3_drives_132 : decode cX3_drives 132 = .ok (.aload_n 0, 1) := dk_42 (dk_at dksX3_drives_5 14 rfl rfl)
theorem dX3_drives_133 : decode cX3_drives 133 = .ok (.getfield 7, 3) := dk_180 0 7 (dk_at dksX3_drives_5 15 rfl rfl)
theorem dX3_drives_136 : decode cX3_drives 136 = .ok (.bipush 26, 2) := dk_16 26 (dk_at dksX3_drives_5 18 rfl rfl)
theorem dX3_drives_138 : decode cX3_drives 138 = .ok (.iload 5, 2) := dk_21 5 (dk_at dksX3_drives_5 20 rfl rfl)
theorem dX3_drives_140 : decode cX3_drives 140 = .ok (.iadd, 1) := dk_96 (dk_at dksX3_drives_5 22 rfl rfl)
theorem dX3_drives_141 : decode cX3_drives 141 = .ok (.iaload, 1) := dk_46 (dk_at dksX3_drives_5 23 rfl rfl)
theorem dX3_drives_142 : decode cX3_drives 142 = .ok (.iload_n 3, 1) := dk_29 (dk_at dksX3_drives_6 0 rfl rfl)
theorem dX3_drives_143 : decode cX3_drives 143 = .ok (.if_icmp .ne 39, 3) := dk_160 0 39 (dk_at dksX3_drives_6 1 rfl rfl)
theorem dX3_drives_146 : decode cX3_drives 146 = .ok (.aload_n 0, 1) := dk_42 (dk_at dksX3_drives_6 4 rfl rfl)
theorem dX3_drives_147 : decode cX3_drives 147 = .ok (.aload_n 0, 1) := dk_42 (dk_at dksX3_drives_6 5 rfl rfl)
theorem dX3_drives_148 : decode cX3_drives 148 = .ok (.getfield 7, 3) := dk_180 0 7 (dk_at dksX3_drives_6 6 rfl rfl)
theorem dX3_drives_151 : decode cX3_drives 151 = .ok (.bipush 26, 2) := dk_16 26 (dk_at dksX3_drives_6 9 rfl rfl)
theorem dX3_drives_153 : decode cX3_drives 153 = .ok (.iload 6, 2) := dk_21 6 (dk_at dksX3_drives_6 11 rfl rfl)
theorem dX3_drives_155 : decode cX3_drives 155 = .ok (.iadd, 1) := dk_96 (dk_at dksX3_drives_6 13 rfl rfl)
theorem dX3_drives_156 : decode cX3_drives 156 = .ok (.iaload, 1) := dk_46 (dk_at dksX3_drives_6 14 rfl rfl)
theorem dX3_drives_157 : decode cX3_drives 157 = .ok (.iload_n 3, 1) := dk_29 (dk_at dksX3_drives_6 15 rfl rfl)
theorem dX3_drives_158 : decode cX3_drives 158 = .ok (.aload_n 0, 1) := dk_42 (dk_at dksX3_drives_6 16 rfl rfl)
theorem dX3_drives_159 : decode cX3_drives 159 = .ok (.getfield 7, 3) := dk_180 0 7 (dk_at dksX3_drives_6 17 rfl rfl)
theorem dX3_drives_162 : decode cX3_drives 162 = .ok (.iconst 2, 1) := dk_5 (dk_at dksX3_drives_6 20 rfl rfl)
theorem dX3_drives_163 : decode cX3_drives 163 = .ok (.iload 5, 2) := dk_21 5 (dk_at dksX3_drives_6 21 rfl rfl)
theorem dX3_drives_165 : decode cX3_drives 165 = .ok (.iadd, 1) := dk_96 (dk_at dksX3_drives_6 23 rfl rfl)
theorem dX3_drives_166 : decode cX3_drives 166 = .ok (.iaload, 1) := dk_46 (dk_at dksX3_drives_7 0 rfl rfl)
theorem dX3_drives_167 : decode cX3_drives 167 = .ok (.aload_n 0, 1) := dk_42 (dk_at dksX3_drives_7 1 rfl rfl)
theorem dX3_drives_168 : decode cX3_drives 168 = .ok (.getfield 7, 3) := dk_180 0 7 (dk_at dksX3_drives_7 2 rfl rfl)
theorem dX3_drives_171 : decode cX3_drives 171 = .ok (.iconst 2, 1) := dk_5 (dk_at dksX3_drives_7 5 rfl rfl)
theorem dX3_drives_172 : decode cX3_drives 172 = .ok (.iload 6, 2) := dk_21 6 (dk_at dksX3_drives_7 6 rfl rfl)
theorem dX3_drives_174 : decode cX3_drives 174 = .ok (.iadd, 1) := dk_96 (dk_at dksX3_drives_7 8 rfl rfl)
theorem dX3_drives_175 : decode cX3_drives 175 = .ok (.iaload, 1) := dk_46 (dk_at dksX3_drives_7 9 rfl rfl)
theorem dX3_drives_176 : decode cX3_drives 176 = .ok (.invokevirtual 69, 3) := dk_182 0 69 (dk_at dksX3_drives_7 10 rfl rfl)
theorem dX3_drives_179 : decode cX3_drives 179 = .ok (.goto 50, 3) := dk_167 0 50 (dk_at dksX3_drives_7 13 rfl rfl)
theorem dX3_drives_182 : decode cX3_drives 182 = .ok (.aload_n 0, 1) := dk_42 (dk_at dksX3_drives_7 16 rfl rfl)
theorem dX3_drives_183 : decode cX3_drives 183 = .ok (.getfield 7, 3) := dk_180 0 7 (dk_at dksX3_drives_7 17 rfl rfl)
theorem dX3_drives_186 : decode cX3_drives 186 = .ok (.bipush 26, 2) := dk_16 26 (dk_at dksX3_drives_7 20 rfl rfl)
theorem dX3_drives_188 : decode cX3_drives 188 = .ok (.iload 6, 2) := dk_21 6 (dk_at dksX3_drives_7 22 rfl rfl)
theorem dX3_drives_190 : decode cX3_drives 190 = .ok (.iadd, 1) := dk_96 (dk_at dksX3_drives_8 0 rfl rfl)
theorem dX3_drives_191 : decode cX3_drives 191 = .ok (.iaload, 1) := dk_46 (dk_at dksX3_drives_8 1 rfl rfl)
theorem dX3_drives_192 : decode cX3_drives 192 = .ok (.iload_n 3, 1) := dk_29 (dk_at dksX3_drives_8 2 rfl rfl)
theorem dX3_drives_193 : decode cX3_drives 193 = .ok (.if_icmp .ne 36, 3) := dk_160 0 36 (dk_at dksX3_drives_8 3 rfl rfl)
theorem dX3_drives_196 : decode cX3_drives 196 = .ok (.aload_n 0, 1) := dk_42 (dk_at dksX3_drives_8 6 rfl rfl)
theorem dX3_drives_197 : decode cX3_drives 197 = .ok (.aload_n 0, 1) := dk_42 (dk_at dksX3_drives_8 7 rfl rfl)
theorem dX3_drives_198 : decode cX3_drives 198 = .ok (.getfield 7, 3) := dk_180 0 7 (dk_at dksX3_drives_8 8 rfl rfl)
theorem dX3_drives_201 : decode cX3_drives 201 = .ok (.bipush 26, 2) := dk_16 26 (dk_at dksX3_drives_8 11 rfl rfl)
theorem dX3_drives_203 : decode cX3_drives 203 = .ok (.iload 5, 2) := dk_21 5 (dk_at dksX3_drives_8 13 rfl rfl)
theorem dX3_drives_205 : decode cX3_drives 205 = .ok (.iadd, 1) := dk_96 (dk_at dksX3_drives_8 15 rfl rfl)
theorem dX3_drives_206 : decode cX3_drives 206 = .ok (.iaload, 1) := dk_46 (dk_at dksX3_drives_8 16 rfl rfl)
theorem dX3_drives_207 : decode cX3_drives 207 = .ok (.iload_n 3, 1) := dk_29 (dk_at dksX3_drives_8 17 rfl rfl)
theorem dX3_drives_208 : decode cX3_drives 208 = .ok (.aload_n 0, 1) := dk_42 (dk_at dksX3_drives_8 18 rfl rfl)
theorem dX3_drives_209 : decode cX3_drives 209 = .ok (.getfield 7, 3) := dk_180 0 7 (dk_at dksX3_drives_8 19 rfl rfl)
theorem dX3_drives_212 : decode cX3_drives 212 = .ok (.iconst 2, 1) := dk_5 (dk_at dksX3_drives_8 22 rfl rfl)
theorem dX3_drives_213 : decode cX3_drives 213 = .ok (.iload 6, 2) := dk_21 6 (dk_at dksX3_drives_9 0 rfl rfl)
theorem dX3_drives_215 : decode cX3_drives 215 = .ok (.iadd, 1) := dk_96 (dk_at dksX3_drives_9 2 rfl rfl)
theorem dX3_drives_216 : decode cX3_drives 216 = .ok (.iaload, 1) := dk_46 (dk_at dksX3_drives_9 3 rfl rfl)
theorem dX3_drives_217 : decode cX3_drives 217 = .ok (.aload_n 0, 1) := dk_42 (dk_at dksX3_drives_9 4 rfl rfl)
theorem dX3_drives_218 : decode cX3_drives 218 = .ok (.getfield 7, 3) := dk_180 0 7 (dk_at dksX3_drives_9 5 rfl rfl)
theorem dX3_drives_221 : decode cX3_drives 221 = .ok (.iconst 2, 1) := dk_5 (dk_at dksX3_drives_9 8 rfl rfl)
theorem dX3_drives_222 : decode cX3_drives 222 = .ok (.iload 5, 2) := dk_21 5 (dk_at dksX3_drives_9 9 rfl rfl)
theorem dX3_drives_224 : decode cX3_drives 224 = .ok (.iadd, 1) := dk_96 (dk_at dksX3_drives_9 11 rfl rfl)
theorem dX3_drives_225 : decode cX3_drives 225 = .ok (.iaload, 1) := dk_46 (dk_at dksX3_drives_9 12 rfl rfl)
theorem dX3_drives_226 : decode cX3_drives 226 = .ok (.invokevirtual 69, 3) := dk_182 0 69 (dk_at dksX3_drives_9 13 rfl rfl)
theorem dX3_drives_229 : decode cX3_drives 229 = .ok (.iinc 4 1, 3) := dk_132 4 1 (dk_at dksX3_drives_9 16 rfl rfl)
theorem dX3_drives_232 : decode cX3_drives 232 = .ok (.goto (-136), 3) := dk_167 255 120 (dk_at dksX3_drives_9 19 rfl rfl)
theorem dX3_drives_235 : decode cX3_drives 235 = .ok (.iinc 2 1, 3) := dk_132 2 1 (dk_at dksX3_drives_10 0 rfl rfl)
theorem dX3_drives_238 : decode cX3_drives 238 = .ok (.goto (-180), 3) := dk_167 255 76 (dk_at dksX3_drives_10 3 rfl rfl)
theorem dX3_drives_241 : decode cX3_drives 241 = .ok (.iload_n 1, 1) := dk_27 (dk_at dksX3_drives_10 6 rfl rfl)
theorem dX3_drives_242 : decode cX3_drives 242 = .ok (.ireturn, 1) := dk_172 (dk_at dksX3_drives_10 7 rfl rfl)
abbrev cX3_comes : ByteArray := prog_10_method_16_code
def yX3_comes : MethodName := ⟨RX3, "comes", "(IIII)V"⟩
def dkwX3_comes_4 : List UInt8 := [27, 22, 5, 22, 9, 109, 80, 42, 180, 0, 32, 27, 22, 7, 22, 9, 109, 80, 177]
abbrev dktX3_comes_4 : List UInt8 := dkwX3_comes_4 ++ []
def dkwX3_comes_3 : List UInt8 := [180, 0, 32, 28, 47, 21, 4, 133, 105, 55, 7, 22, 5, 22, 7, 184, 0, 65, 55, 9, 42, 180, 0, 28]
abbrev dktX3_comes_3 : List UInt8 := dkwX3_comes_3 ++ dktX3_comes_4
def dkwX3_comes_2 : List UInt8 := [180, 0, 25, 27, 46, 7, 163, 0, 58, 42, 180, 0, 28, 28, 47, 117, 29, 133, 105, 55, 5, 42]
abbrev dktX3_comes_2 : List UInt8 := dkwX3_comes_2 ++ dktX3_comes_3
def dkwX3_comes_1 : List UInt8 := [79, 42, 180, 0, 35, 42, 180, 0, 62, 27, 79, 42, 89, 180, 0, 62, 4, 96, 181, 0, 62, 42]
abbrev dktX3_comes_1 : List UInt8 := dkwX3_comes_1 ++ dktX3_comes_2
def dkwX3_comes_0 : List UInt8 := [42, 180, 0, 25, 27, 46, 2, 159, 0, 4, 177, 42, 180, 0, 25, 27, 42, 180, 0, 25, 28, 46, 4, 96]
abbrev dktX3_comes_0 : List UInt8 := dkwX3_comes_0 ++ dktX3_comes_1
theorem dksX3_comes_0 : cX3_comes.data.toList.drop 0 = dktX3_comes_0 := by decide +kernel
theorem dksX3_comes_1 : cX3_comes.data.toList.drop 24 = dktX3_comes_1 := dk_seg dksX3_comes_0 24 rfl rfl
theorem dksX3_comes_2 : cX3_comes.data.toList.drop 46 = dktX3_comes_2 := dk_seg dksX3_comes_1 22 rfl rfl
theorem dksX3_comes_3 : cX3_comes.data.toList.drop 68 = dktX3_comes_3 := dk_seg dksX3_comes_2 22 rfl rfl
theorem dksX3_comes_4 : cX3_comes.data.toList.drop 92 = dktX3_comes_4 := dk_seg dksX3_comes_3 24 rfl rfl
theorem dX3_comes_0 : decode cX3_comes 0 = .ok (.aload_n 0, 1) := dk_42 (dk_at dksX3_comes_0 0 rfl rfl)
theorem dX3_comes_1 : decode cX3_comes 1 = .ok (.getfield 25, 3) := dk_180 0 25 (dk_at dksX3_comes_0 1 rfl rfl)
theorem dX3_comes_4 : decode cX3_comes 4 = .ok (.iload_n 1, 1) := dk_27 (dk_at dksX3_comes_0 4 rfl rfl)
theorem dX3_comes_5 : decode cX3_comes 5 = .ok (.iaload, 1) := dk_46 (dk_at dksX3_comes_0 5 rfl rfl)
theorem dX3_comes_6 : decode cX3_comes 6 = .ok (.iconst (-1), 1) := dk_2 (dk_at dksX3_comes_0 6 rfl rfl)
theorem dX3_comes_7 : decode cX3_comes 7 = .ok (.if_icmp .eq 4, 3) := dk_159 0 4 (dk_at dksX3_comes_0 7 rfl rfl)
theorem dX3_comes_10 : decode cX3_comes 10 = .ok (.return_, 1) := dk_177 (dk_at dksX3_comes_0 10 rfl rfl)
theorem dX3_comes_11 : decode cX3_comes 11 = .ok (.aload_n 0, 1) := dk_42 (dk_at dksX3_comes_0 11 rfl rfl)
theorem dX3_comes_12 : decode cX3_comes 12 = .ok (.getfield 25, 3) := dk_180 0 25 (dk_at dksX3_comes_0 12 rfl rfl)
theorem dX3_comes_15 : decode cX3_comes 15 = .ok (.iload_n 1, 1) := dk_27 (dk_at dksX3_comes_0 15 rfl rfl)
theorem dX3_comes_16 : decode cX3_comes 16 = .ok (.aload_n 0, 1) := dk_42 (dk_at dksX3_comes_0 16 rfl rfl)
theorem dX3_comes_17 : decode cX3_comes 17 = .ok (.getfield 25, 3) := dk_180 0 25 (dk_at dksX3_comes_0 17 rfl rfl)
theorem dX3_comes_20 : decode cX3_comes 20 = .ok (.iload_n 2, 1) := dk_28 (dk_at dksX3_comes_0 20 rfl rfl)
theorem dX3_comes_21 : decode cX3_comes 21 = .ok (.iaload, 1) := dk_46 (dk_at dksX3_comes_0 21 rfl rfl)
theorem dX3_comes_22 : decode cX3_comes 22 = .ok (.iconst 1, 1) := dk_4 (dk_at dksX3_comes_0 22 rfl rfl)
theorem dX3_comes_23 : decode cX3_comes 23 = .ok (.iadd, 1) := dk_96 (dk_at dksX3_comes_0 23 rfl rfl)
theorem dX3_comes_24 : decode cX3_comes 24 = .ok (.iastore, 1) := dk_79 (dk_at dksX3_comes_1 0 rfl rfl)
theorem dX3_comes_25 : decode cX3_comes 25 = .ok (.aload_n 0, 1) := dk_42 (dk_at dksX3_comes_1 1 rfl rfl)
theorem dX3_comes_26 : decode cX3_comes 26 = .ok (.getfield 35, 3) := dk_180 0 35 (dk_at dksX3_comes_1 2 rfl rfl)
theorem dX3_comes_29 : decode cX3_comes 29 = .ok (.aload_n 0, 1) := dk_42 (dk_at dksX3_comes_1 5 rfl rfl)
theorem dX3_comes_30 : decode cX3_comes 30 = .ok (.getfield 62, 3) := dk_180 0 62 (dk_at dksX3_comes_1 6 rfl rfl)
theorem dX3_comes_33 : decode cX3_comes 33 = .ok (.iload_n 1, 1) := dk_27 (dk_at dksX3_comes_1 9 rfl rfl)
theorem dX3_comes_34 : decode cX3_comes 34 = .ok (.iastore, 1) := dk_79 (dk_at dksX3_comes_1 10 rfl rfl)
theorem dX3_comes_35 : decode cX3_comes 35 = .ok (.aload_n 0, 1) := dk_42 (dk_at dksX3_comes_1 11 rfl rfl)
theorem dX3_comes_36 : decode cX3_comes 36 = .ok (.dup, 1) := dk_89 (dk_at dksX3_comes_1 12 rfl rfl)
theorem dX3_comes_37 : decode cX3_comes 37 = .ok (.getfield 62, 3) := dk_180 0 62 (dk_at dksX3_comes_1 13 rfl rfl)
theorem dX3_comes_40 : decode cX3_comes 40 = .ok (.iconst 1, 1) := dk_4 (dk_at dksX3_comes_1 16 rfl rfl)
theorem dX3_comes_41 : decode cX3_comes 41 = .ok (.iadd, 1) := dk_96 (dk_at dksX3_comes_1 17 rfl rfl)
theorem dX3_comes_42 : decode cX3_comes 42 = .ok (.putfield 62, 3) := dk_181 0 62 (dk_at dksX3_comes_1 18 rfl rfl)
theorem dX3_comes_45 : decode cX3_comes 45 = .ok (.aload_n 0, 1) := dk_42 (dk_at dksX3_comes_1 21 rfl rfl)
theorem dX3_comes_46 : decode cX3_comes 46 = .ok (.getfield 25, 3) := dk_180 0 25 (dk_at dksX3_comes_2 0 rfl rfl)
theorem dX3_comes_49 : decode cX3_comes 49 = .ok (.iload_n 1, 1) := dk_27 (dk_at dksX3_comes_2 3 rfl rfl)
theorem dX3_comes_50 : decode cX3_comes 50 = .ok (.iaload, 1) := dk_46 (dk_at dksX3_comes_2 4 rfl rfl)
theorem dX3_comes_51 : decode cX3_comes 51 = .ok (.iconst 4, 1) := dk_7 (dk_at dksX3_comes_2 5 rfl rfl)
theorem dX3_comes_52 : decode cX3_comes 52 = .ok (.if_icmp .gt 58, 3) := dk_163 0 58 (dk_at dksX3_comes_2 6 rfl rfl)
theorem dX3_comes_55 : decode cX3_comes 55 = .ok (.aload_n 0, 1) := dk_42 (dk_at dksX3_comes_2 9 rfl rfl)
theorem dX3_comes_56 : decode cX3_comes 56 = .ok (.getfield 28, 3) := dk_180 0 28 (dk_at dksX3_comes_2 10 rfl rfl)
theorem dX3_comes_59 : decode cX3_comes 59 = .ok (.iload_n 2, 1) := dk_28 (dk_at dksX3_comes_2 13 rfl rfl)
theorem dX3_comes_60 : decode cX3_comes 60 = .ok (.laload, 1) := dk_47 (dk_at dksX3_comes_2 14 rfl rfl)
theorem dX3_comes_61 : decode cX3_comes 61 = .ok (.lneg, 1) := dk_117 (dk_at dksX3_comes_2 15 rfl rfl)
theorem dX3_comes_62 : decode cX3_comes 62 = .ok (.iload_n 3, 1) := dk_29 (dk_at dksX3_comes_2 16 rfl rfl)
theorem dX3_comes_63 : decode cX3_comes 63 = .ok (.i2l, 1) := dk_133 (dk_at dksX3_comes_2 17 rfl rfl)
theorem dX3_comes_64 : decode cX3_comes 64 = .ok (.lmul, 1) := dk_105 (dk_at dksX3_comes_2 18 rfl rfl)
theorem dX3_comes_65 : decode cX3_comes 65 = .ok (.lstore 5, 2) := dk_55 5 (dk_at dksX3_comes_2 19 rfl rfl)
theorem dX3_comes_67 : decode cX3_comes 67 = .ok (.aload_n 0, 1) := dk_42 (dk_at dksX3_comes_2 21 rfl rfl)
theorem dX3_comes_68 : decode cX3_comes 68 = .ok (.getfield 32, 3) := dk_180 0 32 (dk_at dksX3_comes_3 0 rfl rfl)
theorem dX3_comes_71 : decode cX3_comes 71 = .ok (.iload_n 2, 1) := dk_28 (dk_at dksX3_comes_3 3 rfl rfl)
theorem dX3_comes_72 : decode cX3_comes 72 = .ok (.laload, 1) := dk_47 (dk_at dksX3_comes_3 4 rfl rfl)
theorem dX3_comes_73 : decode cX3_comes 73 = .ok (.iload 4, 2) := dk_21 4 (dk_at dksX3_comes_3 5 rfl rfl)
theorem dX3_comes_75 : decode cX3_comes 75 = .ok (.i2l, 1) := dk_133 (dk_at dksX3_comes_3 7 rfl rfl)
theorem dX3_comes_76 : decode cX3_comes 76 = .ok (.lmul, 1) := dk_105 (dk_at dksX3_comes_3 8 rfl rfl)
theorem dX3_comes_77 : decode cX3_comes 77 = .ok (.lstore 7, 2) := dk_55 7 (dk_at dksX3_comes_3 9 rfl rfl)
theorem dX3_comes_79 : decode cX3_comes 79 = .ok (.lload 5, 2) := dk_22 5 (dk_at dksX3_comes_3 11 rfl rfl)
theorem dX3_comes_81 : decode cX3_comes 81 = .ok (.lload 7, 2) := dk_22 7 (dk_at dksX3_comes_3 13 rfl rfl)
theorem dX3_comes_83 : decode cX3_comes 83 = .ok (.invokestatic 65, 3) := dk_184 0 65 (dk_at dksX3_comes_3 15 rfl rfl)
theorem dX3_comes_86 : decode cX3_comes 86 = .ok (.lstore 9, 2) := dk_55 9 (dk_at dksX3_comes_3 18 rfl rfl)
theorem dX3_comes_88 : decode cX3_comes 88 = .ok (.aload_n 0, 1) := dk_42 (dk_at dksX3_comes_3 20 rfl rfl)
theorem dX3_comes_89 : decode cX3_comes 89 = .ok (.getfield 28, 3) := dk_180 0 28 (dk_at dksX3_comes_3 21 rfl rfl)
theorem dX3_comes_92 : decode cX3_comes 92 = .ok (.iload_n 1, 1) := dk_27 (dk_at dksX3_comes_4 0 rfl rfl)
theorem dX3_comes_93 : decode cX3_comes 93 = .ok (.lload 5, 2) := dk_22 5 (dk_at dksX3_comes_4 1 rfl rfl)
theorem dX3_comes_95 : decode cX3_comes 95 = .ok (.lload 9, 2) := dk_22 9 (dk_at dksX3_comes_4 3 rfl rfl)
theorem dX3_comes_97 : decode cX3_comes 97 = .ok (.ldiv, 1) := dk_109 (dk_at dksX3_comes_4 5 rfl rfl)
theorem dX3_comes_98 : decode cX3_comes 98 = .ok (.lastore, 1) := dk_80 (dk_at dksX3_comes_4 6 rfl rfl)
theorem dX3_comes_99 : decode cX3_comes 99 = .ok (.aload_n 0, 1) := dk_42 (dk_at dksX3_comes_4 7 rfl rfl)
theorem dX3_comes_100 : decode cX3_comes 100 = .ok (.getfield 32, 3) := dk_180 0 32 (dk_at dksX3_comes_4 8 rfl rfl)
theorem dX3_comes_103 : decode cX3_comes 103 = .ok (.iload_n 1, 1) := dk_27 (dk_at dksX3_comes_4 11 rfl rfl)
theorem dX3_comes_104 : decode cX3_comes 104 = .ok (.lload 7, 2) := dk_22 7 (dk_at dksX3_comes_4 12 rfl rfl)
theorem dX3_comes_106 : decode cX3_comes 106 = .ok (.lload 9, 2) := dk_22 9 (dk_at dksX3_comes_4 14 rfl rfl)
theorem dX3_comes_108 : decode cX3_comes 108 = .ok (.ldiv, 1) := dk_109 (dk_at dksX3_comes_4 16 rfl rfl)
theorem dX3_comes_109 : decode cX3_comes 109 = .ok (.lastore, 1) := dk_80 (dk_at dksX3_comes_4 17 rfl rfl)
theorem dX3_comes_110 : decode cX3_comes 110 = .ok (.return_, 1) := dk_177 (dk_at dksX3_comes_4 18 rfl rfl)
abbrev cX3_divisor : ByteArray := prog_10_method_15_code
def yX3_divisor : MethodName := ⟨RX3, "divisor", "(JJ)J"⟩
def dkwX3_divisor_1 : List UInt8 := [22, 4, 22, 6, 113, 55, 8, 22, 6, 55, 4, 22, 8, 55, 6, 167, 255, 234, 22, 4, 173]
abbrev dktX3_divisor_1 : List UInt8 := dkwX3_divisor_1 ++ []
def dkwX3_divisor_0 : List UInt8 := [30, 9, 148, 156, 0, 8, 30, 117, 167, 0, 4, 30, 55, 4, 32, 55, 6, 22, 6, 9, 148, 153, 0, 21]
abbrev dktX3_divisor_0 : List UInt8 := dkwX3_divisor_0 ++ dktX3_divisor_1
theorem dksX3_divisor_0 : cX3_divisor.data.toList.drop 0 = dktX3_divisor_0 := by decide +kernel
theorem dksX3_divisor_1 : cX3_divisor.data.toList.drop 24 = dktX3_divisor_1 := dk_seg dksX3_divisor_0 24 rfl rfl
theorem dX3_divisor_0 : decode cX3_divisor 0 = .ok (.lload_n 0, 1) := dk_30 (dk_at dksX3_divisor_0 0 rfl rfl)
theorem dX3_divisor_1 : decode cX3_divisor 1 = .ok (.lconst 0, 1) := dk_9 (dk_at dksX3_divisor_0 1 rfl rfl)
theorem dX3_divisor_2 : decode cX3_divisor 2 = .ok (.lcmp, 1) := dk_148 (dk_at dksX3_divisor_0 2 rfl rfl)
theorem dX3_divisor_3 : decode cX3_divisor 3 = .ok (.ifCond .ge 8, 3) := dk_156 0 8 (dk_at dksX3_divisor_0 3 rfl rfl)
theorem dX3_divisor_6 : decode cX3_divisor 6 = .ok (.lload_n 0, 1) := dk_30 (dk_at dksX3_divisor_0 6 rfl rfl)
theorem dX3_divisor_7 : decode cX3_divisor 7 = .ok (.lneg, 1) := dk_117 (dk_at dksX3_divisor_0 7 rfl rfl)
theorem dX3_divisor_8 : decode cX3_divisor 8 = .ok (.goto 4, 3) := dk_167 0 4 (dk_at dksX3_divisor_0 8 rfl rfl)
theorem dX3_divisor_11 : decode cX3_divisor 11 = .ok (.lload_n 0, 1) := dk_30 (dk_at dksX3_divisor_0 11 rfl rfl)
theorem dX3_divisor_12 : decode cX3_divisor 12 = .ok (.lstore 4, 2) := dk_55 4 (dk_at dksX3_divisor_0 12 rfl rfl)
theorem dX3_divisor_14 : decode cX3_divisor 14 = .ok (.lload_n 2, 1) := dk_32 (dk_at dksX3_divisor_0 14 rfl rfl)
theorem dX3_divisor_15 : decode cX3_divisor 15 = .ok (.lstore 6, 2) := dk_55 6 (dk_at dksX3_divisor_0 15 rfl rfl)
theorem dX3_divisor_17 : decode cX3_divisor 17 = .ok (.lload 6, 2) := dk_22 6 (dk_at dksX3_divisor_0 17 rfl rfl)
theorem dX3_divisor_19 : decode cX3_divisor 19 = .ok (.lconst 0, 1) := dk_9 (dk_at dksX3_divisor_0 19 rfl rfl)
theorem dX3_divisor_20 : decode cX3_divisor 20 = .ok (.lcmp, 1) := dk_148 (dk_at dksX3_divisor_0 20 rfl rfl)
theorem dX3_divisor_21 : decode cX3_divisor 21 = .ok (.ifCond .eq 21, 3) := dk_153 0 21 (dk_at dksX3_divisor_0 21 rfl rfl)
theorem dX3_divisor_24 : decode cX3_divisor 24 = .ok (.lload 4, 2) := dk_22 4 (dk_at dksX3_divisor_1 0 rfl rfl)
theorem dX3_divisor_26 : decode cX3_divisor 26 = .ok (.lload 6, 2) := dk_22 6 (dk_at dksX3_divisor_1 2 rfl rfl)
theorem dX3_divisor_28 : decode cX3_divisor 28 = .ok (.lrem, 1) := dk_113 (dk_at dksX3_divisor_1 4 rfl rfl)
theorem dX3_divisor_29 : decode cX3_divisor 29 = .ok (.lstore 8, 2) := dk_55 8 (dk_at dksX3_divisor_1 5 rfl rfl)
theorem dX3_divisor_31 : decode cX3_divisor 31 = .ok (.lload 6, 2) := dk_22 6 (dk_at dksX3_divisor_1 7 rfl rfl)
theorem dX3_divisor_33 : decode cX3_divisor 33 = .ok (.lstore 4, 2) := dk_55 4 (dk_at dksX3_divisor_1 9 rfl rfl)
theorem dX3_divisor_35 : decode cX3_divisor 35 = .ok (.lload 8, 2) := dk_22 8 (dk_at dksX3_divisor_1 11 rfl rfl)
theorem dX3_divisor_37 : decode cX3_divisor 37 = .ok (.lstore 6, 2) := dk_55 6 (dk_at dksX3_divisor_1 13 rfl rfl)
theorem dX3_divisor_39 : decode cX3_divisor 39 = .ok (.goto (-22), 3) := dk_167 255 234 (dk_at dksX3_divisor_1 15 rfl rfl)
theorem dX3_divisor_42 : decode cX3_divisor 42 = .ok (.lload 4, 2) := dk_22 4 (dk_at dksX3_divisor_1 18 rfl rfl)
theorem dX3_divisor_44 : decode cX3_divisor 44 = .ok (.lreturn, 1) := dk_173 (dk_at dksX3_divisor_1 20 rfl rfl)
abbrev cX3_binds : ByteArray := prog_10_method_18_code
def yX3_binds : MethodName := ⟨RX3, "binds", "()Z"⟩
def dkwX3_binds_6 : List UInt8 := [153, 0, 7, 4, 167, 0, 4, 3, 60, 132, 2, 1, 167, 255, 108, 27, 172]
abbrev dktX3_binds_6 : List UInt8 := dkwX3_binds_6 ++ []
def dkwX3_binds_5 : List UInt8 := [96, 46, 133, 105, 42, 180, 0, 32, 29, 47, 105, 55, 7, 27, 154, 0, 12, 22, 5, 22, 7, 117, 148]
abbrev dktX3_binds_5 : List UInt8 := dkwX3_binds_5 ++ dktX3_binds_6
def dkwX3_binds_4 : List UInt8 := [105, 55, 5, 42, 180, 0, 28, 21, 4, 47, 42, 180, 0, 7, 5, 42, 180, 0, 7, 16, 67, 28, 96, 46]
abbrev dktX3_binds_4 : List UInt8 := dkwX3_binds_4 ++ dktX3_binds_5
def dkwX3_binds_3 : List UInt8 := [180, 0, 7, 5, 42, 180, 0, 7, 16, 51, 28, 96, 46, 96, 46, 133, 105, 42, 180, 0, 32, 21, 4, 47]
abbrev dktX3_binds_3 : List UInt8 := dkwX3_binds_3 ++ dktX3_binds_4
def dkwX3_binds_2 : List UInt8 := [96, 46, 96, 46, 54, 4, 42, 180, 0, 25, 29, 46, 2, 159, 0, 90, 42, 180, 0, 28, 29, 47, 42]
abbrev dktX3_binds_2 : List UInt8 := dkwX3_binds_2 ++ dktX3_binds_3
def dkwX3_binds_1 : List UInt8 := [180, 0, 7, 16, 51, 28, 96, 46, 96, 46, 62, 42, 180, 0, 7, 16, 26, 42, 180, 0, 7, 16, 67, 28]
abbrev dktX3_binds_1 : List UInt8 := dkwX3_binds_1 ++ dktX3_binds_2
def dkwX3_binds_0 : List UInt8 := [3, 60, 3, 61, 28, 42, 180, 0, 7, 16, 50, 46, 162, 0, 143, 42, 180, 0, 7, 16, 26, 42]
abbrev dktX3_binds_0 : List UInt8 := dkwX3_binds_0 ++ dktX3_binds_1
theorem dksX3_binds_0 : cX3_binds.data.toList.drop 0 = dktX3_binds_0 := by decide +kernel
theorem dksX3_binds_1 : cX3_binds.data.toList.drop 22 = dktX3_binds_1 := dk_seg dksX3_binds_0 22 rfl rfl
theorem dksX3_binds_2 : cX3_binds.data.toList.drop 46 = dktX3_binds_2 := dk_seg dksX3_binds_1 24 rfl rfl
theorem dksX3_binds_3 : cX3_binds.data.toList.drop 69 = dktX3_binds_3 := dk_seg dksX3_binds_2 23 rfl rfl
theorem dksX3_binds_4 : cX3_binds.data.toList.drop 93 = dktX3_binds_4 := dk_seg dksX3_binds_3 24 rfl rfl
theorem dksX3_binds_5 : cX3_binds.data.toList.drop 117 = dktX3_binds_5 := dk_seg dksX3_binds_4 24 rfl rfl
theorem dksX3_binds_6 : cX3_binds.data.toList.drop 140 = dktX3_binds_6 := dk_seg dksX3_binds_5 23 rfl rfl
theorem dX3_binds_0 : decode cX3_binds 0 = .ok (.iconst 0, 1) := dk_3 (dk_at dksX3_binds_0 0 rfl rfl)
theorem dX3_binds_1 : decode cX3_binds 1 = .ok (.istore_n 1, 1) := dk_60 (dk_at dksX3_binds_0 1 rfl rfl)
theorem dX3_binds_2 : decode cX3_binds 2 = .ok (.iconst 0, 1) := dk_3 (dk_at dksX3_binds_0 2 rfl rfl)
theorem dX3_binds_3 : decode cX3_binds 3 = .ok (.istore_n 2, 1) := dk_61 (dk_at dksX3_binds_0 3 rfl rfl)
theorem dX3_binds_4 : decode cX3_binds 4 = .ok (.iload_n 2, 1) := dk_28 (dk_at dksX3_binds_0 4 rfl rfl)
theorem dX3_binds_5 : decode cX3_binds 5 = .ok (.aload_n 0, 1) := dk_42 (dk_at dksX3_binds_0 5 rfl rfl)
theorem dX3_binds_6 : decode cX3_binds 6 = .ok (.getfield 7, 3) := dk_180 0 7 (dk_at dksX3_binds_0 6 rfl rfl)
theorem dX3_binds_9 : decode cX3_binds 9 = .ok (.bipush 50, 2) := dk_16 50 (dk_at dksX3_binds_0 9 rfl rfl)
theorem dX3_binds_11 : decode cX3_binds 11 = .ok (.iaload, 1) := dk_46 (dk_at dksX3_binds_0 11 rfl rfl)
theorem dX3_binds_12 : decode cX3_binds 12 = .ok (.if_icmp .ge 143, 3) := dk_162 0 143 (dk_at dksX3_binds_0 12 rfl rfl)
theorem dX3_binds_15 : decode cX3_binds 15 = .ok (.aload_n 0, 1) := dk_42 (dk_at dksX3_binds_0 15 rfl rfl)
theorem dX3_binds_16 : decode cX3_binds 16 = .ok (.getfield 7, 3) := dk_180 0 7 (dk_at dksX3_binds_0 16 rfl rfl)
theorem dX3_binds_19 : decode cX3_binds 19 = .ok (.bipush 26, 2) := dk_16 26 (dk_at dksX3_binds_0 19 rfl rfl)
theorem dX3_binds_21 : decode cX3_binds 21 = .ok (.aload_n 0, 1) := dk_42 (dk_at dksX3_binds_0 21 rfl rfl)
theorem dX3_binds_22 : decode cX3_binds 22 = .ok (.getfield 7, 3) := dk_180 0 7 (dk_at dksX3_binds_1 0 rfl rfl)
theorem dX3_binds_25 : decode cX3_binds 25 = .ok (.bipush 51, 2) := dk_16 51 (dk_at dksX3_binds_1 3 rfl rfl)
theorem dX3_binds_27 : decode cX3_binds 27 = .ok (.iload_n 2, 1) := dk_28 (dk_at dksX3_binds_1 5 rfl rfl)
theorem dX3_binds_28 : decode cX3_binds 28 = .ok (.iadd, 1) := dk_96 (dk_at dksX3_binds_1 6 rfl rfl)
theorem dX3_binds_29 : decode cX3_binds 29 = .ok (.iaload, 1) := dk_46 (dk_at dksX3_binds_1 7 rfl rfl)
theorem dX3_binds_30 : decode cX3_binds 30 = .ok (.iadd, 1) := dk_96 (dk_at dksX3_binds_1 8 rfl rfl)
theorem dX3_binds_31 : decode cX3_binds 31 = .ok (.iaload, 1) := dk_46 (dk_at dksX3_binds_1 9 rfl rfl)
theorem dX3_binds_32 : decode cX3_binds 32 = .ok (.istore_n 3, 1) := dk_62 (dk_at dksX3_binds_1 10 rfl rfl)
theorem dX3_binds_33 : decode cX3_binds 33 = .ok (.aload_n 0, 1) := dk_42 (dk_at dksX3_binds_1 11 rfl rfl)
theorem dX3_binds_34 : decode cX3_binds 34 = .ok (.getfield 7, 3) := dk_180 0 7 (dk_at dksX3_binds_1 12 rfl rfl)
theorem dX3_binds_37 : decode cX3_binds 37 = .ok (.bipush 26, 2) := dk_16 26 (dk_at dksX3_binds_1 15 rfl rfl)
theorem dX3_binds_39 : decode cX3_binds 39 = .ok (.aload_n 0, 1) := dk_42 (dk_at dksX3_binds_1 17 rfl rfl)
theorem dX3_binds_40 : decode cX3_binds 40 = .ok (.getfield 7, 3) := dk_180 0 7 (dk_at dksX3_binds_1 18 rfl rfl)
theorem dX3_binds_43 : decode cX3_binds 43 = .ok (.bipush 67, 2) := dk_16 67 (dk_at dksX3_binds_1 21 rfl rfl)
theorem dX3_binds_45 : decode cX3_binds 45 = .ok (.iload_n 2, 1) := dk_28 (dk_at dksX3_binds_1 23 rfl rfl)
theorem dX3_binds_46 : decode cX3_binds 46 = .ok (.iadd, 1) := dk_96 (dk_at dksX3_binds_2 0 rfl rfl)
theorem dX3_binds_47 : decode cX3_binds 47 = .ok (.iaload, 1) := dk_46 (dk_at dksX3_binds_2 1 rfl rfl)
theorem dX3_binds_48 : decode cX3_binds 48 = .ok (.iadd, 1) := dk_96 (dk_at dksX3_binds_2 2 rfl rfl)
theorem dX3_binds_49 : decode cX3_binds 49 = .ok (.iaload, 1) := dk_46 (dk_at dksX3_binds_2 3 rfl rfl)
theorem dX3_binds_50 : decode cX3_binds 50 = .ok (.istore 4, 2) := dk_54 4 (dk_at dksX3_binds_2 4 rfl rfl)
theorem dX3_binds_52 : decode cX3_binds 52 = .ok (.aload_n 0, 1) := dk_42 (dk_at dksX3_binds_2 6 rfl rfl)
theorem dX3_binds_53 : decode cX3_binds 53 = .ok (.getfield 25, 3) := dk_180 0 25 (dk_at dksX3_binds_2 7 rfl rfl)
theorem dX3_binds_56 : decode cX3_binds 56 = .ok (.iload_n 3, 1) := dk_29 (dk_at dksX3_binds_2 10 rfl rfl)
theorem dX3_binds_57 : decode cX3_binds 57 = .ok (.iaload, 1) := dk_46 (dk_at dksX3_binds_2 11 rfl rfl)
theorem dX3_binds_58 : decode cX3_binds 58 = .ok (.iconst (-1), 1) := dk_2 (dk_at dksX3_binds_2 12 rfl rfl)
theorem dX3_binds_59 : decode cX3_binds 59 = .ok (.if_icmp .eq 90, 3) := dk_159 0 90 (dk_at dksX3_binds_2 13 rfl rfl)
theorem dX3_binds_62 : decode cX3_binds 62 = .ok (.aload_n 0, 1) := dk_42 (dk_at dksX3_binds_2 16 rfl rfl)
theorem dX3_binds_63 : decode cX3_binds 63 = .ok (.getfield 28, 3) := dk_180 0 28 (dk_at dksX3_binds_2 17 rfl rfl)
theorem dX3_binds_66 : decode cX3_binds 66 = .ok (.iload_n 3, 1) := dk_29 (dk_at dksX3_binds_2 20 rfl rfl)
theorem dX3_binds_67 : decode cX3_binds 67 = .ok (.laload, 1) := dk_47 (dk_at dksX3_binds_2 21 rfl rfl)
theorem dX3_binds_68 : decode cX3_binds 68 = .ok (.aload_n 0, 1) := dk_42 (dk_at dksX3_binds_2 22 rfl rfl)
theorem dX3_binds_69 : decode cX3_binds 69 = .ok (.getfield 7, 3) := dk_180 0 7 (dk_at dksX3_binds_3 0 rfl rfl)
theorem dX3_binds_72 : decode cX3_binds 72 = .ok (.iconst 2, 1) := dk_5 (dk_at dksX3_binds_3 3 rfl rfl)
theorem dX3_binds_73 : decode cX3_binds 73 = .ok (.aload_n 0, 1) := dk_42 (dk_at dksX3_binds_3 4 rfl rfl)
theorem dX3_binds_74 : decode cX3_binds 74 = .ok (.getfield 7, 3) := dk_180 0 7 (dk_at dksX3_binds_3 5 rfl rfl)
theorem dX3_binds_77 : decode cX3_binds 77 = .ok (.bipush 51, 2) := dk_16 51 (dk_at dksX3_binds_3 8 rfl rfl)
theorem dX3_binds_79 : decode cX3_binds 79 = .ok (.iload_n 2, 1) := dk_28 (dk_at dksX3_binds_3 10 rfl rfl)
theorem dX3_binds_80 : decode cX3_binds 80 = .ok (.iadd, 1) := dk_96 (dk_at dksX3_binds_3 11 rfl rfl)
theorem dX3_binds_81 : decode cX3_binds 81 = .ok (.iaload, 1) := dk_46 (dk_at dksX3_binds_3 12 rfl rfl)
theorem dX3_binds_82 : decode cX3_binds 82 = .ok (.iadd, 1) := dk_96 (dk_at dksX3_binds_3 13 rfl rfl)
theorem dX3_binds_83 : decode cX3_binds 83 = .ok (.iaload, 1) := dk_46 (dk_at dksX3_binds_3 14 rfl rfl)
theorem dX3_binds_84 : decode cX3_binds 84 = .ok (.i2l, 1) := dk_133 (dk_at dksX3_binds_3 15 rfl rfl)
theorem dX3_binds_85 : decode cX3_binds 85 = .ok (.lmul, 1) := dk_105 (dk_at dksX3_binds_3 16 rfl rfl)
theorem dX3_binds_86 : decode cX3_binds 86 = .ok (.aload_n 0, 1) := dk_42 (dk_at dksX3_binds_3 17 rfl rfl)
theorem dX3_binds_87 : decode cX3_binds 87 = .ok (.getfield 32, 3) := dk_180 0 32 (dk_at dksX3_binds_3 18 rfl rfl)
theorem dX3_binds_90 : decode cX3_binds 90 = .ok (.iload 4, 2) := dk_21 4 (dk_at dksX3_binds_3 21 rfl rfl)
theorem dX3_binds_92 : decode cX3_binds 92 = .ok (.laload, 1) := dk_47 (dk_at dksX3_binds_3 23 rfl rfl)
theorem dX3_binds_93 : decode cX3_binds 93 = .ok (.lmul, 1) := dk_105 (dk_at dksX3_binds_4 0 rfl rfl)
theorem dX3_binds_94 : decode cX3_binds 94 = .ok (.lstore 5, 2) := dk_55 5 (dk_at dksX3_binds_4 1 rfl rfl)
theorem dX3_binds_96 : decode cX3_binds 96 = .ok (.aload_n 0, 1) := dk_42 (dk_at dksX3_binds_4 3 rfl rfl)
theorem dX3_binds_97 : decode cX3_binds 97 = .ok (.getfield 28, 3) := dk_180 0 28 (dk_at dksX3_binds_4 4 rfl rfl)
theorem dX3_binds_100 : decode cX3_binds 100 = .ok (.iload 4, 2) := dk_21 4 (dk_at dksX3_binds_4 7 rfl rfl)
theorem dX3_binds_102 : decode cX3_binds 102 = .ok (.laload, 1) := dk_47 (dk_at dksX3_binds_4 9 rfl rfl)
theorem dX3_binds_103 : decode cX3_binds 103 = .ok (.aload_n 0, 1) := dk_42 (dk_at dksX3_binds_4 10 rfl rfl)
theorem dX3_binds_104 : decode cX3_binds 104 = .ok (.getfield 7, 3) := dk_180 0 7 (dk_at dksX3_binds_4 11 rfl rfl)
theorem dX3_binds_107 : decode cX3_binds 107 = .ok (.iconst 2, 1) := dk_5 (dk_at dksX3_binds_4 14 rfl rfl)
theorem dX3_binds_108 : decode cX3_binds 108 = .ok (.aload_n 0, 1) := dk_42 (dk_at dksX3_binds_4 15 rfl rfl)
theorem dX3_binds_109 : decode cX3_binds 109 = .ok (.getfield 7, 3) := dk_180 0 7 (dk_at dksX3_binds_4 16 rfl rfl)
theorem dX3_binds_112 : decode cX3_binds 112 = .ok (.bipush 67, 2) := dk_16 67 (dk_at dksX3_binds_4 19 rfl rfl)
theorem dX3_binds_114 : decode cX3_binds 114 = .ok (.iload_n 2, 1) := dk_28 (dk_at dksX3_binds_4 21 rfl rfl)
theorem dX3_binds_115 : decode cX3_binds 115 = .ok (.iadd, 1) := dk_96 (dk_at dksX3_binds_4 22 rfl rfl)
theorem dX3_binds_116 : decode cX3_binds 116 = .ok (.iaload, 1) := dk_46 (dk_at dksX3_binds_4 23 rfl rfl)
theorem dX3_binds_117 : decode cX3_binds 117 = .ok (.iadd, 1) := dk_96 (dk_at dksX3_binds_5 0 rfl rfl)
theorem dX3_binds_118 : decode cX3_binds 118 = .ok (.iaload, 1) := dk_46 (dk_at dksX3_binds_5 1 rfl rfl)
theorem dX3_binds_119 : decode cX3_binds 119 = .ok (.i2l, 1) := dk_133 (dk_at dksX3_binds_5 2 rfl rfl)
theorem dX3_binds_120 : decode cX3_binds 120 = .ok (.lmul, 1) := dk_105 (dk_at dksX3_binds_5 3 rfl rfl)
theorem dX3_binds_121 : decode cX3_binds 121 = .ok (.aload_n 0, 1) := dk_42 (dk_at dksX3_binds_5 4 rfl rfl)
theorem dX3_binds_122 : decode cX3_binds 122 = .ok (.getfield 32, 3) := dk_180 0 32 (dk_at dksX3_binds_5 5 rfl rfl)
theorem dX3_binds_125 : decode cX3_binds 125 = .ok (.iload_n 3, 1) := dk_29 (dk_at dksX3_binds_5 8 rfl rfl)
theorem dX3_binds_126 : decode cX3_binds 126 = .ok (.laload, 1) := dk_47 (dk_at dksX3_binds_5 9 rfl rfl)
theorem dX3_binds_127 : decode cX3_binds 127 = .ok (.lmul, 1) := dk_105 (dk_at dksX3_binds_5 10 rfl rfl)
theorem dX3_binds_128 : decode cX3_binds 128 = .ok (.lstore 7, 2) := dk_55 7 (dk_at dksX3_binds_5 11 rfl rfl)
theorem dX3_binds_130 : decode cX3_binds 130 = .ok (.iload_n 1, 1) := dk_27 (dk_at dksX3_binds_5 13 rfl rfl)
theorem dX3_binds_131 : decode cX3_binds 131 = .ok (.ifCond .ne 12, 3) := dk_154 0 12 (dk_at dksX3_binds_5 14 rfl rfl)
theorem dX3_binds_134 : decode cX3_binds 134 = .ok (.lload 5, 2) := dk_22 5 (dk_at dksX3_binds_5 17 rfl rfl)
theorem dX3_binds_136 : decode cX3_binds 136 = .ok (.lload 7, 2) := dk_22 7 (dk_at dksX3_binds_5 19 rfl rfl)
theorem dX3_binds_138 : decode cX3_binds 138 = .ok (.lneg, 1) := dk_117 (dk_at dksX3_binds_5 21 rfl rfl)
theorem dX3_binds_139 : decode cX3_binds 139 = .ok (.lcmp, 1) := dk_148 (dk_at dksX3_binds_5 22 rfl rfl)
theorem dX3_binds_140 : decode cX3_binds 140 = .ok (.ifCond .eq 7, 3) := dk_153 0 7 (dk_at dksX3_binds_6 0 rfl rfl)
theorem dX3_binds_143 : decode cX3_binds 143 = .ok (.iconst 1, 1) := dk_4 (dk_at dksX3_binds_6 3 rfl rfl)
theorem dX3_binds_144 : decode cX3_binds 144 = .ok (.goto 4, 3) := dk_167 0 4 (dk_at dksX3_binds_6 4 rfl rfl)
theorem dX3_binds_147 : decode cX3_binds 147 = .ok (.iconst 0, 1) := dk_3 (dk_at dksX3_binds_6 7 rfl rfl)
theorem dX3_binds_148 : decode cX3_binds 148 = .ok (.istore_n 1, 1) := dk_60 (dk_at dksX3_binds_6 8 rfl rfl)
theorem dX3_binds_149 : decode cX3_binds 149 = .ok (.iinc 2 1, 3) := dk_132 2 1 (dk_at dksX3_binds_6 9 rfl rfl)
theorem dX3_binds_152 : decode cX3_binds 152 = .ok (.goto (-148), 3) := dk_167 255 108 (dk_at dksX3_binds_6 12 rfl rfl)
theorem dX3_binds_155 : decode cX3_binds 155 = .ok (.iload_n 1, 1) := dk_27 (dk_at dksX3_binds_6 15 rfl rfl)
theorem dX3_binds_156 : decode cX3_binds 156 = .ok (.ireturn, 1) := dk_172 (dk_at dksX3_binds_6 16 rfl rfl)
abbrev cX3_drivenNow : ByteArray := prog_10_method_19_code
def yX3_drivenNow : MethodName := ⟨RX3, "drivenNow", "()I"⟩
def dkwX3_drivenNow_0 : List UInt8 := [42, 182, 0, 73, 87, 42, 180, 0, 62, 172]
abbrev dktX3_drivenNow_0 : List UInt8 := dkwX3_drivenNow_0 ++ []
theorem dksX3_drivenNow_0 : cX3_drivenNow.data.toList.drop 0 = dktX3_drivenNow_0 := by decide +kernel
theorem dX3_drivenNow_0 : decode cX3_drivenNow 0 = .ok (.aload_n 0, 1) := dk_42 (dk_at dksX3_drivenNow_0 0 rfl rfl)
theorem dX3_drivenNow_1 : decode cX3_drivenNow 1 = .ok (.invokevirtual 73, 3) := dk_182 0 73 (dk_at dksX3_drivenNow_0 1 rfl rfl)
theorem dX3_drivenNow_4 : decode cX3_drivenNow 4 = .ok (.pop, 1) := dk_87 (dk_at dksX3_drivenNow_0 4 rfl rfl)
theorem dX3_drivenNow_5 : decode cX3_drivenNow 5 = .ok (.aload_n 0, 1) := dk_42 (dk_at dksX3_drivenNow_0 5 rfl rfl)
theorem dX3_drivenNow_6 : decode cX3_drivenNow 6 = .ok (.getfield 62, 3) := dk_180 0 62 (dk_at dksX3_drivenNow_0 6 rfl rfl)
theorem dX3_drivenNow_9 : decode cX3_drivenNow 9 = .ok (.ireturn, 1) := dk_172 (dk_at dksX3_drivenNow_0 9 rfl rfl)
abbrev cX3_unmesh : ByteArray := prog_10_method_35_code
def yX3_unmesh : MethodName := ⟨RX3, "unmesh", "(I)I"⟩
def dkwX3_unmesh_0 : List UInt8 := [42, 182, 0, 113, 42, 42, 27, 182, 0, 128, 182, 0, 119, 172]
abbrev dktX3_unmesh_0 : List UInt8 := dkwX3_unmesh_0 ++ []
theorem dksX3_unmesh_0 : cX3_unmesh.data.toList.drop 0 = dktX3_unmesh_0 := by decide +kernel
theorem dX3_unmesh_0 : decode cX3_unmesh 0 = .ok (.aload_n 0, 1) := dk_42 (dk_at dksX3_unmesh_0 0 rfl rfl)
theorem dX3_unmesh_1 : decode cX3_unmesh 1 = .ok (.invokevirtual 113, 3) := dk_182 0 113 (dk_at dksX3_unmesh_0 1 rfl rfl)
theorem dX3_unmesh_4 : decode cX3_unmesh 4 = .ok (.aload_n 0, 1) := dk_42 (dk_at dksX3_unmesh_0 4 rfl rfl)
theorem dX3_unmesh_5 : decode cX3_unmesh 5 = .ok (.aload_n 0, 1) := dk_42 (dk_at dksX3_unmesh_0 5 rfl rfl)
theorem dX3_unmesh_6 : decode cX3_unmesh 6 = .ok (.iload_n 1, 1) := dk_27 (dk_at dksX3_unmesh_0 6 rfl rfl)
theorem dX3_unmesh_7 : decode cX3_unmesh 7 = .ok (.invokevirtual 128, 3) := dk_182 0 128 (dk_at dksX3_unmesh_0 7 rfl rfl)
theorem dX3_unmesh_10 : decode cX3_unmesh 10 = .ok (.invokevirtual 119, 3) := dk_182 0 119 (dk_at dksX3_unmesh_0 10 rfl rfl)
theorem dX3_unmesh_13 : decode cX3_unmesh 13 = .ok (.ireturn, 1) := dk_172 (dk_at dksX3_unmesh_0 13 rfl rfl)
abbrev cX3_goUnmesh : ByteArray := prog_10_method_28_code
def yX3_goUnmesh : MethodName := ⟨RX3, "goUnmesh", "(I)I"⟩
def dkwX3_goUnmesh_5 : List UInt8 := [153, 0, 10, 42, 180, 0, 62, 167, 0, 5, 18, 50, 172]
abbrev dktX3_goUnmesh_5 : List UInt8 := dkwX3_goUnmesh_5 ++ []
def dkwX3_goUnmesh_4 : List UInt8 := [3, 79, 42, 180, 0, 7, 16, 67, 42, 180, 0, 7, 16, 50, 46, 96, 3, 79, 42, 182, 0, 73]
abbrev dktX3_goUnmesh_4 : List UInt8 := dkwX3_goUnmesh_4 ++ dktX3_goUnmesh_5
def dkwX3_goUnmesh_3 : List UInt8 := [4, 96, 46, 79, 132, 2, 1, 167, 255, 202, 42, 180, 0, 7, 16, 51, 42, 180, 0, 7, 16, 50, 46, 96]
abbrev dktX3_goUnmesh_3 : List UInt8 := dkwX3_goUnmesh_3 ++ dktX3_goUnmesh_4
def dkwX3_goUnmesh_2 : List UInt8 := [16, 51, 28, 96, 4, 96, 46, 79, 42, 180, 0, 7, 16, 67, 28, 96, 42, 180, 0, 7, 16, 67, 28, 96]
abbrev dktX3_goUnmesh_2 : List UInt8 := dkwX3_goUnmesh_2 ++ dktX3_goUnmesh_3
def dkwX3_goUnmesh_1 : List UInt8 := [28, 42, 180, 0, 7, 16, 50, 46, 162, 0, 49, 42, 180, 0, 7, 16, 51, 28, 96, 42, 180, 0, 7]
abbrev dktX3_goUnmesh_1 : List UInt8 := dkwX3_goUnmesh_1 ++ dktX3_goUnmesh_2
def dkwX3_goUnmesh_0 : List UInt8 := [42, 27, 182, 0, 109, 154, 0, 6, 18, 49, 172, 42, 180, 0, 7, 16, 50, 92, 46, 4, 100, 79, 27, 61]
abbrev dktX3_goUnmesh_0 : List UInt8 := dkwX3_goUnmesh_0 ++ dktX3_goUnmesh_1
theorem dksX3_goUnmesh_0 : cX3_goUnmesh.data.toList.drop 0 = dktX3_goUnmesh_0 := by decide +kernel
theorem dksX3_goUnmesh_1 : cX3_goUnmesh.data.toList.drop 24 = dktX3_goUnmesh_1 := dk_seg dksX3_goUnmesh_0 24 rfl rfl
theorem dksX3_goUnmesh_2 : cX3_goUnmesh.data.toList.drop 47 = dktX3_goUnmesh_2 := dk_seg dksX3_goUnmesh_1 23 rfl rfl
theorem dksX3_goUnmesh_3 : cX3_goUnmesh.data.toList.drop 71 = dktX3_goUnmesh_3 := dk_seg dksX3_goUnmesh_2 24 rfl rfl
theorem dksX3_goUnmesh_4 : cX3_goUnmesh.data.toList.drop 95 = dktX3_goUnmesh_4 := dk_seg dksX3_goUnmesh_3 24 rfl rfl
theorem dksX3_goUnmesh_5 : cX3_goUnmesh.data.toList.drop 117 = dktX3_goUnmesh_5 := dk_seg dksX3_goUnmesh_4 22 rfl rfl
theorem dX3_goUnmesh_0 : decode cX3_goUnmesh 0 = .ok (.aload_n 0, 1) := dk_42 (dk_at dksX3_goUnmesh_0 0 rfl rfl)
theorem dX3_goUnmesh_1 : decode cX3_goUnmesh 1 = .ok (.iload_n 1, 1) := dk_27 (dk_at dksX3_goUnmesh_0 1 rfl rfl)
theorem dX3_goUnmesh_2 : decode cX3_goUnmesh 2 = .ok (.invokevirtual 109, 3) := dk_182 0 109 (dk_at dksX3_goUnmesh_0 2 rfl rfl)
theorem dX3_goUnmesh_5 : decode cX3_goUnmesh 5 = .ok (.ifCond .ne 6, 3) := dk_154 0 6 (dk_at dksX3_goUnmesh_0 5 rfl rfl)
theorem dX3_goUnmesh_8 : decode cX3_goUnmesh 8 = .ok (.ldc 49, 2) := dk_18 49 (dk_at dksX3_goUnmesh_0 8 rfl rfl)
theorem dX3_goUnmesh_10 : decode cX3_goUnmesh 10 = .ok (.ireturn, 1) := dk_172 (dk_at dksX3_goUnmesh_0 10 rfl rfl)
theorem dX3_goUnmesh_11 : decode cX3_goUnmesh 11 = .ok (.aload_n 0, 1) := dk_42 (dk_at dksX3_goUnmesh_0 11 rfl rfl)
theorem dX3_goUnmesh_12 : decode cX3_goUnmesh 12 = .ok (.getfield 7, 3) := dk_180 0 7 (dk_at dksX3_goUnmesh_0 12 rfl rfl)
theorem dX3_goUnmesh_15 : decode cX3_goUnmesh 15 = .ok (.bipush 50, 2) := dk_16 50 (dk_at dksX3_goUnmesh_0 15 rfl rfl)
theorem dX3_goUnmesh_17 : decode cX3_goUnmesh 17 = .ok (.dup2, 1) := dk_92 (dk_at dksX3_goUnmesh_0 17 rfl rfl)
theorem dX3_goUnmesh_18 : decode cX3_goUnmesh 18 = .ok (.iaload, 1) := dk_46 (dk_at dksX3_goUnmesh_0 18 rfl rfl)
theorem dX3_goUnmesh_19 : decode cX3_goUnmesh 19 = .ok (.iconst 1, 1) := dk_4 (dk_at dksX3_goUnmesh_0 19 rfl rfl)
theorem dX3_goUnmesh_20 : decode cX3_goUnmesh 20 = .ok (.isub, 1) := dk_100 (dk_at dksX3_goUnmesh_0 20 rfl rfl)
theorem dX3_goUnmesh_21 : decode cX3_goUnmesh 21 = .ok (.iastore, 1) := dk_79 (dk_at dksX3_goUnmesh_0 21 rfl rfl)
theorem dX3_goUnmesh_22 : decode cX3_goUnmesh 22 = .ok (.iload_n 1, 1) := dk_27 (dk_at dksX3_goUnmesh_0 22 rfl rfl)
theorem dX3_goUnmesh_23 : decode cX3_goUnmesh 23 = .ok (.istore_n 2, 1) := dk_61 (dk_at dksX3_goUnmesh_0 23 rfl rfl)
theorem dX3_goUnmesh_24 : decode cX3_goUnmesh 24 = .ok (.iload_n 2, 1) := dk_28 (dk_at dksX3_goUnmesh_1 0 rfl rfl)
theorem dX3_goUnmesh_25 : decode cX3_goUnmesh 25 = .ok (.aload_n 0, 1) := dk_42 (dk_at dksX3_goUnmesh_1 1 rfl rfl)
theorem dX3_goUnmesh_26 : decode cX3_goUnmesh 26 = .ok (.getfield 7, 3) := dk_180 0 7 (dk_at dksX3_goUnmesh_1 2 rfl rfl)
theorem dX3_goUnmesh_29 : decode cX3_goUnmesh 29 = .ok (.bipush 50, 2) := dk_16 50 (dk_at dksX3_goUnmesh_1 5 rfl rfl)
theorem dX3_goUnmesh_31 : decode cX3_goUnmesh 31 = .ok (.iaload, 1) := dk_46 (dk_at dksX3_goUnmesh_1 7 rfl rfl)
theorem dX3_goUnmesh_32 : decode cX3_goUnmesh 32 = .ok (.if_icmp .ge 49, 3) := dk_162 0 49 (dk_at dksX3_goUnmesh_1 8 rfl rfl)
theorem dX3_goUnmesh_35 : decode cX3_goUnmesh 35 = .ok (.aload_n 0, 1) := dk_42 (dk_at dksX3_goUnmesh_1 11 rfl rfl)
theorem dX3_goUnmesh_36 : decode cX3_goUnmesh 36 = .ok (.getfield 7, 3) := dk_180 0 7 (dk_at dksX3_goUnmesh_1 12 rfl rfl)
theorem dX3_goUnmesh_39 : decode cX3_goUnmesh 39 = .ok (.bipush 51, 2) := dk_16 51 (dk_at dksX3_goUnmesh_1 15 rfl rfl)
theorem dX3_goUnmesh_41 : decode cX3_goUnmesh 41 = .ok (.iload_n 2, 1) := dk_28 (dk_at dksX3_goUnmesh_1 17 rfl rfl)
theorem dX3_goUnmesh_42 : decode cX3_goUnmesh 42 = .ok (.iadd, 1) := dk_96 (dk_at dksX3_goUnmesh_1 18 rfl rfl)
theorem dX3_goUnmesh_43 : decode cX3_goUnmesh 43 = .ok (.aload_n 0, 1) := dk_42 (dk_at dksX3_goUnmesh_1 19 rfl rfl)
theorem dX3_goUnmesh_44 : decode cX3_goUnmesh 44 = .ok (.getfield 7, 3) := dk_180 0 7 (dk_at dksX3_goUnmesh_1 20 rfl rfl)
theorem dX3_goUnmesh_47 : decode cX3_goUnmesh 47 = .ok (.bipush 51, 2) := dk_16 51 (dk_at dksX3_goUnmesh_2 0 rfl rfl)
theorem dX3_goUnmesh_49 : decode cX3_goUnmesh 49 = .ok (.iload_n 2, 1) := dk_28 (dk_at dksX3_goUnmesh_2 2 rfl rfl)
theorem dX3_goUnmesh_50 : decode cX3_goUnmesh 50 = .ok (.iadd, 1) := dk_96 (dk_at dksX3_goUnmesh_2 3 rfl rfl)
theorem dX3_goUnmesh_51 : decode cX3_goUnmesh 51 = .ok (.iconst 1, 1) := dk_4 (dk_at dksX3_goUnmesh_2 4 rfl rfl)
theorem dX3_goUnmesh_52 : decode cX3_goUnmesh 52 = .ok (.iadd, 1) := dk_96 (dk_at dksX3_goUnmesh_2 5 rfl rfl)
theorem dX3_goUnmesh_53 : decode cX3_goUnmesh 53 = .ok (.iaload, 1) := dk_46 (dk_at dksX3_goUnmesh_2 6 rfl rfl)
theorem dX3_goUnmesh_54 : decode cX3_goUnmesh 54 = .ok (.iastore, 1) := dk_79 (dk_at dksX3_goUnmesh_2 7 rfl rfl)
theorem dX3_goUnmesh_55 : decode cX3_goUnmesh 55 = .ok (.aload_n 0, 1) := dk_42 (dk_at dksX3_goUnmesh_2 8 rfl rfl)
theorem dX3_goUnmesh_56 : decode cX3_goUnmesh 56 = .ok (.getfield 7, 3) := dk_180 0 7 (dk_at dksX3_goUnmesh_2 9 rfl rfl)
theorem dX3_goUnmesh_59 : decode cX3_goUnmesh 59 = .ok (.bipush 67, 2) := dk_16 67 (dk_at dksX3_goUnmesh_2 12 rfl rfl)
theorem dX3_goUnmesh_61 : decode cX3_goUnmesh 61 = .ok (.iload_n 2, 1) := dk_28 (dk_at dksX3_goUnmesh_2 14 rfl rfl)
theorem dX3_goUnmesh_62 : decode cX3_goUnmesh 62 = .ok (.iadd, 1) := dk_96 (dk_at dksX3_goUnmesh_2 15 rfl rfl)
theorem dX3_goUnmesh_63 : decode cX3_goUnmesh 63 = .ok (.aload_n 0, 1) := dk_42 (dk_at dksX3_goUnmesh_2 16 rfl rfl)
theorem dX3_goUnmesh_64 : decode cX3_goUnmesh 64 = .ok (.getfield 7, 3) := dk_180 0 7 (dk_at dksX3_goUnmesh_2 17 rfl rfl)
theorem dX3_goUnmesh_67 : decode cX3_goUnmesh 67 = .ok (.bipush 67, 2) := dk_16 67 (dk_at dksX3_goUnmesh_2 20 rfl rfl)
theorem dX3_goUnmesh_69 : decode cX3_goUnmesh 69 = .ok (.iload_n 2, 1) := dk_28 (dk_at dksX3_goUnmesh_2 22 rfl rfl)
theorem dX3_goUnmesh_70 : decode cX3_goUnmesh 70 = .ok (.iadd, 1) := dk_96 (dk_at dksX3_goUnmesh_2 23 rfl rfl)
theorem dX3_goUnmesh_71 : decode cX3_goUnmesh 71 = .ok (.iconst 1, 1) := dk_4 (dk_at dksX3_goUnmesh_3 0 rfl rfl)
theorem dX3_goUnmesh_72 : decode cX3_goUnmesh 72 = .ok (.iadd, 1) := dk_96 (dk_at dksX3_goUnmesh_3 1 rfl rfl)
theorem dX3_goUnmesh_73 : decode cX3_goUnmesh 73 = .ok (.iaload, 1) := dk_46 (dk_at dksX3_goUnmesh_3 2 rfl rfl)
theorem dX3_goUnmesh_74 : decode cX3_goUnmesh 74 = .ok (.iastore, 1) := dk_79 (dk_at dksX3_goUnmesh_3 3 rfl rfl)
theorem dX3_goUnmesh_75 : decode cX3_goUnmesh 75 = .ok (.iinc 2 1, 3) := dk_132 2 1 (dk_at dksX3_goUnmesh_3 4 rfl rfl)
theorem dX3_goUnmesh_78 : decode cX3_goUnmesh 78 = .ok (.goto (-54), 3) := dk_167 255 202 (dk_at dksX3_goUnmesh_3 7 rfl rfl)
theorem dX3_goUnmesh_81 : decode cX3_goUnmesh 81 = .ok (.aload_n 0, 1) := dk_42 (dk_at dksX3_goUnmesh_3 10 rfl rfl)
theorem dX3_goUnmesh_82 : decode cX3_goUnmesh 82 = .ok (.getfield 7, 3) := dk_180 0 7 (dk_at dksX3_goUnmesh_3 11 rfl rfl)
theorem dX3_goUnmesh_85 : decode cX3_goUnmesh 85 = .ok (.bipush 51, 2) := dk_16 51 (dk_at dksX3_goUnmesh_3 14 rfl rfl)
theorem dX3_goUnmesh_87 : decode cX3_goUnmesh 87 = .ok (.aload_n 0, 1) := dk_42 (dk_at dksX3_goUnmesh_3 16 rfl rfl)
theorem dX3_goUnmesh_88 : decode cX3_goUnmesh 88 = .ok (.getfield 7, 3) := dk_180 0 7 (dk_at dksX3_goUnmesh_3 17 rfl rfl)
theorem dX3_goUnmesh_91 : decode cX3_goUnmesh 91 = .ok (.bipush 50, 2) := dk_16 50 (dk_at dksX3_goUnmesh_3 20 rfl rfl)
theorem dX3_goUnmesh_93 : decode cX3_goUnmesh 93 = .ok (.iaload, 1) := dk_46 (dk_at dksX3_goUnmesh_3 22 rfl rfl)
theorem dX3_goUnmesh_94 : decode cX3_goUnmesh 94 = .ok (.iadd, 1) := dk_96 (dk_at dksX3_goUnmesh_3 23 rfl rfl)
theorem dX3_goUnmesh_95 : decode cX3_goUnmesh 95 = .ok (.iconst 0, 1) := dk_3 (dk_at dksX3_goUnmesh_4 0 rfl rfl)
theorem dX3_goUnmesh_96 : decode cX3_goUnmesh 96 = .ok (.iastore, 1) := dk_79 (dk_at dksX3_goUnmesh_4 1 rfl rfl)
theorem dX3_goUnmesh_97 : decode cX3_goUnmesh 97 = .ok (.aload_n 0, 1) := dk_42 (dk_at dksX3_goUnmesh_4 2 rfl rfl)
theorem dX3_goUnmesh_98 : decode cX3_goUnmesh 98 = .ok (.getfield 7, 3) := dk_180 0 7 (dk_at dksX3_goUnmesh_4 3 rfl rfl)
theorem dX3_goUnmesh_101 : decode cX3_goUnmesh 101 = .ok (.bipush 67, 2) := dk_16 67 (dk_at dksX3_goUnmesh_4 6 rfl rfl)
theorem dX3_goUnmesh_103 : decode cX3_goUnmesh 103 = .ok (.aload_n 0, 1) := dk_42 (dk_at dksX3_goUnmesh_4 8 rfl rfl)
theorem dX3_goUnmesh_104 : decode cX3_goUnmesh 104 = .ok (.getfield 7, 3) := dk_180 0 7 (dk_at dksX3_goUnmesh_4 9 rfl rfl)
theorem dX3_goUnmesh_107 : decode cX3_goUnmesh 107 = .ok (.bipush 50, 2) := dk_16 50 (dk_at dksX3_goUnmesh_4 12 rfl rfl)
theorem dX3_goUnmesh_109 : decode cX3_goUnmesh 109 = .ok (.iaload, 1) := dk_46 (dk_at dksX3_goUnmesh_4 14 rfl rfl)
theorem dX3_goUnmesh_110 : decode cX3_goUnmesh 110 = .ok (.iadd, 1) := dk_96 (dk_at dksX3_goUnmesh_4 15 rfl rfl)
theorem dX3_goUnmesh_111 : decode cX3_goUnmesh 111 = .ok (.iconst 0, 1) := dk_3 (dk_at dksX3_goUnmesh_4 16 rfl rfl)
theorem dX3_goUnmesh_112 : decode cX3_goUnmesh 112 = .ok (.iastore, 1) := dk_79 (dk_at dksX3_goUnmesh_4 17 rfl rfl)
theorem dX3_goUnmesh_113 : decode cX3_goUnmesh 113 = .ok (.aload_n 0, 1) := dk_42 (dk_at dksX3_goUnmesh_4 18 rfl rfl)
theorem dX3_goUnmesh_114 : decode cX3_goUnmesh 114 = .ok (.invokevirtual 73, 3) := dk_182 0 73 (dk_at dksX3_goUnmesh_4 19 rfl rfl)
theorem dX3_goUnmesh_117 : decode cX3_goUnmesh 117 = .ok (.ifCond .eq 10, 3) := dk_153 0 10 (dk_at dksX3_goUnmesh_5 0 rfl rfl)
theorem dX3_goUnmesh_120 : decode cX3_goUnmesh 120 = .ok (.aload_n 0, 1) := dk_42 (dk_at dksX3_goUnmesh_5 3 rfl rfl)
theorem dX3_goUnmesh_121 : decode cX3_goUnmesh 121 = .ok (.getfield 62, 3) := dk_180 0 62 (dk_at dksX3_goUnmesh_5 4 rfl rfl)
theorem dX3_goUnmesh_124 : decode cX3_goUnmesh 124 = .ok (.goto 5, 3) := dk_167 0 5 (dk_at dksX3_goUnmesh_5 7 rfl rfl)
theorem dX3_goUnmesh_127 : decode cX3_goUnmesh 127 = .ok (.ldc 50, 2) := dk_18 50 (dk_at dksX3_goUnmesh_5 10 rfl rfl)
theorem dX3_goUnmesh_129 : decode cX3_goUnmesh 129 = .ok (.ireturn, 1) := dk_172 (dk_at dksX3_goUnmesh_5 12 rfl rfl)
abbrev cX3_isPair : ByteArray := prog_10_method_12_code
def yX3_isPair : MethodName := ⟨RX3, "isPair", "(I)Z"⟩
def dkwX3_isPair_0 : List UInt8 := [27, 3, 42, 180, 0, 7, 16, 50, 46, 4, 100, 184, 0, 58, 172]
abbrev dktX3_isPair_0 : List UInt8 := dkwX3_isPair_0 ++ []
theorem dksX3_isPair_0 : cX3_isPair.data.toList.drop 0 = dktX3_isPair_0 := by decide +kernel
theorem dX3_isPair_0 : decode cX3_isPair 0 = .ok (.iload_n 1, 1) := dk_27 (dk_at dksX3_isPair_0 0 rfl rfl)
theorem dX3_isPair_1 : decode cX3_isPair 1 = .ok (.iconst 0, 1) := dk_3 (dk_at dksX3_isPair_0 1 rfl rfl)
theorem dX3_isPair_2 : decode cX3_isPair 2 = .ok (.aload_n 0, 1) := dk_42 (dk_at dksX3_isPair_0 2 rfl rfl)
theorem dX3_isPair_3 : decode cX3_isPair 3 = .ok (.getfield 7, 3) := dk_180 0 7 (dk_at dksX3_isPair_0 3 rfl rfl)
theorem dX3_isPair_6 : decode cX3_isPair 6 = .ok (.bipush 50, 2) := dk_16 50 (dk_at dksX3_isPair_0 6 rfl rfl)
theorem dX3_isPair_8 : decode cX3_isPair 8 = .ok (.iaload, 1) := dk_46 (dk_at dksX3_isPair_0 8 rfl rfl)
theorem dX3_isPair_9 : decode cX3_isPair 9 = .ok (.iconst 1, 1) := dk_4 (dk_at dksX3_isPair_0 9 rfl rfl)
theorem dX3_isPair_10 : decode cX3_isPair 10 = .ok (.isub, 1) := dk_100 (dk_at dksX3_isPair_0 10 rfl rfl)
theorem dX3_isPair_11 : decode cX3_isPair 11 = .ok (.invokestatic 58, 3) := dk_184 0 58 (dk_at dksX3_isPair_0 11 rfl rfl)
theorem dX3_isPair_14 : decode cX3_isPair 14 = .ok (.ireturn, 1) := dk_172 (dk_at dksX3_isPair_0 14 rfl rfl)
abbrev cX3_setTeeth : ByteArray := prog_10_method_36_code
def yX3_setTeeth : MethodName := ⟨RX3, "setTeeth", "(II)I"⟩
def dkwX3_setTeeth_0 : List UInt8 := [42, 182, 0, 113, 42, 42, 27, 28, 182, 0, 131, 182, 0, 119, 172]
abbrev dktX3_setTeeth_0 : List UInt8 := dkwX3_setTeeth_0 ++ []
theorem dksX3_setTeeth_0 : cX3_setTeeth.data.toList.drop 0 = dktX3_setTeeth_0 := by decide +kernel
theorem dX3_setTeeth_0 : decode cX3_setTeeth 0 = .ok (.aload_n 0, 1) := dk_42 (dk_at dksX3_setTeeth_0 0 rfl rfl)
theorem dX3_setTeeth_1 : decode cX3_setTeeth 1 = .ok (.invokevirtual 113, 3) := dk_182 0 113 (dk_at dksX3_setTeeth_0 1 rfl rfl)
theorem dX3_setTeeth_4 : decode cX3_setTeeth 4 = .ok (.aload_n 0, 1) := dk_42 (dk_at dksX3_setTeeth_0 4 rfl rfl)
theorem dX3_setTeeth_5 : decode cX3_setTeeth 5 = .ok (.aload_n 0, 1) := dk_42 (dk_at dksX3_setTeeth_0 5 rfl rfl)
theorem dX3_setTeeth_6 : decode cX3_setTeeth 6 = .ok (.iload_n 1, 1) := dk_27 (dk_at dksX3_setTeeth_0 6 rfl rfl)
theorem dX3_setTeeth_7 : decode cX3_setTeeth 7 = .ok (.iload_n 2, 1) := dk_28 (dk_at dksX3_setTeeth_0 7 rfl rfl)
theorem dX3_setTeeth_8 : decode cX3_setTeeth 8 = .ok (.invokevirtual 131, 3) := dk_182 0 131 (dk_at dksX3_setTeeth_0 8 rfl rfl)
theorem dX3_setTeeth_11 : decode cX3_setTeeth 11 = .ok (.invokevirtual 119, 3) := dk_182 0 119 (dk_at dksX3_setTeeth_0 11 rfl rfl)
theorem dX3_setTeeth_14 : decode cX3_setTeeth 14 = .ok (.ireturn, 1) := dk_172 (dk_at dksX3_setTeeth_0 14 rfl rfl)
abbrev cX3_goTeeth : ByteArray := prog_10_method_29_code
def yX3_goTeeth : MethodName := ⟨RX3, "goTeeth", "(II)I"⟩
def dkwX3_goTeeth_2 : List UInt8 := [154, 0, 7, 29, 167, 0, 5, 18, 50, 172]
abbrev dktX3_goTeeth_2 : List UInt8 := dkwX3_goTeeth_2 ++ []
def dkwX3_goTeeth_1 : List UInt8 := [96, 46, 62, 42, 180, 0, 7, 5, 27, 96, 28, 79, 42, 182, 0, 73, 153, 0, 14, 42, 182, 0, 85]
abbrev dktX3_goTeeth_1 : List UInt8 := dkwX3_goTeeth_1 ++ dktX3_goTeeth_2
def dkwX3_goTeeth_0 : List UInt8 := [42, 27, 182, 0, 95, 153, 0, 10, 28, 184, 0, 92, 154, 0, 6, 18, 49, 172, 42, 180, 0, 7, 5, 27]
abbrev dktX3_goTeeth_0 : List UInt8 := dkwX3_goTeeth_0 ++ dktX3_goTeeth_1
theorem dksX3_goTeeth_0 : cX3_goTeeth.data.toList.drop 0 = dktX3_goTeeth_0 := by decide +kernel
theorem dksX3_goTeeth_1 : cX3_goTeeth.data.toList.drop 24 = dktX3_goTeeth_1 := dk_seg dksX3_goTeeth_0 24 rfl rfl
theorem dksX3_goTeeth_2 : cX3_goTeeth.data.toList.drop 47 = dktX3_goTeeth_2 := dk_seg dksX3_goTeeth_1 23 rfl rfl
theorem dX3_goTeeth_0 : decode cX3_goTeeth 0 = .ok (.aload_n 0, 1) := dk_42 (dk_at dksX3_goTeeth_0 0 rfl rfl)
theorem dX3_goTeeth_1 : decode cX3_goTeeth 1 = .ok (.iload_n 1, 1) := dk_27 (dk_at dksX3_goTeeth_0 1 rfl rfl)
theorem dX3_goTeeth_2 : decode cX3_goTeeth 2 = .ok (.invokevirtual 95, 3) := dk_182 0 95 (dk_at dksX3_goTeeth_0 2 rfl rfl)
theorem dX3_goTeeth_5 : decode cX3_goTeeth 5 = .ok (.ifCond .eq 10, 3) := dk_153 0 10 (dk_at dksX3_goTeeth_0 5 rfl rfl)
theorem dX3_goTeeth_8 : decode cX3_goTeeth 8 = .ok (.iload_n 2, 1) := dk_28 (dk_at dksX3_goTeeth_0 8 rfl rfl)
theorem dX3_goTeeth_9 : decode cX3_goTeeth 9 = .ok (.invokestatic 92, 3) := dk_184 0 92 (dk_at dksX3_goTeeth_0 9 rfl rfl)
theorem dX3_goTeeth_12 : decode cX3_goTeeth 12 = .ok (.ifCond .ne 6, 3) := dk_154 0 6 (dk_at dksX3_goTeeth_0 12 rfl rfl)
theorem dX3_goTeeth_15 : decode cX3_goTeeth 15 = .ok (.ldc 49, 2) := dk_18 49 (dk_at dksX3_goTeeth_0 15 rfl rfl)
theorem dX3_goTeeth_17 : decode cX3_goTeeth 17 = .ok (.ireturn, 1) := dk_172 (dk_at dksX3_goTeeth_0 17 rfl rfl)
theorem dX3_goTeeth_18 : decode cX3_goTeeth 18 = .ok (.aload_n 0, 1) := dk_42 (dk_at dksX3_goTeeth_0 18 rfl rfl)
theorem dX3_goTeeth_19 : decode cX3_goTeeth 19 = .ok (.getfield 7, 3) := dk_180 0 7 (dk_at dksX3_goTeeth_0 19 rfl rfl)
theorem dX3_goTeeth_22 : decode cX3_goTeeth 22 = .ok (.iconst 2, 1) := dk_5 (dk_at dksX3_goTeeth_0 22 rfl rfl)
theorem dX3_goTeeth_23 : decode cX3_goTeeth 23 = .ok (.iload_n 1, 1) := dk_27 (dk_at dksX3_goTeeth_0 23 rfl rfl)
theorem dX3_goTeeth_24 : decode cX3_goTeeth 24 = .ok (.iadd, 1) := dk_96 (dk_at dksX3_goTeeth_1 0 rfl rfl)
theorem dX3_goTeeth_25 : decode cX3_goTeeth 25 = .ok (.iaload, 1) := dk_46 (dk_at dksX3_goTeeth_1 1 rfl rfl)
theorem dX3_goTeeth_26 : decode cX3_goTeeth 26 = .ok (.istore_n 3, 1) := dk_62 (dk_at dksX3_goTeeth_1 2 rfl rfl)
theorem dX3_goTeeth_27 : decode cX3_goTeeth 27 = .ok (.aload_n 0, 1) := dk_42 (dk_at dksX3_goTeeth_1 3 rfl rfl)
theorem dX3_goTeeth_28 : decode cX3_goTeeth 28 = .ok (.getfield 7, 3) := dk_180 0 7 (dk_at dksX3_goTeeth_1 4 rfl rfl)
theorem dX3_goTeeth_31 : decode cX3_goTeeth 31 = .ok (.iconst 2, 1) := dk_5 (dk_at dksX3_goTeeth_1 7 rfl rfl)
theorem dX3_goTeeth_32 : decode cX3_goTeeth 32 = .ok (.iload_n 1, 1) := dk_27 (dk_at dksX3_goTeeth_1 8 rfl rfl)
theorem dX3_goTeeth_33 : decode cX3_goTeeth 33 = .ok (.iadd, 1) := dk_96 (dk_at dksX3_goTeeth_1 9 rfl rfl)
theorem dX3_goTeeth_34 : decode cX3_goTeeth 34 = .ok (.iload_n 2, 1) := dk_28 (dk_at dksX3_goTeeth_1 10 rfl rfl)
theorem dX3_goTeeth_35 : decode cX3_goTeeth 35 = .ok (.iastore, 1) := dk_79 (dk_at dksX3_goTeeth_1 11 rfl rfl)
theorem dX3_goTeeth_36 : decode cX3_goTeeth 36 = .ok (.aload_n 0, 1) := dk_42 (dk_at dksX3_goTeeth_1 12 rfl rfl)
theorem dX3_goTeeth_37 : decode cX3_goTeeth 37 = .ok (.invokevirtual 73, 3) := dk_182 0 73 (dk_at dksX3_goTeeth_1 13 rfl rfl)
theorem dX3_goTeeth_40 : decode cX3_goTeeth 40 = .ok (.ifCond .eq 14, 3) := dk_153 0 14 (dk_at dksX3_goTeeth_1 16 rfl rfl)
theorem dX3_goTeeth_43 : decode cX3_goTeeth 43 = .ok (.aload_n 0, 1) := dk_42 (dk_at dksX3_goTeeth_1 19 rfl rfl)
theorem dX3_goTeeth_44 : decode cX3_goTeeth 44 = .ok (.invokevirtual 85, 3) := dk_182 0 85 (dk_at dksX3_goTeeth_1 20 rfl rfl)
theorem dX3_goTeeth_47 : decode cX3_goTeeth 47 = .ok (.ifCond .ne 7, 3) := dk_154 0 7 (dk_at dksX3_goTeeth_2 0 rfl rfl)
theorem dX3_goTeeth_50 : decode cX3_goTeeth 50 = .ok (.iload_n 3, 1) := dk_29 (dk_at dksX3_goTeeth_2 3 rfl rfl)
theorem dX3_goTeeth_51 : decode cX3_goTeeth 51 = .ok (.goto 5, 3) := dk_167 0 5 (dk_at dksX3_goTeeth_2 4 rfl rfl)
theorem dX3_goTeeth_54 : decode cX3_goTeeth 54 = .ok (.ldc 50, 2) := dk_18 50 (dk_at dksX3_goTeeth_2 7 rfl rfl)
theorem dX3_goTeeth_56 : decode cX3_goTeeth 56 = .ok (.ireturn, 1) := dk_172 (dk_at dksX3_goTeeth_2 9 rfl rfl)
abbrev cX3_addArm : ByteArray := prog_10_method_37_code
def yX3_addArm : MethodName := ⟨RX3, "addArm", "(II)I"⟩
def dkwX3_addArm_0 : List UInt8 := [42, 182, 0, 113, 42, 42, 27, 28, 182, 0, 134, 182, 0, 119, 172]
abbrev dktX3_addArm_0 : List UInt8 := dkwX3_addArm_0 ++ []
theorem dksX3_addArm_0 : cX3_addArm.data.toList.drop 0 = dktX3_addArm_0 := by decide +kernel
theorem dX3_addArm_0 : decode cX3_addArm 0 = .ok (.aload_n 0, 1) := dk_42 (dk_at dksX3_addArm_0 0 rfl rfl)
theorem dX3_addArm_1 : decode cX3_addArm 1 = .ok (.invokevirtual 113, 3) := dk_182 0 113 (dk_at dksX3_addArm_0 1 rfl rfl)
theorem dX3_addArm_4 : decode cX3_addArm 4 = .ok (.aload_n 0, 1) := dk_42 (dk_at dksX3_addArm_0 4 rfl rfl)
theorem dX3_addArm_5 : decode cX3_addArm 5 = .ok (.aload_n 0, 1) := dk_42 (dk_at dksX3_addArm_0 5 rfl rfl)
theorem dX3_addArm_6 : decode cX3_addArm 6 = .ok (.iload_n 1, 1) := dk_27 (dk_at dksX3_addArm_0 6 rfl rfl)
theorem dX3_addArm_7 : decode cX3_addArm 7 = .ok (.iload_n 2, 1) := dk_28 (dk_at dksX3_addArm_0 7 rfl rfl)
theorem dX3_addArm_8 : decode cX3_addArm 8 = .ok (.invokevirtual 134, 3) := dk_182 0 134 (dk_at dksX3_addArm_0 8 rfl rfl)
theorem dX3_addArm_11 : decode cX3_addArm 11 = .ok (.invokevirtual 119, 3) := dk_182 0 119 (dk_at dksX3_addArm_0 11 rfl rfl)
theorem dX3_addArm_14 : decode cX3_addArm 14 = .ok (.ireturn, 1) := dk_172 (dk_at dksX3_addArm_0 14 rfl rfl)
abbrev cX3_goArm : ByteArray := prog_10_method_30_code
def yX3_goArm : MethodName := ⟨RX3, "goArm", "(II)I"⟩
def dkwX3_goArm_3 : List UInt8 := [29, 172]
abbrev dktX3_goArm_3 : List UInt8 := dkwX3_goArm_3 ++ []
def dkwX3_goArm_2 : List UInt8 := [96, 27, 79, 42, 180, 0, 7, 16, 90, 29, 96, 28, 79, 42, 180, 0, 7, 16, 83, 92, 46, 4, 96, 79]
abbrev dktX3_goArm_2 : List UInt8 := dkwX3_goArm_2 ++ dktX3_goArm_3
def dkwX3_goArm_1 : List UInt8 := [42, 180, 0, 7, 16, 83, 46, 62, 29, 16, 6, 160, 0, 6, 18, 50, 172, 42, 180, 0, 7, 16, 84, 29]
abbrev dktX3_goArm_1 : List UInt8 := dkwX3_goArm_1 ++ dktX3_goArm_2
def dkwX3_goArm_0 : List UInt8 := [42, 27, 182, 0, 88, 153, 0, 16, 28, 17, 255, 76, 17, 0, 180, 184, 0, 58, 154, 0, 6, 18, 49, 172]
abbrev dktX3_goArm_0 : List UInt8 := dkwX3_goArm_0 ++ dktX3_goArm_1
theorem dksX3_goArm_0 : cX3_goArm.data.toList.drop 0 = dktX3_goArm_0 := by decide +kernel
theorem dksX3_goArm_1 : cX3_goArm.data.toList.drop 24 = dktX3_goArm_1 := dk_seg dksX3_goArm_0 24 rfl rfl
theorem dksX3_goArm_2 : cX3_goArm.data.toList.drop 48 = dktX3_goArm_2 := dk_seg dksX3_goArm_1 24 rfl rfl
theorem dksX3_goArm_3 : cX3_goArm.data.toList.drop 72 = dktX3_goArm_3 := dk_seg dksX3_goArm_2 24 rfl rfl
theorem dX3_goArm_0 : decode cX3_goArm 0 = .ok (.aload_n 0, 1) := dk_42 (dk_at dksX3_goArm_0 0 rfl rfl)
theorem dX3_goArm_1 : decode cX3_goArm 1 = .ok (.iload_n 1, 1) := dk_27 (dk_at dksX3_goArm_0 1 rfl rfl)
theorem dX3_goArm_2 : decode cX3_goArm 2 = .ok (.invokevirtual 88, 3) := dk_182 0 88 (dk_at dksX3_goArm_0 2 rfl rfl)
theorem dX3_goArm_5 : decode cX3_goArm 5 = .ok (.ifCond .eq 16, 3) := dk_153 0 16 (dk_at dksX3_goArm_0 5 rfl rfl)
theorem dX3_goArm_8 : decode cX3_goArm 8 = .ok (.iload_n 2, 1) := dk_28 (dk_at dksX3_goArm_0 8 rfl rfl)
theorem dX3_goArm_9 : decode cX3_goArm 9 = .ok (.sipush (-180), 3) := dk_17 255 76 (dk_at dksX3_goArm_0 9 rfl rfl)
theorem dX3_goArm_12 : decode cX3_goArm 12 = .ok (.sipush 180, 3) := dk_17 0 180 (dk_at dksX3_goArm_0 12 rfl rfl)
theorem dX3_goArm_15 : decode cX3_goArm 15 = .ok (.invokestatic 58, 3) := dk_184 0 58 (dk_at dksX3_goArm_0 15 rfl rfl)
theorem dX3_goArm_18 : decode cX3_goArm 18 = .ok (.ifCond .ne 6, 3) := dk_154 0 6 (dk_at dksX3_goArm_0 18 rfl rfl)
theorem dX3_goArm_21 : decode cX3_goArm 21 = .ok (.ldc 49, 2) := dk_18 49 (dk_at dksX3_goArm_0 21 rfl rfl)
theorem dX3_goArm_23 : decode cX3_goArm 23 = .ok (.ireturn, 1) := dk_172 (dk_at dksX3_goArm_0 23 rfl rfl)
theorem dX3_goArm_24 : decode cX3_goArm 24 = .ok (.aload_n 0, 1) := dk_42 (dk_at dksX3_goArm_1 0 rfl rfl)
theorem dX3_goArm_25 : decode cX3_goArm 25 = .ok (.getfield 7, 3) := dk_180 0 7 (dk_at dksX3_goArm_1 1 rfl rfl)
theorem dX3_goArm_28 : decode cX3_goArm 28 = .ok (.bipush 83, 2) := dk_16 83 (dk_at dksX3_goArm_1 4 rfl rfl)
theorem dX3_goArm_30 : decode cX3_goArm 30 = .ok (.iaload, 1) := dk_46 (dk_at dksX3_goArm_1 6 rfl rfl)
theorem dX3_goArm_31 : decode cX3_goArm 31 = .ok (.istore_n 3, 1) := dk_62 (dk_at dksX3_goArm_1 7 rfl rfl)
theorem dX3_goArm_32 : decode cX3_goArm 32 = .ok (.iload_n 3, 1) := dk_29 (dk_at dksX3_goArm_1 8 rfl rfl)
theorem dX3_goArm_33 : decode cX3_goArm 33 = .ok (.bipush 6, 2) := dk_16 6 (dk_at dksX3_goArm_1 9 rfl rfl)
theorem dX3_goArm_35 : decode cX3_goArm 35 = .ok (.if_icmp .ne 6, 3) := dk_160 0 6 (dk_at dksX3_goArm_1 11 rfl rfl)
theorem dX3_goArm_38 : decode cX3_goArm 38 = .ok (.ldc 50, 2) := dk_18 50 (dk_at dksX3_goArm_1 14 rfl rfl)
theorem dX3_goArm_40 : decode cX3_goArm 40 = .ok (.ireturn, 1) := dk_172 (dk_at dksX3_goArm_1 16 rfl rfl)
theorem dX3_goArm_41 : decode cX3_goArm 41 = .ok (.aload_n 0, 1) := dk_42 (dk_at dksX3_goArm_1 17 rfl rfl)
theorem dX3_goArm_42 : decode cX3_goArm 42 = .ok (.getfield 7, 3) := dk_180 0 7 (dk_at dksX3_goArm_1 18 rfl rfl)
theorem dX3_goArm_45 : decode cX3_goArm 45 = .ok (.bipush 84, 2) := dk_16 84 (dk_at dksX3_goArm_1 21 rfl rfl)
theorem dX3_goArm_47 : decode cX3_goArm 47 = .ok (.iload_n 3, 1) := dk_29 (dk_at dksX3_goArm_1 23 rfl rfl)
theorem dX3_goArm_48 : decode cX3_goArm 48 = .ok (.iadd, 1) := dk_96 (dk_at dksX3_goArm_2 0 rfl rfl)
theorem dX3_goArm_49 : decode cX3_goArm 49 = .ok (.iload_n 1, 1) := dk_27 (dk_at dksX3_goArm_2 1 rfl rfl)
theorem dX3_goArm_50 : decode cX3_goArm 50 = .ok (.iastore, 1) := dk_79 (dk_at dksX3_goArm_2 2 rfl rfl)
theorem dX3_goArm_51 : decode cX3_goArm 51 = .ok (.aload_n 0, 1) := dk_42 (dk_at dksX3_goArm_2 3 rfl rfl)
theorem dX3_goArm_52 : decode cX3_goArm 52 = .ok (.getfield 7, 3) := dk_180 0 7 (dk_at dksX3_goArm_2 4 rfl rfl)
theorem dX3_goArm_55 : decode cX3_goArm 55 = .ok (.bipush 90, 2) := dk_16 90 (dk_at dksX3_goArm_2 7 rfl rfl)
theorem dX3_goArm_57 : decode cX3_goArm 57 = .ok (.iload_n 3, 1) := dk_29 (dk_at dksX3_goArm_2 9 rfl rfl)
theorem dX3_goArm_58 : decode cX3_goArm 58 = .ok (.iadd, 1) := dk_96 (dk_at dksX3_goArm_2 10 rfl rfl)
theorem dX3_goArm_59 : decode cX3_goArm 59 = .ok (.iload_n 2, 1) := dk_28 (dk_at dksX3_goArm_2 11 rfl rfl)
theorem dX3_goArm_60 : decode cX3_goArm 60 = .ok (.iastore, 1) := dk_79 (dk_at dksX3_goArm_2 12 rfl rfl)
theorem dX3_goArm_61 : decode cX3_goArm 61 = .ok (.aload_n 0, 1) := dk_42 (dk_at dksX3_goArm_2 13 rfl rfl)
theorem dX3_goArm_62 : decode cX3_goArm 62 = .ok (.getfield 7, 3) := dk_180 0 7 (dk_at dksX3_goArm_2 14 rfl rfl)
theorem dX3_goArm_65 : decode cX3_goArm 65 = .ok (.bipush 83, 2) := dk_16 83 (dk_at dksX3_goArm_2 17 rfl rfl)
theorem dX3_goArm_67 : decode cX3_goArm 67 = .ok (.dup2, 1) := dk_92 (dk_at dksX3_goArm_2 19 rfl rfl)
theorem dX3_goArm_68 : decode cX3_goArm 68 = .ok (.iaload, 1) := dk_46 (dk_at dksX3_goArm_2 20 rfl rfl)
theorem dX3_goArm_69 : decode cX3_goArm 69 = .ok (.iconst 1, 1) := dk_4 (dk_at dksX3_goArm_2 21 rfl rfl)
theorem dX3_goArm_70 : decode cX3_goArm 70 = .ok (.iadd, 1) := dk_96 (dk_at dksX3_goArm_2 22 rfl rfl)
theorem dX3_goArm_71 : decode cX3_goArm 71 = .ok (.iastore, 1) := dk_79 (dk_at dksX3_goArm_2 23 rfl rfl)
theorem dX3_goArm_72 : decode cX3_goArm 72 = .ok (.iload_n 3, 1) := dk_29 (dk_at dksX3_goArm_3 0 rfl rfl)
theorem dX3_goArm_73 : decode cX3_goArm 73 = .ok (.ireturn, 1) := dk_172 (dk_at dksX3_goArm_3 1 rfl rfl)
abbrev cX3_setBend : ByteArray := prog_10_method_39_code
def yX3_setBend : MethodName := ⟨RX3, "setBend", "(II)I"⟩
def dkwX3_setBend_1 : List UInt8 := [153, 0, 15, 42, 16, 90, 27, 96, 28, 182, 0, 140, 167, 0, 8, 42, 4, 182, 0, 51, 172]
abbrev dktX3_setBend_1 : List UInt8 := dkwX3_setBend_1 ++ []
def dkwX3_setBend_0 : List UInt8 := [42, 182, 0, 113, 42, 27, 182, 0, 137, 153, 0, 28, 28, 17, 255, 76, 17, 0, 180, 184, 0, 58]
abbrev dktX3_setBend_0 : List UInt8 := dkwX3_setBend_0 ++ dktX3_setBend_1
theorem dksX3_setBend_0 : cX3_setBend.data.toList.drop 0 = dktX3_setBend_0 := by decide +kernel
theorem dksX3_setBend_1 : cX3_setBend.data.toList.drop 22 = dktX3_setBend_1 := dk_seg dksX3_setBend_0 22 rfl rfl
theorem dX3_setBend_0 : decode cX3_setBend 0 = .ok (.aload_n 0, 1) := dk_42 (dk_at dksX3_setBend_0 0 rfl rfl)
theorem dX3_setBend_1 : decode cX3_setBend 1 = .ok (.invokevirtual 113, 3) := dk_182 0 113 (dk_at dksX3_setBend_0 1 rfl rfl)
theorem dX3_setBend_4 : decode cX3_setBend 4 = .ok (.aload_n 0, 1) := dk_42 (dk_at dksX3_setBend_0 4 rfl rfl)
theorem dX3_setBend_5 : decode cX3_setBend 5 = .ok (.iload_n 1, 1) := dk_27 (dk_at dksX3_setBend_0 5 rfl rfl)
theorem dX3_setBend_6 : decode cX3_setBend 6 = .ok (.invokevirtual 137, 3) := dk_182 0 137 (dk_at dksX3_setBend_0 6 rfl rfl)
theorem dX3_setBend_9 : decode cX3_setBend 9 = .ok (.ifCond .eq 28, 3) := dk_153 0 28 (dk_at dksX3_setBend_0 9 rfl rfl)
theorem dX3_setBend_12 : decode cX3_setBend 12 = .ok (.iload_n 2, 1) := dk_28 (dk_at dksX3_setBend_0 12 rfl rfl)
theorem dX3_setBend_13 : decode cX3_setBend 13 = .ok (.sipush (-180), 3) := dk_17 255 76 (dk_at dksX3_setBend_0 13 rfl rfl)
theorem dX3_setBend_16 : decode cX3_setBend 16 = .ok (.sipush 180, 3) := dk_17 0 180 (dk_at dksX3_setBend_0 16 rfl rfl)
theorem dX3_setBend_19 : decode cX3_setBend 19 = .ok (.invokestatic 58, 3) := dk_184 0 58 (dk_at dksX3_setBend_0 19 rfl rfl)
theorem dX3_setBend_22 : decode cX3_setBend 22 = .ok (.ifCond .eq 15, 3) := dk_153 0 15 (dk_at dksX3_setBend_1 0 rfl rfl)
theorem dX3_setBend_25 : decode cX3_setBend 25 = .ok (.aload_n 0, 1) := dk_42 (dk_at dksX3_setBend_1 3 rfl rfl)
theorem dX3_setBend_26 : decode cX3_setBend 26 = .ok (.bipush 90, 2) := dk_16 90 (dk_at dksX3_setBend_1 4 rfl rfl)
theorem dX3_setBend_28 : decode cX3_setBend 28 = .ok (.iload_n 1, 1) := dk_27 (dk_at dksX3_setBend_1 6 rfl rfl)
theorem dX3_setBend_29 : decode cX3_setBend 29 = .ok (.iadd, 1) := dk_96 (dk_at dksX3_setBend_1 7 rfl rfl)
theorem dX3_setBend_30 : decode cX3_setBend 30 = .ok (.iload_n 2, 1) := dk_28 (dk_at dksX3_setBend_1 8 rfl rfl)
theorem dX3_setBend_31 : decode cX3_setBend 31 = .ok (.invokevirtual 140, 3) := dk_182 0 140 (dk_at dksX3_setBend_1 9 rfl rfl)
theorem dX3_setBend_34 : decode cX3_setBend 34 = .ok (.goto 8, 3) := dk_167 0 8 (dk_at dksX3_setBend_1 12 rfl rfl)
theorem dX3_setBend_37 : decode cX3_setBend 37 = .ok (.aload_n 0, 1) := dk_42 (dk_at dksX3_setBend_1 15 rfl rfl)
theorem dX3_setBend_38 : decode cX3_setBend 38 = .ok (.iconst 1, 1) := dk_4 (dk_at dksX3_setBend_1 16 rfl rfl)
theorem dX3_setBend_39 : decode cX3_setBend 39 = .ok (.invokevirtual 51, 3) := dk_182 0 51 (dk_at dksX3_setBend_1 17 rfl rfl)
theorem dX3_setBend_42 : decode cX3_setBend 42 = .ok (.ireturn, 1) := dk_172 (dk_at dksX3_setBend_1 20 rfl rfl)
abbrev cX3_isArm : ByteArray := prog_10_method_13_code
def yX3_isArm : MethodName := ⟨RX3, "isArm", "(I)Z"⟩
def dkwX3_isArm_0 : List UInt8 := [27, 3, 42, 180, 0, 7, 16, 83, 46, 4, 100, 184, 0, 58, 172]
abbrev dktX3_isArm_0 : List UInt8 := dkwX3_isArm_0 ++ []
theorem dksX3_isArm_0 : cX3_isArm.data.toList.drop 0 = dktX3_isArm_0 := by decide +kernel
theorem dX3_isArm_0 : decode cX3_isArm 0 = .ok (.iload_n 1, 1) := dk_27 (dk_at dksX3_isArm_0 0 rfl rfl)
theorem dX3_isArm_1 : decode cX3_isArm 1 = .ok (.iconst 0, 1) := dk_3 (dk_at dksX3_isArm_0 1 rfl rfl)
theorem dX3_isArm_2 : decode cX3_isArm 2 = .ok (.aload_n 0, 1) := dk_42 (dk_at dksX3_isArm_0 2 rfl rfl)
theorem dX3_isArm_3 : decode cX3_isArm 3 = .ok (.getfield 7, 3) := dk_180 0 7 (dk_at dksX3_isArm_0 3 rfl rfl)
theorem dX3_isArm_6 : decode cX3_isArm 6 = .ok (.bipush 83, 2) := dk_16 83 (dk_at dksX3_isArm_0 6 rfl rfl)
theorem dX3_isArm_8 : decode cX3_isArm 8 = .ok (.iaload, 1) := dk_46 (dk_at dksX3_isArm_0 8 rfl rfl)
theorem dX3_isArm_9 : decode cX3_isArm 9 = .ok (.iconst 1, 1) := dk_4 (dk_at dksX3_isArm_0 9 rfl rfl)
theorem dX3_isArm_10 : decode cX3_isArm 10 = .ok (.isub, 1) := dk_100 (dk_at dksX3_isArm_0 10 rfl rfl)
theorem dX3_isArm_11 : decode cX3_isArm 11 = .ok (.invokestatic 58, 3) := dk_184 0 58 (dk_at dksX3_isArm_0 11 rfl rfl)
theorem dX3_isArm_14 : decode cX3_isArm 14 = .ok (.ireturn, 1) := dk_172 (dk_at dksX3_isArm_0 14 rfl rfl)
abbrev cX3_changes : ByteArray := prog_10_method_38_code
def yX3_changes : MethodName := ⟨RX3, "changes", "(II)I"⟩
def dkwX3_changes_0 : List UInt8 := [42, 180, 0, 7, 27, 46, 62, 42, 180, 0, 7, 27, 28, 79, 42, 29, 182, 0, 119, 172]
abbrev dktX3_changes_0 : List UInt8 := dkwX3_changes_0 ++ []
theorem dksX3_changes_0 : cX3_changes.data.toList.drop 0 = dktX3_changes_0 := by decide +kernel
theorem dX3_changes_0 : decode cX3_changes 0 = .ok (.aload_n 0, 1) := dk_42 (dk_at dksX3_changes_0 0 rfl rfl)
theorem dX3_changes_1 : decode cX3_changes 1 = .ok (.getfield 7, 3) := dk_180 0 7 (dk_at dksX3_changes_0 1 rfl rfl)
theorem dX3_changes_4 : decode cX3_changes 4 = .ok (.iload_n 1, 1) := dk_27 (dk_at dksX3_changes_0 4 rfl rfl)
theorem dX3_changes_5 : decode cX3_changes 5 = .ok (.iaload, 1) := dk_46 (dk_at dksX3_changes_0 5 rfl rfl)
theorem dX3_changes_6 : decode cX3_changes 6 = .ok (.istore_n 3, 1) := dk_62 (dk_at dksX3_changes_0 6 rfl rfl)
theorem dX3_changes_7 : decode cX3_changes 7 = .ok (.aload_n 0, 1) := dk_42 (dk_at dksX3_changes_0 7 rfl rfl)
theorem dX3_changes_8 : decode cX3_changes 8 = .ok (.getfield 7, 3) := dk_180 0 7 (dk_at dksX3_changes_0 8 rfl rfl)
theorem dX3_changes_11 : decode cX3_changes 11 = .ok (.iload_n 1, 1) := dk_27 (dk_at dksX3_changes_0 11 rfl rfl)
theorem dX3_changes_12 : decode cX3_changes 12 = .ok (.iload_n 2, 1) := dk_28 (dk_at dksX3_changes_0 12 rfl rfl)
theorem dX3_changes_13 : decode cX3_changes 13 = .ok (.iastore, 1) := dk_79 (dk_at dksX3_changes_0 13 rfl rfl)
theorem dX3_changes_14 : decode cX3_changes 14 = .ok (.aload_n 0, 1) := dk_42 (dk_at dksX3_changes_0 14 rfl rfl)
theorem dX3_changes_15 : decode cX3_changes 15 = .ok (.iload_n 3, 1) := dk_29 (dk_at dksX3_changes_0 15 rfl rfl)
theorem dX3_changes_16 : decode cX3_changes 16 = .ok (.invokevirtual 119, 3) := dk_182 0 119 (dk_at dksX3_changes_0 16 rfl rfl)
theorem dX3_changes_19 : decode cX3_changes 19 = .ok (.ireturn, 1) := dk_172 (dk_at dksX3_changes_0 19 rfl rfl)
abbrev cX3_addMoon : ByteArray := prog_10_method_40_code
def yX3_addMoon : MethodName := ⟨RX3, "addMoon", "(II)I"⟩
def dkwX3_addMoon_3 : List UInt8 := [16, 102, 92, 46, 4, 96, 79, 42, 29, 182, 0, 119, 172]
abbrev dktX3_addMoon_3 : List UInt8 := dkwX3_addMoon_3 ++ []
def dkwX3_addMoon_2 : List UInt8 := [180, 0, 7, 16, 103, 29, 96, 27, 79, 42, 180, 0, 7, 16, 107, 29, 96, 28, 79, 42, 180, 0, 7]
abbrev dktX3_addMoon_2 : List UInt8 := dkwX3_addMoon_2 ++ dktX3_addMoon_3
def dkwX3_addMoon_1 : List UInt8 := [182, 0, 51, 172, 42, 180, 0, 7, 16, 102, 46, 62, 29, 7, 160, 0, 9, 42, 5, 182, 0, 51, 172, 42]
abbrev dktX3_addMoon_1 : List UInt8 := dkwX3_addMoon_1 ++ dktX3_addMoon_2
def dkwX3_addMoon_0 : List UInt8 := [42, 182, 0, 113, 42, 27, 182, 0, 137, 153, 0, 11, 42, 28, 182, 0, 88, 154, 0, 9, 42, 4]
abbrev dktX3_addMoon_0 : List UInt8 := dkwX3_addMoon_0 ++ dktX3_addMoon_1
theorem dksX3_addMoon_0 : cX3_addMoon.data.toList.drop 0 = dktX3_addMoon_0 := by decide +kernel
theorem dksX3_addMoon_1 : cX3_addMoon.data.toList.drop 22 = dktX3_addMoon_1 := dk_seg dksX3_addMoon_0 22 rfl rfl
theorem dksX3_addMoon_2 : cX3_addMoon.data.toList.drop 46 = dktX3_addMoon_2 := dk_seg dksX3_addMoon_1 24 rfl rfl
theorem dksX3_addMoon_3 : cX3_addMoon.data.toList.drop 69 = dktX3_addMoon_3 := dk_seg dksX3_addMoon_2 23 rfl rfl
theorem dX3_addMoon_0 : decode cX3_addMoon 0 = .ok (.aload_n 0, 1) := dk_42 (dk_at dksX3_addMoon_0 0 rfl rfl)
theorem dX3_addMoon_1 : decode cX3_addMoon 1 = .ok (.invokevirtual 113, 3) := dk_182 0 113 (dk_at dksX3_addMoon_0 1 rfl rfl)
theorem dX3_addMoon_4 : decode cX3_addMoon 4 = .ok (.aload_n 0, 1) := dk_42 (dk_at dksX3_addMoon_0 4 rfl rfl)
theorem dX3_addMoon_5 : decode cX3_addMoon 5 = .ok (.iload_n 1, 1) := dk_27 (dk_at dksX3_addMoon_0 5 rfl rfl)
theorem dX3_addMoon_6 : decode cX3_addMoon 6 = .ok (.invokevirtual 137, 3) := dk_182 0 137 (dk_at dksX3_addMoon_0 6 rfl rfl)
theorem dX3_addMoon_9 : decode cX3_addMoon 9 = .ok (.ifCond .eq 11, 3) := dk_153 0 11 (dk_at dksX3_addMoon_0 9 rfl rfl)
theorem dX3_addMoon_12 : decode cX3_addMoon 12 = .ok (.aload_n 0, 1) := dk_42 (dk_at dksX3_addMoon_0 12 rfl rfl)
theorem dX3_addMoon_13 : decode cX3_addMoon 13 = .ok (.iload_n 2, 1) := dk_28 (dk_at dksX3_addMoon_0 13 rfl rfl)
theorem dX3_addMoon_14 : decode cX3_addMoon 14 = .ok (.invokevirtual 88, 3) := dk_182 0 88 (dk_at dksX3_addMoon_0 14 rfl rfl)
theorem dX3_addMoon_17 : decode cX3_addMoon 17 = .ok (.ifCond .ne 9, 3) := dk_154 0 9 (dk_at dksX3_addMoon_0 17 rfl rfl)
theorem dX3_addMoon_20 : decode cX3_addMoon 20 = .ok (.aload_n 0, 1) := dk_42 (dk_at dksX3_addMoon_0 20 rfl rfl)
theorem dX3_addMoon_21 : decode cX3_addMoon 21 = .ok (.iconst 1, 1) := dk_4 (dk_at dksX3_addMoon_0 21 rfl rfl)
theorem dX3_addMoon_22 : decode cX3_addMoon 22 = .ok (.invokevirtual 51, 3) := dk_182 0 51 (dk_at dksX3_addMoon_1 0 rfl rfl)
theorem dX3_addMoon_25 : decode cX3_addMoon 25 = .ok (.ireturn, 1) := dk_172 (dk_at dksX3_addMoon_1 3 rfl rfl)
theorem dX3_addMoon_26 : decode cX3_addMoon 26 = .ok (.aload_n 0, 1) := dk_42 (dk_at dksX3_addMoon_1 4 rfl rfl)
theorem dX3_addMoon_27 : decode cX3_addMoon 27 = .ok (.getfield 7, 3) := dk_180 0 7 (dk_at dksX3_addMoon_1 5 rfl rfl)
theorem dX3_addMoon_30 : decode cX3_addMoon 30 = .ok (.bipush 102, 2) := dk_16 102 (dk_at dksX3_addMoon_1 8 rfl rfl)
theorem dX3_addMoon_32 : decode cX3_addMoon 32 = .ok (.iaload, 1) := dk_46 (dk_at dksX3_addMoon_1 10 rfl rfl)
theorem dX3_addMoon_33 : decode cX3_addMoon 33 = .ok (.istore_n 3, 1) := dk_62 (dk_at dksX3_addMoon_1 11 rfl rfl)
theorem dX3_addMoon_34 : decode cX3_addMoon 34 = .ok (.iload_n 3, 1) := dk_29 (dk_at dksX3_addMoon_1 12 rfl rfl)
theorem dX3_addMoon_35 : decode cX3_addMoon 35 = .ok (.iconst 4, 1) := dk_7 (dk_at dksX3_addMoon_1 13 rfl rfl)
theorem dX3_addMoon_36 : decode cX3_addMoon 36 = .ok (.if_icmp .ne 9, 3) := dk_160 0 9 (dk_at dksX3_addMoon_1 14 rfl rfl)
theorem dX3_addMoon_39 : decode cX3_addMoon 39 = .ok (.aload_n 0, 1) := dk_42 (dk_at dksX3_addMoon_1 17 rfl rfl)
theorem dX3_addMoon_40 : decode cX3_addMoon 40 = .ok (.iconst 2, 1) := dk_5 (dk_at dksX3_addMoon_1 18 rfl rfl)
theorem dX3_addMoon_41 : decode cX3_addMoon 41 = .ok (.invokevirtual 51, 3) := dk_182 0 51 (dk_at dksX3_addMoon_1 19 rfl rfl)
theorem dX3_addMoon_44 : decode cX3_addMoon 44 = .ok (.ireturn, 1) := dk_172 (dk_at dksX3_addMoon_1 22 rfl rfl)
theorem dX3_addMoon_45 : decode cX3_addMoon 45 = .ok (.aload_n 0, 1) := dk_42 (dk_at dksX3_addMoon_1 23 rfl rfl)
theorem dX3_addMoon_46 : decode cX3_addMoon 46 = .ok (.getfield 7, 3) := dk_180 0 7 (dk_at dksX3_addMoon_2 0 rfl rfl)
theorem dX3_addMoon_49 : decode cX3_addMoon 49 = .ok (.bipush 103, 2) := dk_16 103 (dk_at dksX3_addMoon_2 3 rfl rfl)
theorem dX3_addMoon_51 : decode cX3_addMoon 51 = .ok (.iload_n 3, 1) := dk_29 (dk_at dksX3_addMoon_2 5 rfl rfl)
theorem dX3_addMoon_52 : decode cX3_addMoon 52 = .ok (.iadd, 1) := dk_96 (dk_at dksX3_addMoon_2 6 rfl rfl)
theorem dX3_addMoon_53 : decode cX3_addMoon 53 = .ok (.iload_n 1, 1) := dk_27 (dk_at dksX3_addMoon_2 7 rfl rfl)
theorem dX3_addMoon_54 : decode cX3_addMoon 54 = .ok (.iastore, 1) := dk_79 (dk_at dksX3_addMoon_2 8 rfl rfl)
theorem dX3_addMoon_55 : decode cX3_addMoon 55 = .ok (.aload_n 0, 1) := dk_42 (dk_at dksX3_addMoon_2 9 rfl rfl)
theorem dX3_addMoon_56 : decode cX3_addMoon 56 = .ok (.getfield 7, 3) := dk_180 0 7 (dk_at dksX3_addMoon_2 10 rfl rfl)
theorem dX3_addMoon_59 : decode cX3_addMoon 59 = .ok (.bipush 107, 2) := dk_16 107 (dk_at dksX3_addMoon_2 13 rfl rfl)
theorem dX3_addMoon_61 : decode cX3_addMoon 61 = .ok (.iload_n 3, 1) := dk_29 (dk_at dksX3_addMoon_2 15 rfl rfl)
theorem dX3_addMoon_62 : decode cX3_addMoon 62 = .ok (.iadd, 1) := dk_96 (dk_at dksX3_addMoon_2 16 rfl rfl)
theorem dX3_addMoon_63 : decode cX3_addMoon 63 = .ok (.iload_n 2, 1) := dk_28 (dk_at dksX3_addMoon_2 17 rfl rfl)
theorem dX3_addMoon_64 : decode cX3_addMoon 64 = .ok (.iastore, 1) := dk_79 (dk_at dksX3_addMoon_2 18 rfl rfl)
theorem dX3_addMoon_65 : decode cX3_addMoon 65 = .ok (.aload_n 0, 1) := dk_42 (dk_at dksX3_addMoon_2 19 rfl rfl)
theorem dX3_addMoon_66 : decode cX3_addMoon 66 = .ok (.getfield 7, 3) := dk_180 0 7 (dk_at dksX3_addMoon_2 20 rfl rfl)
theorem dX3_addMoon_69 : decode cX3_addMoon 69 = .ok (.bipush 102, 2) := dk_16 102 (dk_at dksX3_addMoon_3 0 rfl rfl)
theorem dX3_addMoon_71 : decode cX3_addMoon 71 = .ok (.dup2, 1) := dk_92 (dk_at dksX3_addMoon_3 2 rfl rfl)
theorem dX3_addMoon_72 : decode cX3_addMoon 72 = .ok (.iaload, 1) := dk_46 (dk_at dksX3_addMoon_3 3 rfl rfl)
theorem dX3_addMoon_73 : decode cX3_addMoon 73 = .ok (.iconst 1, 1) := dk_4 (dk_at dksX3_addMoon_3 4 rfl rfl)
theorem dX3_addMoon_74 : decode cX3_addMoon 74 = .ok (.iadd, 1) := dk_96 (dk_at dksX3_addMoon_3 5 rfl rfl)
theorem dX3_addMoon_75 : decode cX3_addMoon 75 = .ok (.iastore, 1) := dk_79 (dk_at dksX3_addMoon_3 6 rfl rfl)
theorem dX3_addMoon_76 : decode cX3_addMoon 76 = .ok (.aload_n 0, 1) := dk_42 (dk_at dksX3_addMoon_3 7 rfl rfl)
theorem dX3_addMoon_77 : decode cX3_addMoon 77 = .ok (.iload_n 3, 1) := dk_29 (dk_at dksX3_addMoon_3 8 rfl rfl)
theorem dX3_addMoon_78 : decode cX3_addMoon 78 = .ok (.invokevirtual 119, 3) := dk_182 0 119 (dk_at dksX3_addMoon_3 9 rfl rfl)
theorem dX3_addMoon_81 : decode cX3_addMoon 81 = .ok (.ireturn, 1) := dk_172 (dk_at dksX3_addMoon_3 12 rfl rfl)
abbrev cX3_setPeriod : ByteArray := prog_10_method_41_code
def yX3_setPeriod : MethodName := ⟨RX3, "setPeriod", "(II)I"⟩
def dkwX3_setPeriod_1 : List UInt8 := [16, 96, 27, 96, 28, 182, 0, 140, 167, 0, 8, 42, 4, 182, 0, 51, 172]
abbrev dktX3_setPeriod_1 : List UInt8 := dkwX3_setPeriod_1 ++ []
def dkwX3_setPeriod_0 : List UInt8 := [42, 182, 0, 113, 42, 27, 182, 0, 137, 153, 0, 25, 28, 3, 18, 143, 184, 0, 58, 153, 0, 15, 42]
abbrev dktX3_setPeriod_0 : List UInt8 := dkwX3_setPeriod_0 ++ dktX3_setPeriod_1
theorem dksX3_setPeriod_0 : cX3_setPeriod.data.toList.drop 0 = dktX3_setPeriod_0 := by decide +kernel
theorem dksX3_setPeriod_1 : cX3_setPeriod.data.toList.drop 23 = dktX3_setPeriod_1 := dk_seg dksX3_setPeriod_0 23 rfl rfl
theorem dX3_setPeriod_0 : decode cX3_setPeriod 0 = .ok (.aload_n 0, 1) := dk_42 (dk_at dksX3_setPeriod_0 0 rfl rfl)
theorem dX3_setPeriod_1 : decode cX3_setPeriod 1 = .ok (.invokevirtual 113, 3) := dk_182 0 113 (dk_at dksX3_setPeriod_0 1 rfl rfl)
theorem dX3_setPeriod_4 : decode cX3_setPeriod 4 = .ok (.aload_n 0, 1) := dk_42 (dk_at dksX3_setPeriod_0 4 rfl rfl)
theorem dX3_setPeriod_5 : decode cX3_setPeriod 5 = .ok (.iload_n 1, 1) := dk_27 (dk_at dksX3_setPeriod_0 5 rfl rfl)
theorem dX3_setPeriod_6 : decode cX3_setPeriod 6 = .ok (.invokevirtual 137, 3) := dk_182 0 137 (dk_at dksX3_setPeriod_0 6 rfl rfl)
theorem dX3_setPeriod_9 : decode cX3_setPeriod 9 = .ok (.ifCond .eq 25, 3) := dk_153 0 25 (dk_at dksX3_setPeriod_0 9 rfl rfl)
theorem dX3_setPeriod_12 : decode cX3_setPeriod 12 = .ok (.iload_n 2, 1) := dk_28 (dk_at dksX3_setPeriod_0 12 rfl rfl)
theorem dX3_setPeriod_13 : decode cX3_setPeriod 13 = .ok (.iconst 0, 1) := dk_3 (dk_at dksX3_setPeriod_0 13 rfl rfl)
theorem dX3_setPeriod_14 : decode cX3_setPeriod 14 = .ok (.ldc 143, 2) := dk_18 143 (dk_at dksX3_setPeriod_0 14 rfl rfl)
theorem dX3_setPeriod_16 : decode cX3_setPeriod 16 = .ok (.invokestatic 58, 3) := dk_184 0 58 (dk_at dksX3_setPeriod_0 16 rfl rfl)
theorem dX3_setPeriod_19 : decode cX3_setPeriod 19 = .ok (.ifCond .eq 15, 3) := dk_153 0 15 (dk_at dksX3_setPeriod_0 19 rfl rfl)
theorem dX3_setPeriod_22 : decode cX3_setPeriod 22 = .ok (.aload_n 0, 1) := dk_42 (dk_at dksX3_setPeriod_0 22 rfl rfl)
theorem dX3_setPeriod_23 : decode cX3_setPeriod 23 = .ok (.bipush 96, 2) := dk_16 96 (dk_at dksX3_setPeriod_1 0 rfl rfl)
theorem dX3_setPeriod_25 : decode cX3_setPeriod 25 = .ok (.iload_n 1, 1) := dk_27 (dk_at dksX3_setPeriod_1 2 rfl rfl)
theorem dX3_setPeriod_26 : decode cX3_setPeriod 26 = .ok (.iadd, 1) := dk_96 (dk_at dksX3_setPeriod_1 3 rfl rfl)
theorem dX3_setPeriod_27 : decode cX3_setPeriod 27 = .ok (.iload_n 2, 1) := dk_28 (dk_at dksX3_setPeriod_1 4 rfl rfl)
theorem dX3_setPeriod_28 : decode cX3_setPeriod 28 = .ok (.invokevirtual 140, 3) := dk_182 0 140 (dk_at dksX3_setPeriod_1 5 rfl rfl)
theorem dX3_setPeriod_31 : decode cX3_setPeriod 31 = .ok (.goto 8, 3) := dk_167 0 8 (dk_at dksX3_setPeriod_1 8 rfl rfl)
theorem dX3_setPeriod_34 : decode cX3_setPeriod 34 = .ok (.aload_n 0, 1) := dk_42 (dk_at dksX3_setPeriod_1 11 rfl rfl)
theorem dX3_setPeriod_35 : decode cX3_setPeriod 35 = .ok (.iconst 1, 1) := dk_4 (dk_at dksX3_setPeriod_1 12 rfl rfl)
theorem dX3_setPeriod_36 : decode cX3_setPeriod 36 = .ok (.invokevirtual 51, 3) := dk_182 0 51 (dk_at dksX3_setPeriod_1 13 rfl rfl)
theorem dX3_setPeriod_39 : decode cX3_setPeriod 39 = .ok (.ireturn, 1) := dk_172 (dk_at dksX3_setPeriod_1 16 rfl rfl)
abbrev cX3_pass : ByteArray := prog_10_method_42_code
def yX3_pass : MethodName := ⟨RX3, "pass", "(I)I"⟩
def dkwX3_pass_0 : List UInt8 := [42, 182, 0, 113, 42, 42, 27, 182, 0, 144, 182, 0, 119, 172]
abbrev dktX3_pass_0 : List UInt8 := dkwX3_pass_0 ++ []
theorem dksX3_pass_0 : cX3_pass.data.toList.drop 0 = dktX3_pass_0 := by decide +kernel
theorem dX3_pass_0 : decode cX3_pass 0 = .ok (.aload_n 0, 1) := dk_42 (dk_at dksX3_pass_0 0 rfl rfl)
theorem dX3_pass_1 : decode cX3_pass 1 = .ok (.invokevirtual 113, 3) := dk_182 0 113 (dk_at dksX3_pass_0 1 rfl rfl)
theorem dX3_pass_4 : decode cX3_pass 4 = .ok (.aload_n 0, 1) := dk_42 (dk_at dksX3_pass_0 4 rfl rfl)
theorem dX3_pass_5 : decode cX3_pass 5 = .ok (.aload_n 0, 1) := dk_42 (dk_at dksX3_pass_0 5 rfl rfl)
theorem dX3_pass_6 : decode cX3_pass 6 = .ok (.iload_n 1, 1) := dk_27 (dk_at dksX3_pass_0 6 rfl rfl)
theorem dX3_pass_7 : decode cX3_pass 7 = .ok (.invokevirtual 144, 3) := dk_182 0 144 (dk_at dksX3_pass_0 7 rfl rfl)
theorem dX3_pass_10 : decode cX3_pass 10 = .ok (.invokevirtual 119, 3) := dk_182 0 119 (dk_at dksX3_pass_0 10 rfl rfl)
theorem dX3_pass_13 : decode cX3_pass 13 = .ok (.ireturn, 1) := dk_172 (dk_at dksX3_pass_0 13 rfl rfl)
abbrev cX3_goPass : ByteArray := prog_10_method_31_code
def yX3_goPass : MethodName := ⟨RX3, "goPass", "(I)I"⟩
def dkwX3_goPass_2 : List UInt8 := [16, 112, 92, 46, 27, 96, 79, 42, 180, 0, 7, 16, 111, 46, 172]
abbrev dktX3_goPass_2 : List UInt8 := dkwX3_goPass_2 ++ []
def dkwX3_goPass_1 : List UInt8 := [18, 112, 164, 0, 6, 18, 50, 172, 42, 180, 0, 7, 16, 111, 92, 46, 27, 96, 79, 42, 180, 0, 7]
abbrev dktX3_goPass_1 : List UInt8 := dkwX3_goPass_1 ++ dktX3_goPass_2
def dkwX3_goPass_0 : List UInt8 := [27, 4, 17, 39, 15, 184, 0, 58, 154, 0, 6, 18, 49, 172, 42, 180, 0, 7, 16, 111, 46, 27, 96]
abbrev dktX3_goPass_0 : List UInt8 := dkwX3_goPass_0 ++ dktX3_goPass_1
theorem dksX3_goPass_0 : cX3_goPass.data.toList.drop 0 = dktX3_goPass_0 := by decide +kernel
theorem dksX3_goPass_1 : cX3_goPass.data.toList.drop 23 = dktX3_goPass_1 := dk_seg dksX3_goPass_0 23 rfl rfl
theorem dksX3_goPass_2 : cX3_goPass.data.toList.drop 46 = dktX3_goPass_2 := dk_seg dksX3_goPass_1 23 rfl rfl
theorem dX3_goPass_0 : decode cX3_goPass 0 = .ok (.iload_n 1, 1) := dk_27 (dk_at dksX3_goPass_0 0 rfl rfl)
theorem dX3_goPass_1 : decode cX3_goPass 1 = .ok (.iconst 1, 1) := dk_4 (dk_at dksX3_goPass_0 1 rfl rfl)
theorem dX3_goPass_2 : decode cX3_goPass 2 = .ok (.sipush 9999, 3) := dk_17 39 15 (dk_at dksX3_goPass_0 2 rfl rfl)
theorem dX3_goPass_5 : decode cX3_goPass 5 = .ok (.invokestatic 58, 3) := dk_184 0 58 (dk_at dksX3_goPass_0 5 rfl rfl)
theorem dX3_goPass_8 : decode cX3_goPass 8 = .ok (.ifCond .ne 6, 3) := dk_154 0 6 (dk_at dksX3_goPass_0 8 rfl rfl)
theorem dX3_goPass_11 : decode cX3_goPass 11 = .ok (.ldc 49, 2) := dk_18 49 (dk_at dksX3_goPass_0 11 rfl rfl)
theorem dX3_goPass_13 : decode cX3_goPass 13 = .ok (.ireturn, 1) := dk_172 (dk_at dksX3_goPass_0 13 rfl rfl)
theorem dX3_goPass_14 : decode cX3_goPass 14 = .ok (.aload_n 0, 1) := dk_42 (dk_at dksX3_goPass_0 14 rfl rfl)
theorem dX3_goPass_15 : decode cX3_goPass 15 = .ok (.getfield 7, 3) := dk_180 0 7 (dk_at dksX3_goPass_0 15 rfl rfl)
theorem dX3_goPass_18 : decode cX3_goPass 18 = .ok (.bipush 111, 2) := dk_16 111 (dk_at dksX3_goPass_0 18 rfl rfl)
theorem dX3_goPass_20 : decode cX3_goPass 20 = .ok (.iaload, 1) := dk_46 (dk_at dksX3_goPass_0 20 rfl rfl)
theorem dX3_goPass_21 : decode cX3_goPass 21 = .ok (.iload_n 1, 1) := dk_27 (dk_at dksX3_goPass_0 21 rfl rfl)
theorem dX3_goPass_22 : decode cX3_goPass 22 = .ok (.iadd, 1) := dk_96 (dk_at dksX3_goPass_0 22 rfl rfl)
theorem dX3_goPass_23 : decode cX3_goPass 23 = .ok (.ldc 112, 2) := dk_18 112 (dk_at dksX3_goPass_1 0 rfl rfl)
theorem dX3_goPass_25 : decode cX3_goPass 25 = .ok (.if_icmp .le 6, 3) := dk_164 0 6 (dk_at dksX3_goPass_1 2 rfl rfl)
theorem dX3_goPass_28 : decode cX3_goPass 28 = .ok (.ldc 50, 2) := dk_18 50 (dk_at dksX3_goPass_1 5 rfl rfl)
theorem dX3_goPass_30 : decode cX3_goPass 30 = .ok (.ireturn, 1) := dk_172 (dk_at dksX3_goPass_1 7 rfl rfl)
theorem dX3_goPass_31 : decode cX3_goPass 31 = .ok (.aload_n 0, 1) := dk_42 (dk_at dksX3_goPass_1 8 rfl rfl)
theorem dX3_goPass_32 : decode cX3_goPass 32 = .ok (.getfield 7, 3) := dk_180 0 7 (dk_at dksX3_goPass_1 9 rfl rfl)
theorem dX3_goPass_35 : decode cX3_goPass 35 = .ok (.bipush 111, 2) := dk_16 111 (dk_at dksX3_goPass_1 12 rfl rfl)
theorem dX3_goPass_37 : decode cX3_goPass 37 = .ok (.dup2, 1) := dk_92 (dk_at dksX3_goPass_1 14 rfl rfl)
theorem dX3_goPass_38 : decode cX3_goPass 38 = .ok (.iaload, 1) := dk_46 (dk_at dksX3_goPass_1 15 rfl rfl)
theorem dX3_goPass_39 : decode cX3_goPass 39 = .ok (.iload_n 1, 1) := dk_27 (dk_at dksX3_goPass_1 16 rfl rfl)
theorem dX3_goPass_40 : decode cX3_goPass 40 = .ok (.iadd, 1) := dk_96 (dk_at dksX3_goPass_1 17 rfl rfl)
theorem dX3_goPass_41 : decode cX3_goPass 41 = .ok (.iastore, 1) := dk_79 (dk_at dksX3_goPass_1 18 rfl rfl)
theorem dX3_goPass_42 : decode cX3_goPass 42 = .ok (.aload_n 0, 1) := dk_42 (dk_at dksX3_goPass_1 19 rfl rfl)
theorem dX3_goPass_43 : decode cX3_goPass 43 = .ok (.getfield 7, 3) := dk_180 0 7 (dk_at dksX3_goPass_1 20 rfl rfl)
theorem dX3_goPass_46 : decode cX3_goPass 46 = .ok (.bipush 112, 2) := dk_16 112 (dk_at dksX3_goPass_2 0 rfl rfl)
theorem dX3_goPass_48 : decode cX3_goPass 48 = .ok (.dup2, 1) := dk_92 (dk_at dksX3_goPass_2 2 rfl rfl)
theorem dX3_goPass_49 : decode cX3_goPass 49 = .ok (.iaload, 1) := dk_46 (dk_at dksX3_goPass_2 3 rfl rfl)
theorem dX3_goPass_50 : decode cX3_goPass 50 = .ok (.iload_n 1, 1) := dk_27 (dk_at dksX3_goPass_2 4 rfl rfl)
theorem dX3_goPass_51 : decode cX3_goPass 51 = .ok (.iadd, 1) := dk_96 (dk_at dksX3_goPass_2 5 rfl rfl)
theorem dX3_goPass_52 : decode cX3_goPass 52 = .ok (.iastore, 1) := dk_79 (dk_at dksX3_goPass_2 6 rfl rfl)
theorem dX3_goPass_53 : decode cX3_goPass 53 = .ok (.aload_n 0, 1) := dk_42 (dk_at dksX3_goPass_2 7 rfl rfl)
theorem dX3_goPass_54 : decode cX3_goPass 54 = .ok (.getfield 7, 3) := dk_180 0 7 (dk_at dksX3_goPass_2 8 rfl rfl)
theorem dX3_goPass_57 : decode cX3_goPass 57 = .ok (.bipush 111, 2) := dk_16 111 (dk_at dksX3_goPass_2 11 rfl rfl)
theorem dX3_goPass_59 : decode cX3_goPass 59 = .ok (.iaload, 1) := dk_46 (dk_at dksX3_goPass_2 13 rfl rfl)
theorem dX3_goPass_60 : decode cX3_goPass 60 = .ok (.ireturn, 1) := dk_172 (dk_at dksX3_goPass_2 14 rfl rfl)
abbrev cX3_setDay : ByteArray := prog_10_method_43_code
def yX3_setDay : MethodName := ⟨RX3, "setDay", "(I)I"⟩
def dkwX3_setDay_1 : List UInt8 := [42, 4, 182, 0, 51, 172]
abbrev dktX3_setDay_1 : List UInt8 := dkwX3_setDay_1 ++ []
def dkwX3_setDay_0 : List UInt8 := [42, 182, 0, 113, 27, 3, 18, 112, 184, 0, 58, 153, 0, 13, 42, 16, 111, 27, 182, 0, 140, 167, 0, 8]
abbrev dktX3_setDay_0 : List UInt8 := dkwX3_setDay_0 ++ dktX3_setDay_1
theorem dksX3_setDay_0 : cX3_setDay.data.toList.drop 0 = dktX3_setDay_0 := by decide +kernel
theorem dksX3_setDay_1 : cX3_setDay.data.toList.drop 24 = dktX3_setDay_1 := dk_seg dksX3_setDay_0 24 rfl rfl
theorem dX3_setDay_0 : decode cX3_setDay 0 = .ok (.aload_n 0, 1) := dk_42 (dk_at dksX3_setDay_0 0 rfl rfl)
theorem dX3_setDay_1 : decode cX3_setDay 1 = .ok (.invokevirtual 113, 3) := dk_182 0 113 (dk_at dksX3_setDay_0 1 rfl rfl)
theorem dX3_setDay_4 : decode cX3_setDay 4 = .ok (.iload_n 1, 1) := dk_27 (dk_at dksX3_setDay_0 4 rfl rfl)
theorem dX3_setDay_5 : decode cX3_setDay 5 = .ok (.iconst 0, 1) := dk_3 (dk_at dksX3_setDay_0 5 rfl rfl)
theorem dX3_setDay_6 : decode cX3_setDay 6 = .ok (.ldc 112, 2) := dk_18 112 (dk_at dksX3_setDay_0 6 rfl rfl)
theorem dX3_setDay_8 : decode cX3_setDay 8 = .ok (.invokestatic 58, 3) := dk_184 0 58 (dk_at dksX3_setDay_0 8 rfl rfl)
theorem dX3_setDay_11 : decode cX3_setDay 11 = .ok (.ifCond .eq 13, 3) := dk_153 0 13 (dk_at dksX3_setDay_0 11 rfl rfl)
theorem dX3_setDay_14 : decode cX3_setDay 14 = .ok (.aload_n 0, 1) := dk_42 (dk_at dksX3_setDay_0 14 rfl rfl)
theorem dX3_setDay_15 : decode cX3_setDay 15 = .ok (.bipush 111, 2) := dk_16 111 (dk_at dksX3_setDay_0 15 rfl rfl)
theorem dX3_setDay_17 : decode cX3_setDay 17 = .ok (.iload_n 1, 1) := dk_27 (dk_at dksX3_setDay_0 17 rfl rfl)
theorem dX3_setDay_18 : decode cX3_setDay 18 = .ok (.invokevirtual 140, 3) := dk_182 0 140 (dk_at dksX3_setDay_0 18 rfl rfl)
theorem dX3_setDay_21 : decode cX3_setDay 21 = .ok (.goto 8, 3) := dk_167 0 8 (dk_at dksX3_setDay_0 21 rfl rfl)
theorem dX3_setDay_24 : decode cX3_setDay 24 = .ok (.aload_n 0, 1) := dk_42 (dk_at dksX3_setDay_1 0 rfl rfl)
theorem dX3_setDay_25 : decode cX3_setDay 25 = .ok (.iconst 1, 1) := dk_4 (dk_at dksX3_setDay_1 1 rfl rfl)
theorem dX3_setDay_26 : decode cX3_setDay 26 = .ok (.invokevirtual 51, 3) := dk_182 0 51 (dk_at dksX3_setDay_1 2 rfl rfl)
theorem dX3_setDay_29 : decode cX3_setDay 29 = .ok (.ireturn, 1) := dk_172 (dk_at dksX3_setDay_1 5 rfl rfl)
abbrev cX3_undo : ByteArray := prog_10_method_44_code
def yX3_undo : MethodName := ⟨RX3, "undo", "()I"⟩
def dkwX3_undo_2 : List UInt8 := [180, 0, 46, 172]
abbrev dktX3_undo_2 : List UInt8 := dkwX3_undo_2 ++ []
def dkwX3_undo_1 : List UInt8 := [100, 181, 0, 46, 42, 180, 0, 19, 16, 113, 42, 180, 0, 46, 104, 42, 180, 0, 7, 3, 184, 0, 42, 42]
abbrev dktX3_undo_1 : List UInt8 := dkwX3_undo_1 ++ dktX3_undo_2
def dkwX3_undo_0 : List UInt8 := [42, 3, 181, 0, 38, 42, 180, 0, 46, 154, 0, 9, 42, 4, 182, 0, 51, 172, 42, 89, 180, 0, 46, 4]
abbrev dktX3_undo_0 : List UInt8 := dkwX3_undo_0 ++ dktX3_undo_1
theorem dksX3_undo_0 : cX3_undo.data.toList.drop 0 = dktX3_undo_0 := by decide +kernel
theorem dksX3_undo_1 : cX3_undo.data.toList.drop 24 = dktX3_undo_1 := dk_seg dksX3_undo_0 24 rfl rfl
theorem dksX3_undo_2 : cX3_undo.data.toList.drop 48 = dktX3_undo_2 := dk_seg dksX3_undo_1 24 rfl rfl
theorem dX3_undo_0 : decode cX3_undo 0 = .ok (.aload_n 0, 1) := dk_42 (dk_at dksX3_undo_0 0 rfl rfl)
theorem dX3_undo_1 : decode cX3_undo 1 = .ok (.iconst 0, 1) := dk_3 (dk_at dksX3_undo_0 1 rfl rfl)
theorem dX3_undo_2 : decode cX3_undo 2 = .ok (.putfield 38, 3) := dk_181 0 38 (dk_at dksX3_undo_0 2 rfl rfl)
theorem dX3_undo_5 : decode cX3_undo 5 = .ok (.aload_n 0, 1) := dk_42 (dk_at dksX3_undo_0 5 rfl rfl)
theorem dX3_undo_6 : decode cX3_undo 6 = .ok (.getfield 46, 3) := dk_180 0 46 (dk_at dksX3_undo_0 6 rfl rfl)
theorem dX3_undo_9 : decode cX3_undo 9 = .ok (.ifCond .ne 9, 3) := dk_154 0 9 (dk_at dksX3_undo_0 9 rfl rfl)
theorem dX3_undo_12 : decode cX3_undo 12 = .ok (.aload_n 0, 1) := dk_42 (dk_at dksX3_undo_0 12 rfl rfl)
theorem dX3_undo_13 : decode cX3_undo 13 = .ok (.iconst 1, 1) := dk_4 (dk_at dksX3_undo_0 13 rfl rfl)
theorem dX3_undo_14 : decode cX3_undo 14 = .ok (.invokevirtual 51, 3) := dk_182 0 51 (dk_at dksX3_undo_0 14 rfl rfl)
theorem dX3_undo_17 : decode cX3_undo 17 = .ok (.ireturn, 1) := dk_172 (dk_at dksX3_undo_0 17 rfl rfl)
theorem dX3_undo_18 : decode cX3_undo 18 = .ok (.aload_n 0, 1) := dk_42 (dk_at dksX3_undo_0 18 rfl rfl)
theorem dX3_undo_19 : decode cX3_undo 19 = .ok (.dup, 1) := dk_89 (dk_at dksX3_undo_0 19 rfl rfl)
theorem dX3_undo_20 : decode cX3_undo 20 = .ok (.getfield 46, 3) := dk_180 0 46 (dk_at dksX3_undo_0 20 rfl rfl)
theorem dX3_undo_23 : decode cX3_undo 23 = .ok (.iconst 1, 1) := dk_4 (dk_at dksX3_undo_0 23 rfl rfl)
theorem dX3_undo_24 : decode cX3_undo 24 = .ok (.isub, 1) := dk_100 (dk_at dksX3_undo_1 0 rfl rfl)
theorem dX3_undo_25 : decode cX3_undo 25 = .ok (.putfield 46, 3) := dk_181 0 46 (dk_at dksX3_undo_1 1 rfl rfl)
theorem dX3_undo_28 : decode cX3_undo 28 = .ok (.aload_n 0, 1) := dk_42 (dk_at dksX3_undo_1 4 rfl rfl)
theorem dX3_undo_29 : decode cX3_undo 29 = .ok (.getfield 19, 3) := dk_180 0 19 (dk_at dksX3_undo_1 5 rfl rfl)
theorem dX3_undo_32 : decode cX3_undo 32 = .ok (.bipush 113, 2) := dk_16 113 (dk_at dksX3_undo_1 8 rfl rfl)
theorem dX3_undo_34 : decode cX3_undo 34 = .ok (.aload_n 0, 1) := dk_42 (dk_at dksX3_undo_1 10 rfl rfl)
theorem dX3_undo_35 : decode cX3_undo 35 = .ok (.getfield 46, 3) := dk_180 0 46 (dk_at dksX3_undo_1 11 rfl rfl)
theorem dX3_undo_38 : decode cX3_undo 38 = .ok (.imul, 1) := dk_104 (dk_at dksX3_undo_1 14 rfl rfl)
theorem dX3_undo_39 : decode cX3_undo 39 = .ok (.aload_n 0, 1) := dk_42 (dk_at dksX3_undo_1 15 rfl rfl)
theorem dX3_undo_40 : decode cX3_undo 40 = .ok (.getfield 7, 3) := dk_180 0 7 (dk_at dksX3_undo_1 16 rfl rfl)
theorem dX3_undo_43 : decode cX3_undo 43 = .ok (.iconst 0, 1) := dk_3 (dk_at dksX3_undo_1 19 rfl rfl)
theorem dX3_undo_44 : decode cX3_undo 44 = .ok (.invokestatic 42, 3) := dk_184 0 42 (dk_at dksX3_undo_1 20 rfl rfl)
theorem dX3_undo_47 : decode cX3_undo 47 = .ok (.aload_n 0, 1) := dk_42 (dk_at dksX3_undo_1 23 rfl rfl)
theorem dX3_undo_48 : decode cX3_undo 48 = .ok (.getfield 46, 3) := dk_180 0 46 (dk_at dksX3_undo_2 0 rfl rfl)
theorem dX3_undo_51 : decode cX3_undo 51 = .ok (.ireturn, 1) := dk_172 (dk_at dksX3_undo_2 3 rfl rfl)
abbrev cX3_keep : ByteArray := prog_10_method_45_code
def yX3_keep : MethodName := ⟨RX3, "keep", "()I"⟩
def dkwX3_keep_1 : List UInt8 := [180, 0, 7, 16, 111, 46, 172]
abbrev dktX3_keep_1 : List UInt8 := dkwX3_keep_1 ++ []
def dkwX3_keep_0 : List UInt8 := [42, 3, 181, 0, 38, 42, 4, 181, 0, 147, 42, 180, 0, 7, 3, 42, 180, 0, 16, 3, 184, 0, 42, 42]
abbrev dktX3_keep_0 : List UInt8 := dkwX3_keep_0 ++ dktX3_keep_1
theorem dksX3_keep_0 : cX3_keep.data.toList.drop 0 = dktX3_keep_0 := by decide +kernel
theorem dksX3_keep_1 : cX3_keep.data.toList.drop 24 = dktX3_keep_1 := dk_seg dksX3_keep_0 24 rfl rfl
theorem dX3_keep_0 : decode cX3_keep 0 = .ok (.aload_n 0, 1) := dk_42 (dk_at dksX3_keep_0 0 rfl rfl)
theorem dX3_keep_1 : decode cX3_keep 1 = .ok (.iconst 0, 1) := dk_3 (dk_at dksX3_keep_0 1 rfl rfl)
theorem dX3_keep_2 : decode cX3_keep 2 = .ok (.putfield 38, 3) := dk_181 0 38 (dk_at dksX3_keep_0 2 rfl rfl)
theorem dX3_keep_5 : decode cX3_keep 5 = .ok (.aload_n 0, 1) := dk_42 (dk_at dksX3_keep_0 5 rfl rfl)
theorem dX3_keep_6 : decode cX3_keep 6 = .ok (.iconst 1, 1) := dk_4 (dk_at dksX3_keep_0 6 rfl rfl)
theorem dX3_keep_7 : decode cX3_keep 7 = .ok (.putfield 147, 3) := dk_181 0 147 (dk_at dksX3_keep_0 7 rfl rfl)
theorem dX3_keep_10 : decode cX3_keep 10 = .ok (.aload_n 0, 1) := dk_42 (dk_at dksX3_keep_0 10 rfl rfl)
theorem dX3_keep_11 : decode cX3_keep 11 = .ok (.getfield 7, 3) := dk_180 0 7 (dk_at dksX3_keep_0 11 rfl rfl)
theorem dX3_keep_14 : decode cX3_keep 14 = .ok (.iconst 0, 1) := dk_3 (dk_at dksX3_keep_0 14 rfl rfl)
theorem dX3_keep_15 : decode cX3_keep 15 = .ok (.aload_n 0, 1) := dk_42 (dk_at dksX3_keep_0 15 rfl rfl)
theorem dX3_keep_16 : decode cX3_keep 16 = .ok (.getfield 16, 3) := dk_180 0 16 (dk_at dksX3_keep_0 16 rfl rfl)
theorem dX3_keep_19 : decode cX3_keep 19 = .ok (.iconst 0, 1) := dk_3 (dk_at dksX3_keep_0 19 rfl rfl)
theorem dX3_keep_20 : decode cX3_keep 20 = .ok (.invokestatic 42, 3) := dk_184 0 42 (dk_at dksX3_keep_0 20 rfl rfl)
theorem dX3_keep_23 : decode cX3_keep 23 = .ok (.aload_n 0, 1) := dk_42 (dk_at dksX3_keep_0 23 rfl rfl)
theorem dX3_keep_24 : decode cX3_keep 24 = .ok (.getfield 7, 3) := dk_180 0 7 (dk_at dksX3_keep_1 0 rfl rfl)
theorem dX3_keep_27 : decode cX3_keep 27 = .ok (.bipush 111, 2) := dk_16 111 (dk_at dksX3_keep_1 3 rfl rfl)
theorem dX3_keep_29 : decode cX3_keep 29 = .ok (.iaload, 1) := dk_46 (dk_at dksX3_keep_1 5 rfl rfl)
theorem dX3_keep_30 : decode cX3_keep 30 = .ok (.ireturn, 1) := dk_172 (dk_at dksX3_keep_1 6 rfl rfl)
abbrev cX3_goBack : ByteArray := prog_10_method_46_code
def yX3_goBack : MethodName := ⟨RX3, "goBack", "()I"⟩
def dkwX3_goBack_1 : List UInt8 := [180, 0, 7, 3, 184, 0, 42, 42, 182, 0, 55, 42, 180, 0, 7, 16, 111, 46, 172]
abbrev dktX3_goBack_1 : List UInt8 := dkwX3_goBack_1 ++ []
def dkwX3_goBack_0 : List UInt8 := [42, 182, 0, 113, 42, 180, 0, 147, 154, 0, 9, 42, 4, 182, 0, 51, 172, 42, 180, 0, 16, 3, 42]
abbrev dktX3_goBack_0 : List UInt8 := dkwX3_goBack_0 ++ dktX3_goBack_1
theorem dksX3_goBack_0 : cX3_goBack.data.toList.drop 0 = dktX3_goBack_0 := by decide +kernel
theorem dksX3_goBack_1 : cX3_goBack.data.toList.drop 23 = dktX3_goBack_1 := dk_seg dksX3_goBack_0 23 rfl rfl
theorem dX3_goBack_0 : decode cX3_goBack 0 = .ok (.aload_n 0, 1) := dk_42 (dk_at dksX3_goBack_0 0 rfl rfl)
theorem dX3_goBack_1 : decode cX3_goBack 1 = .ok (.invokevirtual 113, 3) := dk_182 0 113 (dk_at dksX3_goBack_0 1 rfl rfl)
theorem dX3_goBack_4 : decode cX3_goBack 4 = .ok (.aload_n 0, 1) := dk_42 (dk_at dksX3_goBack_0 4 rfl rfl)
theorem dX3_goBack_5 : decode cX3_goBack 5 = .ok (.getfield 147, 3) := dk_180 0 147 (dk_at dksX3_goBack_0 5 rfl rfl)
theorem dX3_goBack_8 : decode cX3_goBack 8 = .ok (.ifCond .ne 9, 3) := dk_154 0 9 (dk_at dksX3_goBack_0 8 rfl rfl)
theorem dX3_goBack_11 : decode cX3_goBack 11 = .ok (.aload_n 0, 1) := dk_42 (dk_at dksX3_goBack_0 11 rfl rfl)
theorem dX3_goBack_12 : decode cX3_goBack 12 = .ok (.iconst 1, 1) := dk_4 (dk_at dksX3_goBack_0 12 rfl rfl)
theorem dX3_goBack_13 : decode cX3_goBack 13 = .ok (.invokevirtual 51, 3) := dk_182 0 51 (dk_at dksX3_goBack_0 13 rfl rfl)
theorem dX3_goBack_16 : decode cX3_goBack 16 = .ok (.ireturn, 1) := dk_172 (dk_at dksX3_goBack_0 16 rfl rfl)
theorem dX3_goBack_17 : decode cX3_goBack 17 = .ok (.aload_n 0, 1) := dk_42 (dk_at dksX3_goBack_0 17 rfl rfl)
theorem dX3_goBack_18 : decode cX3_goBack 18 = .ok (.getfield 16, 3) := dk_180 0 16 (dk_at dksX3_goBack_0 18 rfl rfl)
theorem dX3_goBack_21 : decode cX3_goBack 21 = .ok (.iconst 0, 1) := dk_3 (dk_at dksX3_goBack_0 21 rfl rfl)
theorem dX3_goBack_22 : decode cX3_goBack 22 = .ok (.aload_n 0, 1) := dk_42 (dk_at dksX3_goBack_0 22 rfl rfl)
theorem dX3_goBack_23 : decode cX3_goBack 23 = .ok (.getfield 7, 3) := dk_180 0 7 (dk_at dksX3_goBack_1 0 rfl rfl)
theorem dX3_goBack_26 : decode cX3_goBack 26 = .ok (.iconst 0, 1) := dk_3 (dk_at dksX3_goBack_1 3 rfl rfl)
theorem dX3_goBack_27 : decode cX3_goBack 27 = .ok (.invokestatic 42, 3) := dk_184 0 42 (dk_at dksX3_goBack_1 4 rfl rfl)
theorem dX3_goBack_30 : decode cX3_goBack 30 = .ok (.aload_n 0, 1) := dk_42 (dk_at dksX3_goBack_1 7 rfl rfl)
theorem dX3_goBack_31 : decode cX3_goBack 31 = .ok (.invokevirtual 55, 3) := dk_182 0 55 (dk_at dksX3_goBack_1 8 rfl rfl)
theorem dX3_goBack_34 : decode cX3_goBack 34 = .ok (.aload_n 0, 1) := dk_42 (dk_at dksX3_goBack_1 11 rfl rfl)
theorem dX3_goBack_35 : decode cX3_goBack 35 = .ok (.getfield 7, 3) := dk_180 0 7 (dk_at dksX3_goBack_1 12 rfl rfl)
theorem dX3_goBack_38 : decode cX3_goBack 38 = .ok (.bipush 111, 2) := dk_16 111 (dk_at dksX3_goBack_1 15 rfl rfl)
theorem dX3_goBack_40 : decode cX3_goBack 40 = .ok (.iaload, 1) := dk_46 (dk_at dksX3_goBack_1 17 rfl rfl)
theorem dX3_goBack_41 : decode cX3_goBack 41 = .ok (.ireturn, 1) := dk_172 (dk_at dksX3_goBack_1 18 rfl rfl)
abbrev cX3_axles : ByteArray := prog_10_method_48_code
def yX3_axles : MethodName := ⟨RX3, "axles", "()I"⟩
def dkwX3_axles_0 : List UInt8 := [42, 3, 182, 0, 151, 172]
abbrev dktX3_axles_0 : List UInt8 := dkwX3_axles_0 ++ []
theorem dksX3_axles_0 : cX3_axles.data.toList.drop 0 = dktX3_axles_0 := by decide +kernel
theorem dX3_axles_0 : decode cX3_axles 0 = .ok (.aload_n 0, 1) := dk_42 (dk_at dksX3_axles_0 0 rfl rfl)
theorem dX3_axles_1 : decode cX3_axles 1 = .ok (.iconst 0, 1) := dk_3 (dk_at dksX3_axles_0 1 rfl rfl)
theorem dX3_axles_2 : decode cX3_axles 2 = .ok (.invokevirtual 151, 3) := dk_182 0 151 (dk_at dksX3_axles_0 2 rfl rfl)
theorem dX3_axles_5 : decode cX3_axles 5 = .ok (.ireturn, 1) := dk_172 (dk_at dksX3_axles_0 5 rfl rfl)
abbrev cX3_account : ByteArray := prog_10_method_47_code
def yX3_account : MethodName := ⟨RX3, "account", "(I)I"⟩
def dkwX3_account_0 : List UInt8 := [42, 3, 181, 0, 38, 42, 180, 0, 7, 27, 46, 172]
abbrev dktX3_account_0 : List UInt8 := dkwX3_account_0 ++ []
theorem dksX3_account_0 : cX3_account.data.toList.drop 0 = dktX3_account_0 := by decide +kernel
theorem dX3_account_0 : decode cX3_account 0 = .ok (.aload_n 0, 1) := dk_42 (dk_at dksX3_account_0 0 rfl rfl)
theorem dX3_account_1 : decode cX3_account 1 = .ok (.iconst 0, 1) := dk_3 (dk_at dksX3_account_0 1 rfl rfl)
theorem dX3_account_2 : decode cX3_account 2 = .ok (.putfield 38, 3) := dk_181 0 38 (dk_at dksX3_account_0 2 rfl rfl)
theorem dX3_account_5 : decode cX3_account 5 = .ok (.aload_n 0, 1) := dk_42 (dk_at dksX3_account_0 5 rfl rfl)
theorem dX3_account_6 : decode cX3_account 6 = .ok (.getfield 7, 3) := dk_180 0 7 (dk_at dksX3_account_0 6 rfl rfl)
theorem dX3_account_9 : decode cX3_account 9 = .ok (.iload_n 1, 1) := dk_27 (dk_at dksX3_account_0 9 rfl rfl)
theorem dX3_account_10 : decode cX3_account 10 = .ok (.iaload, 1) := dk_46 (dk_at dksX3_account_0 10 rfl rfl)
theorem dX3_account_11 : decode cX3_account 11 = .ok (.ireturn, 1) := dk_172 (dk_at dksX3_account_0 11 rfl rfl)
abbrev cX3_wheels : ByteArray := prog_10_method_49_code
def yX3_wheels : MethodName := ⟨RX3, "wheels", "()I"⟩
def dkwX3_wheels_0 : List UInt8 := [42, 4, 182, 0, 151, 172]
abbrev dktX3_wheels_0 : List UInt8 := dkwX3_wheels_0 ++ []
theorem dksX3_wheels_0 : cX3_wheels.data.toList.drop 0 = dktX3_wheels_0 := by decide +kernel
theorem dX3_wheels_0 : decode cX3_wheels 0 = .ok (.aload_n 0, 1) := dk_42 (dk_at dksX3_wheels_0 0 rfl rfl)
theorem dX3_wheels_1 : decode cX3_wheels 1 = .ok (.iconst 1, 1) := dk_4 (dk_at dksX3_wheels_0 1 rfl rfl)
theorem dX3_wheels_2 : decode cX3_wheels 2 = .ok (.invokevirtual 151, 3) := dk_182 0 151 (dk_at dksX3_wheels_0 2 rfl rfl)
theorem dX3_wheels_5 : decode cX3_wheels 5 = .ok (.ireturn, 1) := dk_172 (dk_at dksX3_wheels_0 5 rfl rfl)
abbrev cX3_pairs : ByteArray := prog_10_method_50_code
def yX3_pairs : MethodName := ⟨RX3, "pairs", "()I"⟩
def dkwX3_pairs_0 : List UInt8 := [42, 16, 50, 182, 0, 151, 172]
abbrev dktX3_pairs_0 : List UInt8 := dkwX3_pairs_0 ++ []
theorem dksX3_pairs_0 : cX3_pairs.data.toList.drop 0 = dktX3_pairs_0 := by decide +kernel
theorem dX3_pairs_0 : decode cX3_pairs 0 = .ok (.aload_n 0, 1) := dk_42 (dk_at dksX3_pairs_0 0 rfl rfl)
theorem dX3_pairs_1 : decode cX3_pairs 1 = .ok (.bipush 50, 2) := dk_16 50 (dk_at dksX3_pairs_0 1 rfl rfl)
theorem dX3_pairs_3 : decode cX3_pairs 3 = .ok (.invokevirtual 151, 3) := dk_182 0 151 (dk_at dksX3_pairs_0 3 rfl rfl)
theorem dX3_pairs_6 : decode cX3_pairs 6 = .ok (.ireturn, 1) := dk_172 (dk_at dksX3_pairs_0 6 rfl rfl)
abbrev cX3_teethOf : ByteArray := prog_10_method_51_code
def yX3_teethOf : MethodName := ⟨RX3, "teethOf", "(I)I"⟩
def dkwX3_teethOf_1 : List UInt8 := [172]
abbrev dktX3_teethOf_1 : List UInt8 := dkwX3_teethOf_1 ++ []
def dkwX3_teethOf_0 : List UInt8 := [42, 42, 27, 182, 0, 95, 182, 0, 154, 153, 0, 14, 42, 180, 0, 7, 5, 27, 96, 46, 167, 0, 4, 3]
abbrev dktX3_teethOf_0 : List UInt8 := dkwX3_teethOf_0 ++ dktX3_teethOf_1
theorem dksX3_teethOf_0 : cX3_teethOf.data.toList.drop 0 = dktX3_teethOf_0 := by decide +kernel
theorem dksX3_teethOf_1 : cX3_teethOf.data.toList.drop 24 = dktX3_teethOf_1 := dk_seg dksX3_teethOf_0 24 rfl rfl
theorem dX3_teethOf_0 : decode cX3_teethOf 0 = .ok (.aload_n 0, 1) := dk_42 (dk_at dksX3_teethOf_0 0 rfl rfl)
theorem dX3_teethOf_1 : decode cX3_teethOf 1 = .ok (.aload_n 0, 1) := dk_42 (dk_at dksX3_teethOf_0 1 rfl rfl)
theorem dX3_teethOf_2 : decode cX3_teethOf 2 = .ok (.iload_n 1, 1) := dk_27 (dk_at dksX3_teethOf_0 2 rfl rfl)
theorem dX3_teethOf_3 : decode cX3_teethOf 3 = .ok (.invokevirtual 95, 3) := dk_182 0 95 (dk_at dksX3_teethOf_0 3 rfl rfl)
theorem dX3_teethOf_6 : decode cX3_teethOf 6 = .ok (.invokevirtual 154, 3) := dk_182 0 154 (dk_at dksX3_teethOf_0 6 rfl rfl)
theorem dX3_teethOf_9 : decode cX3_teethOf 9 = .ok (.ifCond .eq 14, 3) := dk_153 0 14 (dk_at dksX3_teethOf_0 9 rfl rfl)
theorem dX3_teethOf_12 : decode cX3_teethOf 12 = .ok (.aload_n 0, 1) := dk_42 (dk_at dksX3_teethOf_0 12 rfl rfl)
theorem dX3_teethOf_13 : decode cX3_teethOf 13 = .ok (.getfield 7, 3) := dk_180 0 7 (dk_at dksX3_teethOf_0 13 rfl rfl)
theorem dX3_teethOf_16 : decode cX3_teethOf 16 = .ok (.iconst 2, 1) := dk_5 (dk_at dksX3_teethOf_0 16 rfl rfl)
theorem dX3_teethOf_17 : decode cX3_teethOf 17 = .ok (.iload_n 1, 1) := dk_27 (dk_at dksX3_teethOf_0 17 rfl rfl)
theorem dX3_teethOf_18 : decode cX3_teethOf 18 = .ok (.iadd, 1) := dk_96 (dk_at dksX3_teethOf_0 18 rfl rfl)
theorem dX3_teethOf_19 : decode cX3_teethOf 19 = .ok (.iaload, 1) := dk_46 (dk_at dksX3_teethOf_0 19 rfl rfl)
theorem dX3_teethOf_20 : decode cX3_teethOf 20 = .ok (.goto 4, 3) := dk_167 0 4 (dk_at dksX3_teethOf_0 20 rfl rfl)
theorem dX3_teethOf_23 : decode cX3_teethOf 23 = .ok (.iconst 0, 1) := dk_3 (dk_at dksX3_teethOf_0 23 rfl rfl)
theorem dX3_teethOf_24 : decode cX3_teethOf 24 = .ok (.ireturn, 1) := dk_172 (dk_at dksX3_teethOf_1 0 rfl rfl)
abbrev cX3_asks : ByteArray := prog_10_method_4_code
def yX3_asks : MethodName := ⟨RX3, "asks", "(Z)Z"⟩
def dkwX3_asks_0 : List UInt8 := [42, 27, 153, 0, 7, 3, 167, 0, 4, 4, 181, 0, 38, 27, 172]
abbrev dktX3_asks_0 : List UInt8 := dkwX3_asks_0 ++ []
theorem dksX3_asks_0 : cX3_asks.data.toList.drop 0 = dktX3_asks_0 := by decide +kernel
theorem dX3_asks_0 : decode cX3_asks 0 = .ok (.aload_n 0, 1) := dk_42 (dk_at dksX3_asks_0 0 rfl rfl)
theorem dX3_asks_1 : decode cX3_asks 1 = .ok (.iload_n 1, 1) := dk_27 (dk_at dksX3_asks_0 1 rfl rfl)
theorem dX3_asks_2 : decode cX3_asks 2 = .ok (.ifCond .eq 7, 3) := dk_153 0 7 (dk_at dksX3_asks_0 2 rfl rfl)
theorem dX3_asks_5 : decode cX3_asks 5 = .ok (.iconst 0, 1) := dk_3 (dk_at dksX3_asks_0 5 rfl rfl)
theorem dX3_asks_6 : decode cX3_asks 6 = .ok (.goto 4, 3) := dk_167 0 4 (dk_at dksX3_asks_0 6 rfl rfl)
theorem dX3_asks_9 : decode cX3_asks 9 = .ok (.iconst 1, 1) := dk_4 (dk_at dksX3_asks_0 9 rfl rfl)
theorem dX3_asks_10 : decode cX3_asks 10 = .ok (.putfield 38, 3) := dk_181 0 38 (dk_at dksX3_asks_0 10 rfl rfl)
theorem dX3_asks_13 : decode cX3_asks 13 = .ok (.iload_n 1, 1) := dk_27 (dk_at dksX3_asks_0 13 rfl rfl)
theorem dX3_asks_14 : decode cX3_asks 14 = .ok (.ireturn, 1) := dk_172 (dk_at dksX3_asks_0 14 rfl rfl)
abbrev cX3_axleOf : ByteArray := prog_10_method_52_code
def yX3_axleOf : MethodName := ⟨RX3, "axleOf", "(I)I"⟩
def dkwX3_axleOf_1 : List UInt8 := [3, 172]
abbrev dktX3_axleOf_1 : List UInt8 := dkwX3_axleOf_1 ++ []
def dkwX3_axleOf_0 : List UInt8 := [42, 42, 27, 182, 0, 95, 182, 0, 154, 153, 0, 15, 42, 180, 0, 7, 16, 26, 27, 96, 46, 167, 0, 4]
abbrev dktX3_axleOf_0 : List UInt8 := dkwX3_axleOf_0 ++ dktX3_axleOf_1
theorem dksX3_axleOf_0 : cX3_axleOf.data.toList.drop 0 = dktX3_axleOf_0 := by decide +kernel
theorem dksX3_axleOf_1 : cX3_axleOf.data.toList.drop 24 = dktX3_axleOf_1 := dk_seg dksX3_axleOf_0 24 rfl rfl
theorem dX3_axleOf_0 : decode cX3_axleOf 0 = .ok (.aload_n 0, 1) := dk_42 (dk_at dksX3_axleOf_0 0 rfl rfl)
theorem dX3_axleOf_1 : decode cX3_axleOf 1 = .ok (.aload_n 0, 1) := dk_42 (dk_at dksX3_axleOf_0 1 rfl rfl)
theorem dX3_axleOf_2 : decode cX3_axleOf 2 = .ok (.iload_n 1, 1) := dk_27 (dk_at dksX3_axleOf_0 2 rfl rfl)
theorem dX3_axleOf_3 : decode cX3_axleOf 3 = .ok (.invokevirtual 95, 3) := dk_182 0 95 (dk_at dksX3_axleOf_0 3 rfl rfl)
theorem dX3_axleOf_6 : decode cX3_axleOf 6 = .ok (.invokevirtual 154, 3) := dk_182 0 154 (dk_at dksX3_axleOf_0 6 rfl rfl)
theorem dX3_axleOf_9 : decode cX3_axleOf 9 = .ok (.ifCond .eq 15, 3) := dk_153 0 15 (dk_at dksX3_axleOf_0 9 rfl rfl)
theorem dX3_axleOf_12 : decode cX3_axleOf 12 = .ok (.aload_n 0, 1) := dk_42 (dk_at dksX3_axleOf_0 12 rfl rfl)
theorem dX3_axleOf_13 : decode cX3_axleOf 13 = .ok (.getfield 7, 3) := dk_180 0 7 (dk_at dksX3_axleOf_0 13 rfl rfl)
theorem dX3_axleOf_16 : decode cX3_axleOf 16 = .ok (.bipush 26, 2) := dk_16 26 (dk_at dksX3_axleOf_0 16 rfl rfl)
theorem dX3_axleOf_18 : decode cX3_axleOf 18 = .ok (.iload_n 1, 1) := dk_27 (dk_at dksX3_axleOf_0 18 rfl rfl)
theorem dX3_axleOf_19 : decode cX3_axleOf 19 = .ok (.iadd, 1) := dk_96 (dk_at dksX3_axleOf_0 19 rfl rfl)
theorem dX3_axleOf_20 : decode cX3_axleOf 20 = .ok (.iaload, 1) := dk_46 (dk_at dksX3_axleOf_0 20 rfl rfl)
theorem dX3_axleOf_21 : decode cX3_axleOf 21 = .ok (.goto 4, 3) := dk_167 0 4 (dk_at dksX3_axleOf_0 21 rfl rfl)
theorem dX3_axleOf_24 : decode cX3_axleOf 24 = .ok (.iconst 0, 1) := dk_3 (dk_at dksX3_axleOf_1 0 rfl rfl)
theorem dX3_axleOf_25 : decode cX3_axleOf 25 = .ok (.ireturn, 1) := dk_172 (dk_at dksX3_axleOf_1 1 rfl rfl)
abbrev cX3_whyNotMesh : ByteArray := prog_10_method_53_code
def yX3_whyNotMesh : MethodName := ⟨RX3, "whyNotMesh", "(II)I"⟩
def dkwX3_whyNotMesh_1 : List UInt8 := [182, 0, 101, 62, 42, 180, 0, 13, 3, 42, 180, 0, 7, 3, 184, 0, 42, 29, 172]
abbrev dktX3_whyNotMesh_1 : List UInt8 := dkwX3_whyNotMesh_1 ++ []
def dkwX3_whyNotMesh_0 : List UInt8 := [42, 182, 0, 113, 42, 27, 28, 182, 0, 98, 154, 0, 9, 42, 4, 182, 0, 51, 172, 42, 27, 28]
abbrev dktX3_whyNotMesh_0 : List UInt8 := dkwX3_whyNotMesh_0 ++ dktX3_whyNotMesh_1
theorem dksX3_whyNotMesh_0 : cX3_whyNotMesh.data.toList.drop 0 = dktX3_whyNotMesh_0 := by decide +kernel
theorem dksX3_whyNotMesh_1 : cX3_whyNotMesh.data.toList.drop 22 = dktX3_whyNotMesh_1 := dk_seg dksX3_whyNotMesh_0 22 rfl rfl
theorem dX3_whyNotMesh_0 : decode cX3_whyNotMesh 0 = .ok (.aload_n 0, 1) := dk_42 (dk_at dksX3_whyNotMesh_0 0 rfl rfl)
theorem dX3_whyNotMesh_1 : decode cX3_whyNotMesh 1 = .ok (.invokevirtual 113, 3) := dk_182 0 113 (dk_at dksX3_whyNotMesh_0 1 rfl rfl)
theorem dX3_whyNotMesh_4 : decode cX3_whyNotMesh 4 = .ok (.aload_n 0, 1) := dk_42 (dk_at dksX3_whyNotMesh_0 4 rfl rfl)
theorem dX3_whyNotMesh_5 : decode cX3_whyNotMesh 5 = .ok (.iload_n 1, 1) := dk_27 (dk_at dksX3_whyNotMesh_0 5 rfl rfl)
theorem dX3_whyNotMesh_6 : decode cX3_whyNotMesh 6 = .ok (.iload_n 2, 1) := dk_28 (dk_at dksX3_whyNotMesh_0 6 rfl rfl)
theorem dX3_whyNotMesh_7 : decode cX3_whyNotMesh 7 = .ok (.invokevirtual 98, 3) := dk_182 0 98 (dk_at dksX3_whyNotMesh_0 7 rfl rfl)
theorem dX3_whyNotMesh_10 : decode cX3_whyNotMesh 10 = .ok (.ifCond .ne 9, 3) := dk_154 0 9 (dk_at dksX3_whyNotMesh_0 10 rfl rfl)
theorem dX3_whyNotMesh_13 : decode cX3_whyNotMesh 13 = .ok (.aload_n 0, 1) := dk_42 (dk_at dksX3_whyNotMesh_0 13 rfl rfl)
theorem dX3_whyNotMesh_14 : decode cX3_whyNotMesh 14 = .ok (.iconst 1, 1) := dk_4 (dk_at dksX3_whyNotMesh_0 14 rfl rfl)
theorem dX3_whyNotMesh_15 : decode cX3_whyNotMesh 15 = .ok (.invokevirtual 51, 3) := dk_182 0 51 (dk_at dksX3_whyNotMesh_0 15 rfl rfl)
theorem dX3_whyNotMesh_18 : decode cX3_whyNotMesh 18 = .ok (.ireturn, 1) := dk_172 (dk_at dksX3_whyNotMesh_0 18 rfl rfl)
theorem dX3_whyNotMesh_19 : decode cX3_whyNotMesh 19 = .ok (.aload_n 0, 1) := dk_42 (dk_at dksX3_whyNotMesh_0 19 rfl rfl)
theorem dX3_whyNotMesh_20 : decode cX3_whyNotMesh 20 = .ok (.iload_n 1, 1) := dk_27 (dk_at dksX3_whyNotMesh_0 20 rfl rfl)
theorem dX3_whyNotMesh_21 : decode cX3_whyNotMesh 21 = .ok (.iload_n 2, 1) := dk_28 (dk_at dksX3_whyNotMesh_0 21 rfl rfl)
theorem dX3_whyNotMesh_22 : decode cX3_whyNotMesh 22 = .ok (.invokevirtual 101, 3) := dk_182 0 101 (dk_at dksX3_whyNotMesh_1 0 rfl rfl)
theorem dX3_whyNotMesh_25 : decode cX3_whyNotMesh 25 = .ok (.istore_n 3, 1) := dk_62 (dk_at dksX3_whyNotMesh_1 3 rfl rfl)
theorem dX3_whyNotMesh_26 : decode cX3_whyNotMesh 26 = .ok (.aload_n 0, 1) := dk_42 (dk_at dksX3_whyNotMesh_1 4 rfl rfl)
theorem dX3_whyNotMesh_27 : decode cX3_whyNotMesh 27 = .ok (.getfield 13, 3) := dk_180 0 13 (dk_at dksX3_whyNotMesh_1 5 rfl rfl)
theorem dX3_whyNotMesh_30 : decode cX3_whyNotMesh 30 = .ok (.iconst 0, 1) := dk_3 (dk_at dksX3_whyNotMesh_1 8 rfl rfl)
theorem dX3_whyNotMesh_31 : decode cX3_whyNotMesh 31 = .ok (.aload_n 0, 1) := dk_42 (dk_at dksX3_whyNotMesh_1 9 rfl rfl)
theorem dX3_whyNotMesh_32 : decode cX3_whyNotMesh 32 = .ok (.getfield 7, 3) := dk_180 0 7 (dk_at dksX3_whyNotMesh_1 10 rfl rfl)
theorem dX3_whyNotMesh_35 : decode cX3_whyNotMesh 35 = .ok (.iconst 0, 1) := dk_3 (dk_at dksX3_whyNotMesh_1 13 rfl rfl)
theorem dX3_whyNotMesh_36 : decode cX3_whyNotMesh 36 = .ok (.invokestatic 42, 3) := dk_184 0 42 (dk_at dksX3_whyNotMesh_1 14 rfl rfl)
theorem dX3_whyNotMesh_39 : decode cX3_whyNotMesh 39 = .ok (.iload_n 3, 1) := dk_29 (dk_at dksX3_whyNotMesh_1 17 rfl rfl)
theorem dX3_whyNotMesh_40 : decode cX3_whyNotMesh 40 = .ok (.ireturn, 1) := dk_172 (dk_at dksX3_whyNotMesh_1 18 rfl rfl)
abbrev cX3_isDriven : ByteArray := prog_10_method_54_code
def yX3_isDriven : MethodName := ⟨RX3, "isDriven", "(I)Z"⟩
def dkwX3_isDriven_1 : List UInt8 := [46, 2, 159, 0, 7, 4, 167, 0, 4, 3, 172]
abbrev dktX3_isDriven_1 : List UInt8 := dkwX3_isDriven_1 ++ []
def dkwX3_isDriven_0 : List UInt8 := [42, 42, 27, 182, 0, 88, 182, 0, 154, 154, 0, 5, 3, 172, 42, 182, 0, 73, 87, 42, 180, 0, 25, 27]
abbrev dktX3_isDriven_0 : List UInt8 := dkwX3_isDriven_0 ++ dktX3_isDriven_1
theorem dksX3_isDriven_0 : cX3_isDriven.data.toList.drop 0 = dktX3_isDriven_0 := by decide +kernel
theorem dksX3_isDriven_1 : cX3_isDriven.data.toList.drop 24 = dktX3_isDriven_1 := dk_seg dksX3_isDriven_0 24 rfl rfl
theorem dX3_isDriven_0 : decode cX3_isDriven 0 = .ok (.aload_n 0, 1) := dk_42 (dk_at dksX3_isDriven_0 0 rfl rfl)
theorem dX3_isDriven_1 : decode cX3_isDriven 1 = .ok (.aload_n 0, 1) := dk_42 (dk_at dksX3_isDriven_0 1 rfl rfl)
theorem dX3_isDriven_2 : decode cX3_isDriven 2 = .ok (.iload_n 1, 1) := dk_27 (dk_at dksX3_isDriven_0 2 rfl rfl)
theorem dX3_isDriven_3 : decode cX3_isDriven 3 = .ok (.invokevirtual 88, 3) := dk_182 0 88 (dk_at dksX3_isDriven_0 3 rfl rfl)
theorem dX3_isDriven_6 : decode cX3_isDriven 6 = .ok (.invokevirtual 154, 3) := dk_182 0 154 (dk_at dksX3_isDriven_0 6 rfl rfl)
theorem dX3_isDriven_9 : decode cX3_isDriven 9 = .ok (.ifCond .ne 5, 3) := dk_154 0 5 (dk_at dksX3_isDriven_0 9 rfl rfl)
theorem dX3_isDriven_12 : decode cX3_isDriven 12 = .ok (.iconst 0, 1) := dk_3 (dk_at dksX3_isDriven_0 12 rfl rfl)
theorem dX3_isDriven_13 : decode cX3_isDriven 13 = .ok (.ireturn, 1) := dk_172 (dk_at dksX3_isDriven_0 13 rfl rfl)
theorem dX3_isDriven_14 : decode cX3_isDriven 14 = .ok (.aload_n 0, 1) := dk_42 (dk_at dksX3_isDriven_0 14 rfl rfl)
theorem dX3_isDriven_15 : decode cX3_isDriven 15 = .ok (.invokevirtual 73, 3) := dk_182 0 73 (dk_at dksX3_isDriven_0 15 rfl rfl)
theorem dX3_isDriven_18 : decode cX3_isDriven 18 = .ok (.pop, 1) := dk_87 (dk_at dksX3_isDriven_0 18 rfl rfl)
theorem dX3_isDriven_19 : decode cX3_isDriven 19 = .ok (.aload_n 0, 1) := dk_42 (dk_at dksX3_isDriven_0 19 rfl rfl)
theorem dX3_isDriven_20 : decode cX3_isDriven 20 = .ok (.getfield 25, 3) := dk_180 0 25 (dk_at dksX3_isDriven_0 20 rfl rfl)
theorem dX3_isDriven_23 : decode cX3_isDriven 23 = .ok (.iload_n 1, 1) := dk_27 (dk_at dksX3_isDriven_0 23 rfl rfl)
theorem dX3_isDriven_24 : decode cX3_isDriven 24 = .ok (.iaload, 1) := dk_46 (dk_at dksX3_isDriven_1 0 rfl rfl)
theorem dX3_isDriven_25 : decode cX3_isDriven 25 = .ok (.iconst (-1), 1) := dk_2 (dk_at dksX3_isDriven_1 1 rfl rfl)
theorem dX3_isDriven_26 : decode cX3_isDriven 26 = .ok (.if_icmp .eq 7, 3) := dk_159 0 7 (dk_at dksX3_isDriven_1 2 rfl rfl)
theorem dX3_isDriven_29 : decode cX3_isDriven 29 = .ok (.iconst 1, 1) := dk_4 (dk_at dksX3_isDriven_1 5 rfl rfl)
theorem dX3_isDriven_30 : decode cX3_isDriven 30 = .ok (.goto 4, 3) := dk_167 0 4 (dk_at dksX3_isDriven_1 6 rfl rfl)
theorem dX3_isDriven_33 : decode cX3_isDriven 33 = .ok (.iconst 0, 1) := dk_3 (dk_at dksX3_isDriven_1 9 rfl rfl)
theorem dX3_isDriven_34 : decode cX3_isDriven 34 = .ok (.ireturn, 1) := dk_172 (dk_at dksX3_isDriven_1 10 rfl rfl)
abbrev cX3_wayTo : ByteArray := prog_10_method_56_code
def yX3_wayTo : MethodName := ⟨RX3, "wayTo", "(I)I"⟩
def dkwX3_wayTo_0 : List UInt8 := [42, 27, 42, 27, 182, 0, 88, 182, 0, 158, 153, 0, 12, 42, 180, 0, 25, 27, 46, 167, 0, 4, 3, 172]
abbrev dktX3_wayTo_0 : List UInt8 := dkwX3_wayTo_0 ++ []
theorem dksX3_wayTo_0 : cX3_wayTo.data.toList.drop 0 = dktX3_wayTo_0 := by decide +kernel
theorem dX3_wayTo_0 : decode cX3_wayTo 0 = .ok (.aload_n 0, 1) := dk_42 (dk_at dksX3_wayTo_0 0 rfl rfl)
theorem dX3_wayTo_1 : decode cX3_wayTo 1 = .ok (.iload_n 1, 1) := dk_27 (dk_at dksX3_wayTo_0 1 rfl rfl)
theorem dX3_wayTo_2 : decode cX3_wayTo 2 = .ok (.aload_n 0, 1) := dk_42 (dk_at dksX3_wayTo_0 2 rfl rfl)
theorem dX3_wayTo_3 : decode cX3_wayTo 3 = .ok (.iload_n 1, 1) := dk_27 (dk_at dksX3_wayTo_0 3 rfl rfl)
theorem dX3_wayTo_4 : decode cX3_wayTo 4 = .ok (.invokevirtual 88, 3) := dk_182 0 88 (dk_at dksX3_wayTo_0 4 rfl rfl)
theorem dX3_wayTo_7 : decode cX3_wayTo 7 = .ok (.invokevirtual 158, 3) := dk_182 0 158 (dk_at dksX3_wayTo_0 7 rfl rfl)
theorem dX3_wayTo_10 : decode cX3_wayTo 10 = .ok (.ifCond .eq 12, 3) := dk_153 0 12 (dk_at dksX3_wayTo_0 10 rfl rfl)
theorem dX3_wayTo_13 : decode cX3_wayTo 13 = .ok (.aload_n 0, 1) := dk_42 (dk_at dksX3_wayTo_0 13 rfl rfl)
theorem dX3_wayTo_14 : decode cX3_wayTo 14 = .ok (.getfield 25, 3) := dk_180 0 25 (dk_at dksX3_wayTo_0 14 rfl rfl)
theorem dX3_wayTo_17 : decode cX3_wayTo 17 = .ok (.iload_n 1, 1) := dk_27 (dk_at dksX3_wayTo_0 17 rfl rfl)
theorem dX3_wayTo_18 : decode cX3_wayTo 18 = .ok (.iaload, 1) := dk_46 (dk_at dksX3_wayTo_0 18 rfl rfl)
theorem dX3_wayTo_19 : decode cX3_wayTo 19 = .ok (.goto 4, 3) := dk_167 0 4 (dk_at dksX3_wayTo_0 19 rfl rfl)
theorem dX3_wayTo_22 : decode cX3_wayTo 22 = .ok (.iconst 0, 1) := dk_3 (dk_at dksX3_wayTo_0 22 rfl rfl)
theorem dX3_wayTo_23 : decode cX3_wayTo 23 = .ok (.ireturn, 1) := dk_172 (dk_at dksX3_wayTo_0 23 rfl rfl)
abbrev cX3_asksDriven : ByteArray := prog_10_method_55_code
def yX3_asksDriven : MethodName := ⟨RX3, "asksDriven", "(IZ)Z"⟩
def dkwX3_asksDriven_1 : List UInt8 := [160, 0, 7, 5, 167, 0, 4, 3, 181, 0, 38, 42, 180, 0, 38, 154, 0, 7, 4, 167, 0, 4, 3, 172]
abbrev dktX3_asksDriven_1 : List UInt8 := dkwX3_asksDriven_1 ++ []
def dkwX3_asksDriven_0 : List UInt8 := [42, 28, 182, 0, 154, 154, 0, 5, 3, 172, 42, 182, 0, 73, 87, 42, 42, 180, 0, 25, 27, 46, 2]
abbrev dktX3_asksDriven_0 : List UInt8 := dkwX3_asksDriven_0 ++ dktX3_asksDriven_1
theorem dksX3_asksDriven_0 : cX3_asksDriven.data.toList.drop 0 = dktX3_asksDriven_0 := by decide +kernel
theorem dksX3_asksDriven_1 : cX3_asksDriven.data.toList.drop 23 = dktX3_asksDriven_1 := dk_seg dksX3_asksDriven_0 23 rfl rfl
theorem dX3_asksDriven_0 : decode cX3_asksDriven 0 = .ok (.aload_n 0, 1) := dk_42 (dk_at dksX3_asksDriven_0 0 rfl rfl)
theorem dX3_asksDriven_1 : decode cX3_asksDriven 1 = .ok (.iload_n 2, 1) := dk_28 (dk_at dksX3_asksDriven_0 1 rfl rfl)
theorem dX3_asksDriven_2 : decode cX3_asksDriven 2 = .ok (.invokevirtual 154, 3) := dk_182 0 154 (dk_at dksX3_asksDriven_0 2 rfl rfl)
theorem dX3_asksDriven_5 : decode cX3_asksDriven 5 = .ok (.ifCond .ne 5, 3) := dk_154 0 5 (dk_at dksX3_asksDriven_0 5 rfl rfl)
theorem dX3_asksDriven_8 : decode cX3_asksDriven 8 = .ok (.iconst 0, 1) := dk_3 (dk_at dksX3_asksDriven_0 8 rfl rfl)
theorem dX3_asksDriven_9 : decode cX3_asksDriven 9 = .ok (.ireturn, 1) := dk_172 (dk_at dksX3_asksDriven_0 9 rfl rfl)
theorem dX3_asksDriven_10 : decode cX3_asksDriven 10 = .ok (.aload_n 0, 1) := dk_42 (dk_at dksX3_asksDriven_0 10 rfl rfl)
theorem dX3_asksDriven_11 : decode cX3_asksDriven 11 = .ok (.invokevirtual 73, 3) := dk_182 0 73 (dk_at dksX3_asksDriven_0 11 rfl rfl)
theorem dX3_asksDriven_14 : decode cX3_asksDriven 14 = .ok (.pop, 1) := dk_87 (dk_at dksX3_asksDriven_0 14 rfl rfl)
theorem dX3_asksDriven_15 : decode cX3_asksDriven 15 = .ok (.aload_n 0, 1) := dk_42 (dk_at dksX3_asksDriven_0 15 rfl rfl)
theorem dX3_asksDriven_16 : decode cX3_asksDriven 16 = .ok (.aload_n 0, 1) := dk_42 (dk_at dksX3_asksDriven_0 16 rfl rfl)
theorem dX3_asksDriven_17 : decode cX3_asksDriven 17 = .ok (.getfield 25, 3) := dk_180 0 25 (dk_at dksX3_asksDriven_0 17 rfl rfl)
theorem dX3_asksDriven_20 : decode cX3_asksDriven 20 = .ok (.iload_n 1, 1) := dk_27 (dk_at dksX3_asksDriven_0 20 rfl rfl)
theorem dX3_asksDriven_21 : decode cX3_asksDriven 21 = .ok (.iaload, 1) := dk_46 (dk_at dksX3_asksDriven_0 21 rfl rfl)
theorem dX3_asksDriven_22 : decode cX3_asksDriven 22 = .ok (.iconst (-1), 1) := dk_2 (dk_at dksX3_asksDriven_0 22 rfl rfl)
theorem dX3_asksDriven_23 : decode cX3_asksDriven 23 = .ok (.if_icmp .ne 7, 3) := dk_160 0 7 (dk_at dksX3_asksDriven_1 0 rfl rfl)
theorem dX3_asksDriven_26 : decode cX3_asksDriven 26 = .ok (.iconst 2, 1) := dk_5 (dk_at dksX3_asksDriven_1 3 rfl rfl)
theorem dX3_asksDriven_27 : decode cX3_asksDriven 27 = .ok (.goto 4, 3) := dk_167 0 4 (dk_at dksX3_asksDriven_1 4 rfl rfl)
theorem dX3_asksDriven_30 : decode cX3_asksDriven 30 = .ok (.iconst 0, 1) := dk_3 (dk_at dksX3_asksDriven_1 7 rfl rfl)
theorem dX3_asksDriven_31 : decode cX3_asksDriven 31 = .ok (.putfield 38, 3) := dk_181 0 38 (dk_at dksX3_asksDriven_1 8 rfl rfl)
theorem dX3_asksDriven_34 : decode cX3_asksDriven 34 = .ok (.aload_n 0, 1) := dk_42 (dk_at dksX3_asksDriven_1 11 rfl rfl)
theorem dX3_asksDriven_35 : decode cX3_asksDriven 35 = .ok (.getfield 38, 3) := dk_180 0 38 (dk_at dksX3_asksDriven_1 12 rfl rfl)
theorem dX3_asksDriven_38 : decode cX3_asksDriven 38 = .ok (.ifCond .ne 7, 3) := dk_154 0 7 (dk_at dksX3_asksDriven_1 15 rfl rfl)
theorem dX3_asksDriven_41 : decode cX3_asksDriven 41 = .ok (.iconst 1, 1) := dk_4 (dk_at dksX3_asksDriven_1 18 rfl rfl)
theorem dX3_asksDriven_42 : decode cX3_asksDriven 42 = .ok (.goto 4, 3) := dk_167 0 4 (dk_at dksX3_asksDriven_1 19 rfl rfl)
theorem dX3_asksDriven_45 : decode cX3_asksDriven 45 = .ok (.iconst 0, 1) := dk_3 (dk_at dksX3_asksDriven_1 22 rfl rfl)
theorem dX3_asksDriven_46 : decode cX3_asksDriven 46 = .ok (.ireturn, 1) := dk_172 (dk_at dksX3_asksDriven_1 23 rfl rfl)
abbrev cX3_ratioAbove : ByteArray := prog_10_method_57_code
def yX3_ratioAbove : MethodName := ⟨RX3, "ratioAbove", "(I)J"⟩
def dkwX3_ratioAbove_0 : List UInt8 := [42, 27, 42, 27, 182, 0, 88, 182, 0, 158, 153, 0, 12, 42, 180, 0, 28, 27, 47, 167, 0, 4, 9, 173]
abbrev dktX3_ratioAbove_0 : List UInt8 := dkwX3_ratioAbove_0 ++ []
theorem dksX3_ratioAbove_0 : cX3_ratioAbove.data.toList.drop 0 = dktX3_ratioAbove_0 := by decide +kernel
theorem dX3_ratioAbove_0 : decode cX3_ratioAbove 0 = .ok (.aload_n 0, 1) := dk_42 (dk_at dksX3_ratioAbove_0 0 rfl rfl)
theorem dX3_ratioAbove_1 : decode cX3_ratioAbove 1 = .ok (.iload_n 1, 1) := dk_27 (dk_at dksX3_ratioAbove_0 1 rfl rfl)
theorem dX3_ratioAbove_2 : decode cX3_ratioAbove 2 = .ok (.aload_n 0, 1) := dk_42 (dk_at dksX3_ratioAbove_0 2 rfl rfl)
theorem dX3_ratioAbove_3 : decode cX3_ratioAbove 3 = .ok (.iload_n 1, 1) := dk_27 (dk_at dksX3_ratioAbove_0 3 rfl rfl)
theorem dX3_ratioAbove_4 : decode cX3_ratioAbove 4 = .ok (.invokevirtual 88, 3) := dk_182 0 88 (dk_at dksX3_ratioAbove_0 4 rfl rfl)
theorem dX3_ratioAbove_7 : decode cX3_ratioAbove 7 = .ok (.invokevirtual 158, 3) := dk_182 0 158 (dk_at dksX3_ratioAbove_0 7 rfl rfl)
theorem dX3_ratioAbove_10 : decode cX3_ratioAbove 10 = .ok (.ifCond .eq 12, 3) := dk_153 0 12 (dk_at dksX3_ratioAbove_0 10 rfl rfl)
theorem dX3_ratioAbove_13 : decode cX3_ratioAbove 13 = .ok (.aload_n 0, 1) := dk_42 (dk_at dksX3_ratioAbove_0 13 rfl rfl)
theorem dX3_ratioAbove_14 : decode cX3_ratioAbove 14 = .ok (.getfield 28, 3) := dk_180 0 28 (dk_at dksX3_ratioAbove_0 14 rfl rfl)
theorem dX3_ratioAbove_17 : decode cX3_ratioAbove 17 = .ok (.iload_n 1, 1) := dk_27 (dk_at dksX3_ratioAbove_0 17 rfl rfl)
theorem dX3_ratioAbove_18 : decode cX3_ratioAbove 18 = .ok (.laload, 1) := dk_47 (dk_at dksX3_ratioAbove_0 18 rfl rfl)
theorem dX3_ratioAbove_19 : decode cX3_ratioAbove 19 = .ok (.goto 4, 3) := dk_167 0 4 (dk_at dksX3_ratioAbove_0 19 rfl rfl)
theorem dX3_ratioAbove_22 : decode cX3_ratioAbove 22 = .ok (.lconst 0, 1) := dk_9 (dk_at dksX3_ratioAbove_0 22 rfl rfl)
theorem dX3_ratioAbove_23 : decode cX3_ratioAbove 23 = .ok (.lreturn, 1) := dk_173 (dk_at dksX3_ratioAbove_0 23 rfl rfl)
abbrev cX3_ratioBelow : ByteArray := prog_10_method_58_code
def yX3_ratioBelow : MethodName := ⟨RX3, "ratioBelow", "(I)J"⟩
def dkwX3_ratioBelow_0 : List UInt8 := [42, 27, 42, 27, 182, 0, 88, 182, 0, 158, 153, 0, 12, 42, 180, 0, 32, 27, 47, 167, 0, 4, 9, 173]
abbrev dktX3_ratioBelow_0 : List UInt8 := dkwX3_ratioBelow_0 ++ []
theorem dksX3_ratioBelow_0 : cX3_ratioBelow.data.toList.drop 0 = dktX3_ratioBelow_0 := by decide +kernel
theorem dX3_ratioBelow_0 : decode cX3_ratioBelow 0 = .ok (.aload_n 0, 1) := dk_42 (dk_at dksX3_ratioBelow_0 0 rfl rfl)
theorem dX3_ratioBelow_1 : decode cX3_ratioBelow 1 = .ok (.iload_n 1, 1) := dk_27 (dk_at dksX3_ratioBelow_0 1 rfl rfl)
theorem dX3_ratioBelow_2 : decode cX3_ratioBelow 2 = .ok (.aload_n 0, 1) := dk_42 (dk_at dksX3_ratioBelow_0 2 rfl rfl)
theorem dX3_ratioBelow_3 : decode cX3_ratioBelow 3 = .ok (.iload_n 1, 1) := dk_27 (dk_at dksX3_ratioBelow_0 3 rfl rfl)
theorem dX3_ratioBelow_4 : decode cX3_ratioBelow 4 = .ok (.invokevirtual 88, 3) := dk_182 0 88 (dk_at dksX3_ratioBelow_0 4 rfl rfl)
theorem dX3_ratioBelow_7 : decode cX3_ratioBelow 7 = .ok (.invokevirtual 158, 3) := dk_182 0 158 (dk_at dksX3_ratioBelow_0 7 rfl rfl)
theorem dX3_ratioBelow_10 : decode cX3_ratioBelow 10 = .ok (.ifCond .eq 12, 3) := dk_153 0 12 (dk_at dksX3_ratioBelow_0 10 rfl rfl)
theorem dX3_ratioBelow_13 : decode cX3_ratioBelow 13 = .ok (.aload_n 0, 1) := dk_42 (dk_at dksX3_ratioBelow_0 13 rfl rfl)
theorem dX3_ratioBelow_14 : decode cX3_ratioBelow 14 = .ok (.getfield 32, 3) := dk_180 0 32 (dk_at dksX3_ratioBelow_0 14 rfl rfl)
theorem dX3_ratioBelow_17 : decode cX3_ratioBelow 17 = .ok (.iload_n 1, 1) := dk_27 (dk_at dksX3_ratioBelow_0 17 rfl rfl)
theorem dX3_ratioBelow_18 : decode cX3_ratioBelow 18 = .ok (.laload, 1) := dk_47 (dk_at dksX3_ratioBelow_0 18 rfl rfl)
theorem dX3_ratioBelow_19 : decode cX3_ratioBelow 19 = .ok (.goto 4, 3) := dk_167 0 4 (dk_at dksX3_ratioBelow_0 19 rfl rfl)
theorem dX3_ratioBelow_22 : decode cX3_ratioBelow 22 = .ok (.lconst 0, 1) := dk_9 (dk_at dksX3_ratioBelow_0 22 rfl rfl)
theorem dX3_ratioBelow_23 : decode cX3_ratioBelow 23 = .ok (.lreturn, 1) := dk_173 (dk_at dksX3_ratioBelow_0 23 rfl rfl)
abbrev cX3_isRatioByTeeth : ByteArray := prog_10_method_59_code
def yX3_isRatioByTeeth : MethodName := ⟨RX3, "isRatioByTeeth", "(I)Z"⟩
def dkwX3_isRatioByTeeth_0 : List UInt8 := [42, 27, 42, 27, 182, 0, 88, 182, 0, 158, 172]
abbrev dktX3_isRatioByTeeth_0 : List UInt8 := dkwX3_isRatioByTeeth_0 ++ []
theorem dksX3_isRatioByTeeth_0 : cX3_isRatioByTeeth.data.toList.drop 0 = dktX3_isRatioByTeeth_0 := by decide +kernel
theorem dX3_isRatioByTeeth_0 : decode cX3_isRatioByTeeth 0 = .ok (.aload_n 0, 1) := dk_42 (dk_at dksX3_isRatioByTeeth_0 0 rfl rfl)
theorem dX3_isRatioByTeeth_1 : decode cX3_isRatioByTeeth 1 = .ok (.iload_n 1, 1) := dk_27 (dk_at dksX3_isRatioByTeeth_0 1 rfl rfl)
theorem dX3_isRatioByTeeth_2 : decode cX3_isRatioByTeeth 2 = .ok (.aload_n 0, 1) := dk_42 (dk_at dksX3_isRatioByTeeth_0 2 rfl rfl)
theorem dX3_isRatioByTeeth_3 : decode cX3_isRatioByTeeth 3 = .ok (.iload_n 1, 1) := dk_27 (dk_at dksX3_isRatioByTeeth_0 3 rfl rfl)
theorem dX3_isRatioByTeeth_4 : decode cX3_isRatioByTeeth 4 = .ok (.invokevirtual 88, 3) := dk_182 0 88 (dk_at dksX3_isRatioByTeeth_0 4 rfl rfl)
theorem dX3_isRatioByTeeth_7 : decode cX3_isRatioByTeeth 7 = .ok (.invokevirtual 158, 3) := dk_182 0 158 (dk_at dksX3_isRatioByTeeth_0 7 rfl rfl)
theorem dX3_isRatioByTeeth_10 : decode cX3_isRatioByTeeth 10 = .ok (.ireturn, 1) := dk_172 (dk_at dksX3_isRatioByTeeth_0 10 rfl rfl)
abbrev cX3_turnsOf : ByteArray := prog_10_method_61_code
def yX3_turnsOf : MethodName := ⟨RX3, "turnsOf", "(I)J"⟩
def dkwX3_turnsOf_1 : List UInt8 := [46, 133, 105, 42, 180, 0, 32, 27, 47, 109, 167, 0, 4, 9, 173]
abbrev dktX3_turnsOf_1 : List UInt8 := dkwX3_turnsOf_1 ++ []
def dkwX3_turnsOf_0 : List UInt8 := [42, 27, 42, 27, 182, 0, 88, 182, 0, 158, 153, 0, 27, 42, 27, 182, 0, 162, 42, 180, 0, 7, 16, 111]
abbrev dktX3_turnsOf_0 : List UInt8 := dkwX3_turnsOf_0 ++ dktX3_turnsOf_1
theorem dksX3_turnsOf_0 : cX3_turnsOf.data.toList.drop 0 = dktX3_turnsOf_0 := by decide +kernel
theorem dksX3_turnsOf_1 : cX3_turnsOf.data.toList.drop 24 = dktX3_turnsOf_1 := dk_seg dksX3_turnsOf_0 24 rfl rfl
theorem dX3_turnsOf_0 : decode cX3_turnsOf 0 = .ok (.aload_n 0, 1) := dk_42 (dk_at dksX3_turnsOf_0 0 rfl rfl)
theorem dX3_turnsOf_1 : decode cX3_turnsOf 1 = .ok (.iload_n 1, 1) := dk_27 (dk_at dksX3_turnsOf_0 1 rfl rfl)
theorem dX3_turnsOf_2 : decode cX3_turnsOf 2 = .ok (.aload_n 0, 1) := dk_42 (dk_at dksX3_turnsOf_0 2 rfl rfl)
theorem dX3_turnsOf_3 : decode cX3_turnsOf 3 = .ok (.iload_n 1, 1) := dk_27 (dk_at dksX3_turnsOf_0 3 rfl rfl)
theorem dX3_turnsOf_4 : decode cX3_turnsOf 4 = .ok (.invokevirtual 88, 3) := dk_182 0 88 (dk_at dksX3_turnsOf_0 4 rfl rfl)
theorem dX3_turnsOf_7 : decode cX3_turnsOf 7 = .ok (.invokevirtual 158, 3) := dk_182 0 158 (dk_at dksX3_turnsOf_0 7 rfl rfl)
theorem dX3_turnsOf_10 : decode cX3_turnsOf 10 = .ok (.ifCond .eq 27, 3) := dk_153 0 27 (dk_at dksX3_turnsOf_0 10 rfl rfl)
theorem dX3_turnsOf_13 : decode cX3_turnsOf 13 = .ok (.aload_n 0, 1) := dk_42 (dk_at dksX3_turnsOf_0 13 rfl rfl)
theorem dX3_turnsOf_14 : decode cX3_turnsOf 14 = .ok (.iload_n 1, 1) := dk_27 (dk_at dksX3_turnsOf_0 14 rfl rfl)
theorem dX3_turnsOf_15 : decode cX3_turnsOf 15 = .ok (.invokevirtual 162, 3) := dk_182 0 162 (dk_at dksX3_turnsOf_0 15 rfl rfl)
theorem dX3_turnsOf_18 : decode cX3_turnsOf 18 = .ok (.aload_n 0, 1) := dk_42 (dk_at dksX3_turnsOf_0 18 rfl rfl)
theorem dX3_turnsOf_19 : decode cX3_turnsOf 19 = .ok (.getfield 7, 3) := dk_180 0 7 (dk_at dksX3_turnsOf_0 19 rfl rfl)
theorem dX3_turnsOf_22 : decode cX3_turnsOf 22 = .ok (.bipush 111, 2) := dk_16 111 (dk_at dksX3_turnsOf_0 22 rfl rfl)
theorem dX3_turnsOf_24 : decode cX3_turnsOf 24 = .ok (.iaload, 1) := dk_46 (dk_at dksX3_turnsOf_1 0 rfl rfl)
theorem dX3_turnsOf_25 : decode cX3_turnsOf 25 = .ok (.i2l, 1) := dk_133 (dk_at dksX3_turnsOf_1 1 rfl rfl)
theorem dX3_turnsOf_26 : decode cX3_turnsOf 26 = .ok (.lmul, 1) := dk_105 (dk_at dksX3_turnsOf_1 2 rfl rfl)
theorem dX3_turnsOf_27 : decode cX3_turnsOf 27 = .ok (.aload_n 0, 1) := dk_42 (dk_at dksX3_turnsOf_1 3 rfl rfl)
theorem dX3_turnsOf_28 : decode cX3_turnsOf 28 = .ok (.getfield 32, 3) := dk_180 0 32 (dk_at dksX3_turnsOf_1 4 rfl rfl)
theorem dX3_turnsOf_31 : decode cX3_turnsOf 31 = .ok (.iload_n 1, 1) := dk_27 (dk_at dksX3_turnsOf_1 7 rfl rfl)
theorem dX3_turnsOf_32 : decode cX3_turnsOf 32 = .ok (.laload, 1) := dk_47 (dk_at dksX3_turnsOf_1 8 rfl rfl)
theorem dX3_turnsOf_33 : decode cX3_turnsOf 33 = .ok (.ldiv, 1) := dk_109 (dk_at dksX3_turnsOf_1 9 rfl rfl)
theorem dX3_turnsOf_34 : decode cX3_turnsOf 34 = .ok (.goto 4, 3) := dk_167 0 4 (dk_at dksX3_turnsOf_1 10 rfl rfl)
theorem dX3_turnsOf_37 : decode cX3_turnsOf 37 = .ok (.lconst 0, 1) := dk_9 (dk_at dksX3_turnsOf_1 13 rfl rfl)
theorem dX3_turnsOf_38 : decode cX3_turnsOf 38 = .ok (.lreturn, 1) := dk_173 (dk_at dksX3_turnsOf_1 14 rfl rfl)
abbrev cX3_size : ByteArray := prog_10_method_60_code
def yX3_size : MethodName := ⟨RX3, "size", "(I)J"⟩
def dkwX3_size_1 : List UInt8 := [180, 0, 28, 27, 47, 173]
abbrev dktX3_size_1 : List UInt8 := dkwX3_size_1 ++ []
def dkwX3_size_0 : List UInt8 := [42, 180, 0, 28, 27, 47, 9, 148, 156, 0, 13, 42, 180, 0, 28, 27, 47, 117, 167, 0, 9, 42]
abbrev dktX3_size_0 : List UInt8 := dkwX3_size_0 ++ dktX3_size_1
theorem dksX3_size_0 : cX3_size.data.toList.drop 0 = dktX3_size_0 := by decide +kernel
theorem dksX3_size_1 : cX3_size.data.toList.drop 22 = dktX3_size_1 := dk_seg dksX3_size_0 22 rfl rfl
theorem dX3_size_0 : decode cX3_size 0 = .ok (.aload_n 0, 1) := dk_42 (dk_at dksX3_size_0 0 rfl rfl)
theorem dX3_size_1 : decode cX3_size 1 = .ok (.getfield 28, 3) := dk_180 0 28 (dk_at dksX3_size_0 1 rfl rfl)
theorem dX3_size_4 : decode cX3_size 4 = .ok (.iload_n 1, 1) := dk_27 (dk_at dksX3_size_0 4 rfl rfl)
theorem dX3_size_5 : decode cX3_size 5 = .ok (.laload, 1) := dk_47 (dk_at dksX3_size_0 5 rfl rfl)
theorem dX3_size_6 : decode cX3_size 6 = .ok (.lconst 0, 1) := dk_9 (dk_at dksX3_size_0 6 rfl rfl)
theorem dX3_size_7 : decode cX3_size 7 = .ok (.lcmp, 1) := dk_148 (dk_at dksX3_size_0 7 rfl rfl)
theorem dX3_size_8 : decode cX3_size 8 = .ok (.ifCond .ge 13, 3) := dk_156 0 13 (dk_at dksX3_size_0 8 rfl rfl)
theorem dX3_size_11 : decode cX3_size 11 = .ok (.aload_n 0, 1) := dk_42 (dk_at dksX3_size_0 11 rfl rfl)
theorem dX3_size_12 : decode cX3_size 12 = .ok (.getfield 28, 3) := dk_180 0 28 (dk_at dksX3_size_0 12 rfl rfl)
theorem dX3_size_15 : decode cX3_size 15 = .ok (.iload_n 1, 1) := dk_27 (dk_at dksX3_size_0 15 rfl rfl)
theorem dX3_size_16 : decode cX3_size 16 = .ok (.laload, 1) := dk_47 (dk_at dksX3_size_0 16 rfl rfl)
theorem dX3_size_17 : decode cX3_size 17 = .ok (.lneg, 1) := dk_117 (dk_at dksX3_size_0 17 rfl rfl)
theorem dX3_size_18 : decode cX3_size 18 = .ok (.goto 9, 3) := dk_167 0 9 (dk_at dksX3_size_0 18 rfl rfl)
theorem dX3_size_21 : decode cX3_size 21 = .ok (.aload_n 0, 1) := dk_42 (dk_at dksX3_size_0 21 rfl rfl)
theorem dX3_size_22 : decode cX3_size 22 = .ok (.getfield 28, 3) := dk_180 0 28 (dk_at dksX3_size_1 0 rfl rfl)
theorem dX3_size_25 : decode cX3_size 25 = .ok (.iload_n 1, 1) := dk_27 (dk_at dksX3_size_1 3 rfl rfl)
theorem dX3_size_26 : decode cX3_size 26 = .ok (.laload, 1) := dk_47 (dk_at dksX3_size_1 4 rfl rfl)
theorem dX3_size_27 : decode cX3_size 27 = .ok (.lreturn, 1) := dk_173 (dk_at dksX3_size_1 5 rfl rfl)
abbrev cX3_wheelOf : ByteArray := prog_10_method_62_code
def yX3_wheelOf : MethodName := ⟨RX3, "wheelOf", "(IZ)I"⟩
def dkwX3_wheelOf_1 : List UInt8 := [167, 0, 5, 16, 67, 27, 96, 46, 167, 0, 4, 3, 172]
abbrev dktX3_wheelOf_1 : List UInt8 := dkwX3_wheelOf_1 ++ []
def dkwX3_wheelOf_0 : List UInt8 := [42, 42, 27, 182, 0, 109, 182, 0, 154, 153, 0, 24, 42, 180, 0, 7, 28, 153, 0, 8, 16, 51]
abbrev dktX3_wheelOf_0 : List UInt8 := dkwX3_wheelOf_0 ++ dktX3_wheelOf_1
theorem dksX3_wheelOf_0 : cX3_wheelOf.data.toList.drop 0 = dktX3_wheelOf_0 := by decide +kernel
theorem dksX3_wheelOf_1 : cX3_wheelOf.data.toList.drop 22 = dktX3_wheelOf_1 := dk_seg dksX3_wheelOf_0 22 rfl rfl
theorem dX3_wheelOf_0 : decode cX3_wheelOf 0 = .ok (.aload_n 0, 1) := dk_42 (dk_at dksX3_wheelOf_0 0 rfl rfl)
theorem dX3_wheelOf_1 : decode cX3_wheelOf 1 = .ok (.aload_n 0, 1) := dk_42 (dk_at dksX3_wheelOf_0 1 rfl rfl)
theorem dX3_wheelOf_2 : decode cX3_wheelOf 2 = .ok (.iload_n 1, 1) := dk_27 (dk_at dksX3_wheelOf_0 2 rfl rfl)
theorem dX3_wheelOf_3 : decode cX3_wheelOf 3 = .ok (.invokevirtual 109, 3) := dk_182 0 109 (dk_at dksX3_wheelOf_0 3 rfl rfl)
theorem dX3_wheelOf_6 : decode cX3_wheelOf 6 = .ok (.invokevirtual 154, 3) := dk_182 0 154 (dk_at dksX3_wheelOf_0 6 rfl rfl)
theorem dX3_wheelOf_9 : decode cX3_wheelOf 9 = .ok (.ifCond .eq 24, 3) := dk_153 0 24 (dk_at dksX3_wheelOf_0 9 rfl rfl)
theorem dX3_wheelOf_12 : decode cX3_wheelOf 12 = .ok (.aload_n 0, 1) := dk_42 (dk_at dksX3_wheelOf_0 12 rfl rfl)
theorem dX3_wheelOf_13 : decode cX3_wheelOf 13 = .ok (.getfield 7, 3) := dk_180 0 7 (dk_at dksX3_wheelOf_0 13 rfl rfl)
theorem dX3_wheelOf_16 : decode cX3_wheelOf 16 = .ok (.iload_n 2, 1) := dk_28 (dk_at dksX3_wheelOf_0 16 rfl rfl)
theorem dX3_wheelOf_17 : decode cX3_wheelOf 17 = .ok (.ifCond .eq 8, 3) := dk_153 0 8 (dk_at dksX3_wheelOf_0 17 rfl rfl)
theorem dX3_wheelOf_20 : decode cX3_wheelOf 20 = .ok (.bipush 51, 2) := dk_16 51 (dk_at dksX3_wheelOf_0 20 rfl rfl)
theorem dX3_wheelOf_22 : decode cX3_wheelOf 22 = .ok (.goto 5, 3) := dk_167 0 5 (dk_at dksX3_wheelOf_1 0 rfl rfl)
theorem dX3_wheelOf_25 : decode cX3_wheelOf 25 = .ok (.bipush 67, 2) := dk_16 67 (dk_at dksX3_wheelOf_1 3 rfl rfl)
theorem dX3_wheelOf_27 : decode cX3_wheelOf 27 = .ok (.iload_n 1, 1) := dk_27 (dk_at dksX3_wheelOf_1 5 rfl rfl)
theorem dX3_wheelOf_28 : decode cX3_wheelOf 28 = .ok (.iadd, 1) := dk_96 (dk_at dksX3_wheelOf_1 6 rfl rfl)
theorem dX3_wheelOf_29 : decode cX3_wheelOf 29 = .ok (.iaload, 1) := dk_46 (dk_at dksX3_wheelOf_1 7 rfl rfl)
theorem dX3_wheelOf_30 : decode cX3_wheelOf 30 = .ok (.goto 4, 3) := dk_167 0 4 (dk_at dksX3_wheelOf_1 8 rfl rfl)
theorem dX3_wheelOf_33 : decode cX3_wheelOf 33 = .ok (.iconst 0, 1) := dk_3 (dk_at dksX3_wheelOf_1 11 rfl rfl)
theorem dX3_wheelOf_34 : decode cX3_wheelOf 34 = .ok (.ireturn, 1) := dk_172 (dk_at dksX3_wheelOf_1 12 rfl rfl)
abbrev cX3_sameTeethIn : ByteArray := prog_10_method_65_code
def yX3_sameTeethIn : MethodName := ⟨RX3, "sameTeethIn", "(I)I"⟩
def dkwX3_sameTeethIn_0 : List UInt8 := [42, 27, 182, 0, 169, 172]
abbrev dktX3_sameTeethIn_0 : List UInt8 := dkwX3_sameTeethIn_0 ++ []
theorem dksX3_sameTeethIn_0 : cX3_sameTeethIn.data.toList.drop 0 = dktX3_sameTeethIn_0 := by decide +kernel
theorem dX3_sameTeethIn_0 : decode cX3_sameTeethIn 0 = .ok (.aload_n 0, 1) := dk_42 (dk_at dksX3_sameTeethIn_0 0 rfl rfl)
theorem dX3_sameTeethIn_1 : decode cX3_sameTeethIn 1 = .ok (.iload_n 1, 1) := dk_27 (dk_at dksX3_sameTeethIn_0 1 rfl rfl)
theorem dX3_sameTeethIn_2 : decode cX3_sameTeethIn 2 = .ok (.invokevirtual 169, 3) := dk_182 0 169 (dk_at dksX3_sameTeethIn_0 2 rfl rfl)
theorem dX3_sameTeethIn_5 : decode cX3_sameTeethIn 5 = .ok (.ireturn, 1) := dk_172 (dk_at dksX3_sameTeethIn_0 5 rfl rfl)
abbrev cX3_multiple : ByteArray := prog_10_method_64_code
def yX3_multiple : MethodName := ⟨RX3, "multiple", "(I)I"⟩
def dkwX3_multiple_2 : List UInt8 := [27, 96, 46, 96, 46, 104, 172]
abbrev dktX3_multiple_2 : List UInt8 := dkwX3_multiple_2 ++ []
def dkwX3_multiple_1 : List UInt8 := [16, 51, 27, 96, 46, 96, 46, 42, 27, 182, 0, 166, 108, 42, 180, 0, 7, 5, 42, 180, 0, 7, 16, 67]
abbrev dktX3_multiple_1 : List UInt8 := dkwX3_multiple_1 ++ dktX3_multiple_2
def dkwX3_multiple_0 : List UInt8 := [42, 42, 27, 182, 0, 109, 182, 0, 154, 154, 0, 5, 3, 172, 42, 180, 0, 7, 5, 42, 180, 0, 7]
abbrev dktX3_multiple_0 : List UInt8 := dkwX3_multiple_0 ++ dktX3_multiple_1
theorem dksX3_multiple_0 : cX3_multiple.data.toList.drop 0 = dktX3_multiple_0 := by decide +kernel
theorem dksX3_multiple_1 : cX3_multiple.data.toList.drop 23 = dktX3_multiple_1 := dk_seg dksX3_multiple_0 23 rfl rfl
theorem dksX3_multiple_2 : cX3_multiple.data.toList.drop 47 = dktX3_multiple_2 := dk_seg dksX3_multiple_1 24 rfl rfl
theorem dX3_multiple_0 : decode cX3_multiple 0 = .ok (.aload_n 0, 1) := dk_42 (dk_at dksX3_multiple_0 0 rfl rfl)
theorem dX3_multiple_1 : decode cX3_multiple 1 = .ok (.aload_n 0, 1) := dk_42 (dk_at dksX3_multiple_0 1 rfl rfl)
theorem dX3_multiple_2 : decode cX3_multiple 2 = .ok (.iload_n 1, 1) := dk_27 (dk_at dksX3_multiple_0 2 rfl rfl)
theorem dX3_multiple_3 : decode cX3_multiple 3 = .ok (.invokevirtual 109, 3) := dk_182 0 109 (dk_at dksX3_multiple_0 3 rfl rfl)
theorem dX3_multiple_6 : decode cX3_multiple 6 = .ok (.invokevirtual 154, 3) := dk_182 0 154 (dk_at dksX3_multiple_0 6 rfl rfl)
theorem dX3_multiple_9 : decode cX3_multiple 9 = .ok (.ifCond .ne 5, 3) := dk_154 0 5 (dk_at dksX3_multiple_0 9 rfl rfl)
theorem dX3_multiple_12 : decode cX3_multiple 12 = .ok (.iconst 0, 1) := dk_3 (dk_at dksX3_multiple_0 12 rfl rfl)
theorem dX3_multiple_13 : decode cX3_multiple 13 = .ok (.ireturn, 1) := dk_172 (dk_at dksX3_multiple_0 13 rfl rfl)
theorem dX3_multiple_14 : decode cX3_multiple 14 = .ok (.aload_n 0, 1) := dk_42 (dk_at dksX3_multiple_0 14 rfl rfl)
theorem dX3_multiple_15 : decode cX3_multiple 15 = .ok (.getfield 7, 3) := dk_180 0 7 (dk_at dksX3_multiple_0 15 rfl rfl)
theorem dX3_multiple_18 : decode cX3_multiple 18 = .ok (.iconst 2, 1) := dk_5 (dk_at dksX3_multiple_0 18 rfl rfl)
theorem dX3_multiple_19 : decode cX3_multiple 19 = .ok (.aload_n 0, 1) := dk_42 (dk_at dksX3_multiple_0 19 rfl rfl)
theorem dX3_multiple_20 : decode cX3_multiple 20 = .ok (.getfield 7, 3) := dk_180 0 7 (dk_at dksX3_multiple_0 20 rfl rfl)
theorem dX3_multiple_23 : decode cX3_multiple 23 = .ok (.bipush 51, 2) := dk_16 51 (dk_at dksX3_multiple_1 0 rfl rfl)
theorem dX3_multiple_25 : decode cX3_multiple 25 = .ok (.iload_n 1, 1) := dk_27 (dk_at dksX3_multiple_1 2 rfl rfl)
theorem dX3_multiple_26 : decode cX3_multiple 26 = .ok (.iadd, 1) := dk_96 (dk_at dksX3_multiple_1 3 rfl rfl)
theorem dX3_multiple_27 : decode cX3_multiple 27 = .ok (.iaload, 1) := dk_46 (dk_at dksX3_multiple_1 4 rfl rfl)
theorem dX3_multiple_28 : decode cX3_multiple 28 = .ok (.iadd, 1) := dk_96 (dk_at dksX3_multiple_1 5 rfl rfl)
theorem dX3_multiple_29 : decode cX3_multiple 29 = .ok (.iaload, 1) := dk_46 (dk_at dksX3_multiple_1 6 rfl rfl)
theorem dX3_multiple_30 : decode cX3_multiple 30 = .ok (.aload_n 0, 1) := dk_42 (dk_at dksX3_multiple_1 7 rfl rfl)
theorem dX3_multiple_31 : decode cX3_multiple 31 = .ok (.iload_n 1, 1) := dk_27 (dk_at dksX3_multiple_1 8 rfl rfl)
theorem dX3_multiple_32 : decode cX3_multiple 32 = .ok (.invokevirtual 166, 3) := dk_182 0 166 (dk_at dksX3_multiple_1 9 rfl rfl)
theorem dX3_multiple_35 : decode cX3_multiple 35 = .ok (.idiv, 1) := dk_108 (dk_at dksX3_multiple_1 12 rfl rfl)
theorem dX3_multiple_36 : decode cX3_multiple 36 = .ok (.aload_n 0, 1) := dk_42 (dk_at dksX3_multiple_1 13 rfl rfl)
theorem dX3_multiple_37 : decode cX3_multiple 37 = .ok (.getfield 7, 3) := dk_180 0 7 (dk_at dksX3_multiple_1 14 rfl rfl)
theorem dX3_multiple_40 : decode cX3_multiple 40 = .ok (.iconst 2, 1) := dk_5 (dk_at dksX3_multiple_1 17 rfl rfl)
theorem dX3_multiple_41 : decode cX3_multiple 41 = .ok (.aload_n 0, 1) := dk_42 (dk_at dksX3_multiple_1 18 rfl rfl)
theorem dX3_multiple_42 : decode cX3_multiple 42 = .ok (.getfield 7, 3) := dk_180 0 7 (dk_at dksX3_multiple_1 19 rfl rfl)
theorem dX3_multiple_45 : decode cX3_multiple 45 = .ok (.bipush 67, 2) := dk_16 67 (dk_at dksX3_multiple_1 22 rfl rfl)
theorem dX3_multiple_47 : decode cX3_multiple 47 = .ok (.iload_n 1, 1) := dk_27 (dk_at dksX3_multiple_2 0 rfl rfl)
theorem dX3_multiple_48 : decode cX3_multiple 48 = .ok (.iadd, 1) := dk_96 (dk_at dksX3_multiple_2 1 rfl rfl)
theorem dX3_multiple_49 : decode cX3_multiple 49 = .ok (.iaload, 1) := dk_46 (dk_at dksX3_multiple_2 2 rfl rfl)
theorem dX3_multiple_50 : decode cX3_multiple 50 = .ok (.iadd, 1) := dk_96 (dk_at dksX3_multiple_2 3 rfl rfl)
theorem dX3_multiple_51 : decode cX3_multiple 51 = .ok (.iaload, 1) := dk_46 (dk_at dksX3_multiple_2 4 rfl rfl)
theorem dX3_multiple_52 : decode cX3_multiple 52 = .ok (.imul, 1) := dk_104 (dk_at dksX3_multiple_2 5 rfl rfl)
theorem dX3_multiple_53 : decode cX3_multiple 53 = .ok (.ireturn, 1) := dk_172 (dk_at dksX3_multiple_2 6 rfl rfl)
abbrev cX3_sharedTeeth : ByteArray := prog_10_method_63_code
def yX3_sharedTeeth : MethodName := ⟨RX3, "sharedTeeth", "(I)I"⟩
def dkwX3_sharedTeeth_1 : List UInt8 := [180, 0, 7, 16, 67, 27, 96, 46, 96, 46, 133, 184, 0, 65, 136, 172]
abbrev dktX3_sharedTeeth_1 : List UInt8 := dkwX3_sharedTeeth_1 ++ []
def dkwX3_sharedTeeth_0 : List UInt8 := [42, 180, 0, 7, 5, 42, 180, 0, 7, 16, 51, 27, 96, 46, 96, 46, 133, 42, 180, 0, 7, 5, 42]
abbrev dktX3_sharedTeeth_0 : List UInt8 := dkwX3_sharedTeeth_0 ++ dktX3_sharedTeeth_1
theorem dksX3_sharedTeeth_0 : cX3_sharedTeeth.data.toList.drop 0 = dktX3_sharedTeeth_0 := by decide +kernel
theorem dksX3_sharedTeeth_1 : cX3_sharedTeeth.data.toList.drop 23 = dktX3_sharedTeeth_1 := dk_seg dksX3_sharedTeeth_0 23 rfl rfl
theorem dX3_sharedTeeth_0 : decode cX3_sharedTeeth 0 = .ok (.aload_n 0, 1) := dk_42 (dk_at dksX3_sharedTeeth_0 0 rfl rfl)
theorem dX3_sharedTeeth_1 : decode cX3_sharedTeeth 1 = .ok (.getfield 7, 3) := dk_180 0 7 (dk_at dksX3_sharedTeeth_0 1 rfl rfl)
theorem dX3_sharedTeeth_4 : decode cX3_sharedTeeth 4 = .ok (.iconst 2, 1) := dk_5 (dk_at dksX3_sharedTeeth_0 4 rfl rfl)
theorem dX3_sharedTeeth_5 : decode cX3_sharedTeeth 5 = .ok (.aload_n 0, 1) := dk_42 (dk_at dksX3_sharedTeeth_0 5 rfl rfl)
theorem dX3_sharedTeeth_6 : decode cX3_sharedTeeth 6 = .ok (.getfield 7, 3) := dk_180 0 7 (dk_at dksX3_sharedTeeth_0 6 rfl rfl)
theorem dX3_sharedTeeth_9 : decode cX3_sharedTeeth 9 = .ok (.bipush 51, 2) := dk_16 51 (dk_at dksX3_sharedTeeth_0 9 rfl rfl)
theorem dX3_sharedTeeth_11 : decode cX3_sharedTeeth 11 = .ok (.iload_n 1, 1) := dk_27 (dk_at dksX3_sharedTeeth_0 11 rfl rfl)
theorem dX3_sharedTeeth_12 : decode cX3_sharedTeeth 12 = .ok (.iadd, 1) := dk_96 (dk_at dksX3_sharedTeeth_0 12 rfl rfl)
theorem dX3_sharedTeeth_13 : decode cX3_sharedTeeth 13 = .ok (.iaload, 1) := dk_46 (dk_at dksX3_sharedTeeth_0 13 rfl rfl)
theorem dX3_sharedTeeth_14 : decode cX3_sharedTeeth 14 = .ok (.iadd, 1) := dk_96 (dk_at dksX3_sharedTeeth_0 14 rfl rfl)
theorem dX3_sharedTeeth_15 : decode cX3_sharedTeeth 15 = .ok (.iaload, 1) := dk_46 (dk_at dksX3_sharedTeeth_0 15 rfl rfl)
theorem dX3_sharedTeeth_16 : decode cX3_sharedTeeth 16 = .ok (.i2l, 1) := dk_133 (dk_at dksX3_sharedTeeth_0 16 rfl rfl)
theorem dX3_sharedTeeth_17 : decode cX3_sharedTeeth 17 = .ok (.aload_n 0, 1) := dk_42 (dk_at dksX3_sharedTeeth_0 17 rfl rfl)
theorem dX3_sharedTeeth_18 : decode cX3_sharedTeeth 18 = .ok (.getfield 7, 3) := dk_180 0 7 (dk_at dksX3_sharedTeeth_0 18 rfl rfl)
theorem dX3_sharedTeeth_21 : decode cX3_sharedTeeth 21 = .ok (.iconst 2, 1) := dk_5 (dk_at dksX3_sharedTeeth_0 21 rfl rfl)
theorem dX3_sharedTeeth_22 : decode cX3_sharedTeeth 22 = .ok (.aload_n 0, 1) := dk_42 (dk_at dksX3_sharedTeeth_0 22 rfl rfl)
theorem dX3_sharedTeeth_23 : decode cX3_sharedTeeth 23 = .ok (.getfield 7, 3) := dk_180 0 7 (dk_at dksX3_sharedTeeth_1 0 rfl rfl)
theorem dX3_sharedTeeth_26 : decode cX3_sharedTeeth 26 = .ok (.bipush 67, 2) := dk_16 67 (dk_at dksX3_sharedTeeth_1 3 rfl rfl)
theorem dX3_sharedTeeth_28 : decode cX3_sharedTeeth 28 = .ok (.iload_n 1, 1) := dk_27 (dk_at dksX3_sharedTeeth_1 5 rfl rfl)
theorem dX3_sharedTeeth_29 : decode cX3_sharedTeeth 29 = .ok (.iadd, 1) := dk_96 (dk_at dksX3_sharedTeeth_1 6 rfl rfl)
theorem dX3_sharedTeeth_30 : decode cX3_sharedTeeth 30 = .ok (.iaload, 1) := dk_46 (dk_at dksX3_sharedTeeth_1 7 rfl rfl)
theorem dX3_sharedTeeth_31 : decode cX3_sharedTeeth 31 = .ok (.iadd, 1) := dk_96 (dk_at dksX3_sharedTeeth_1 8 rfl rfl)
theorem dX3_sharedTeeth_32 : decode cX3_sharedTeeth 32 = .ok (.iaload, 1) := dk_46 (dk_at dksX3_sharedTeeth_1 9 rfl rfl)
theorem dX3_sharedTeeth_33 : decode cX3_sharedTeeth 33 = .ok (.i2l, 1) := dk_133 (dk_at dksX3_sharedTeeth_1 10 rfl rfl)
theorem dX3_sharedTeeth_34 : decode cX3_sharedTeeth 34 = .ok (.invokestatic 65, 3) := dk_184 0 65 (dk_at dksX3_sharedTeeth_1 11 rfl rfl)
theorem dX3_sharedTeeth_37 : decode cX3_sharedTeeth 37 = .ok (.l2i, 1) := dk_136 (dk_at dksX3_sharedTeeth_1 14 rfl rfl)
theorem dX3_sharedTeeth_38 : decode cX3_sharedTeeth 38 = .ok (.ireturn, 1) := dk_172 (dk_at dksX3_sharedTeeth_1 15 rfl rfl)
abbrev cX3_sameTeethByGoing : ByteArray := prog_10_method_66_code
def yX3_sameTeethByGoing : MethodName := ⟨RX3, "sameTeethByGoing", "(I)I"⟩
def dkwX3_sameTeethByGoing_0 : List UInt8 := [42, 27, 182, 0, 169, 172]
abbrev dktX3_sameTeethByGoing_0 : List UInt8 := dkwX3_sameTeethByGoing_0 ++ []
theorem dksX3_sameTeethByGoing_0 : cX3_sameTeethByGoing.data.toList.drop 0 = dktX3_sameTeethByGoing_0 := by decide +kernel
theorem dX3_sameTeethByGoing_0 : decode cX3_sameTeethByGoing 0 = .ok (.aload_n 0, 1) := dk_42 (dk_at dksX3_sameTeethByGoing_0 0 rfl rfl)
theorem dX3_sameTeethByGoing_1 : decode cX3_sameTeethByGoing 1 = .ok (.iload_n 1, 1) := dk_27 (dk_at dksX3_sameTeethByGoing_0 1 rfl rfl)
theorem dX3_sameTeethByGoing_2 : decode cX3_sameTeethByGoing 2 = .ok (.invokevirtual 169, 3) := dk_182 0 169 (dk_at dksX3_sameTeethByGoing_0 2 rfl rfl)
theorem dX3_sameTeethByGoing_5 : decode cX3_sameTeethByGoing 5 = .ok (.ireturn, 1) := dk_172 (dk_at dksX3_sameTeethByGoing_0 5 rfl rfl)
abbrev cX3_isEven : ByteArray := prog_10_method_67_code
def yX3_isEven : MethodName := ⟨RX3, "isEven", "(I)Z"⟩
def dkwX3_isEven_1 : List UInt8 := [167, 0, 4, 3, 172]
abbrev dktX3_isEven_1 : List UInt8 := dkwX3_isEven_1 ++ []
def dkwX3_isEven_0 : List UInt8 := [42, 42, 27, 182, 0, 109, 182, 0, 154, 153, 0, 16, 42, 27, 182, 0, 166, 4, 160, 0, 7, 4]
abbrev dktX3_isEven_0 : List UInt8 := dkwX3_isEven_0 ++ dktX3_isEven_1
theorem dksX3_isEven_0 : cX3_isEven.data.toList.drop 0 = dktX3_isEven_0 := by decide +kernel
theorem dksX3_isEven_1 : cX3_isEven.data.toList.drop 22 = dktX3_isEven_1 := dk_seg dksX3_isEven_0 22 rfl rfl
theorem dX3_isEven_0 : decode cX3_isEven 0 = .ok (.aload_n 0, 1) := dk_42 (dk_at dksX3_isEven_0 0 rfl rfl)
theorem dX3_isEven_1 : decode cX3_isEven 1 = .ok (.aload_n 0, 1) := dk_42 (dk_at dksX3_isEven_0 1 rfl rfl)
theorem dX3_isEven_2 : decode cX3_isEven 2 = .ok (.iload_n 1, 1) := dk_27 (dk_at dksX3_isEven_0 2 rfl rfl)
theorem dX3_isEven_3 : decode cX3_isEven 3 = .ok (.invokevirtual 109, 3) := dk_182 0 109 (dk_at dksX3_isEven_0 3 rfl rfl)
theorem dX3_isEven_6 : decode cX3_isEven 6 = .ok (.invokevirtual 154, 3) := dk_182 0 154 (dk_at dksX3_isEven_0 6 rfl rfl)
theorem dX3_isEven_9 : decode cX3_isEven 9 = .ok (.ifCond .eq 16, 3) := dk_153 0 16 (dk_at dksX3_isEven_0 9 rfl rfl)
theorem dX3_isEven_12 : decode cX3_isEven 12 = .ok (.aload_n 0, 1) := dk_42 (dk_at dksX3_isEven_0 12 rfl rfl)
theorem dX3_isEven_13 : decode cX3_isEven 13 = .ok (.iload_n 1, 1) := dk_27 (dk_at dksX3_isEven_0 13 rfl rfl)
theorem dX3_isEven_14 : decode cX3_isEven 14 = .ok (.invokevirtual 166, 3) := dk_182 0 166 (dk_at dksX3_isEven_0 14 rfl rfl)
theorem dX3_isEven_17 : decode cX3_isEven 17 = .ok (.iconst 1, 1) := dk_4 (dk_at dksX3_isEven_0 17 rfl rfl)
theorem dX3_isEven_18 : decode cX3_isEven 18 = .ok (.if_icmp .ne 7, 3) := dk_160 0 7 (dk_at dksX3_isEven_0 18 rfl rfl)
theorem dX3_isEven_21 : decode cX3_isEven 21 = .ok (.iconst 1, 1) := dk_4 (dk_at dksX3_isEven_0 21 rfl rfl)
theorem dX3_isEven_22 : decode cX3_isEven 22 = .ok (.goto 4, 3) := dk_167 0 4 (dk_at dksX3_isEven_1 0 rfl rfl)
theorem dX3_isEven_25 : decode cX3_isEven 25 = .ok (.iconst 0, 1) := dk_3 (dk_at dksX3_isEven_1 3 rfl rfl)
theorem dX3_isEven_26 : decode cX3_isEven 26 = .ok (.ireturn, 1) := dk_172 (dk_at dksX3_isEven_1 4 rfl rfl)
abbrev cX3_teethGone : ByteArray := prog_10_method_68_code
def yX3_teethGone : MethodName := ⟨RX3, "teethGone", "(I)J"⟩
def dkwX3_teethGone_2 : List UInt8 := [180, 0, 7, 5, 27, 96, 46, 133, 105, 42, 180, 0, 32, 29, 47, 109, 167, 0, 4, 9, 173]
abbrev dktX3_teethGone_2 : List UInt8 := dkwX3_teethGone_2 ++ []
def dkwX3_teethGone_1 : List UInt8 := [42, 29, 28, 182, 0, 158, 153, 0, 37, 42, 29, 182, 0, 162, 42, 180, 0, 7, 16, 111, 46, 133, 105, 42]
abbrev dktX3_teethGone_1 : List UInt8 := dkwX3_teethGone_1 ++ dktX3_teethGone_2
def dkwX3_teethGone_0 : List UInt8 := [42, 27, 182, 0, 95, 61, 28, 153, 0, 15, 42, 180, 0, 7, 16, 26, 27, 96, 46, 167, 0, 4, 3, 62]
abbrev dktX3_teethGone_0 : List UInt8 := dkwX3_teethGone_0 ++ dktX3_teethGone_1
theorem dksX3_teethGone_0 : cX3_teethGone.data.toList.drop 0 = dktX3_teethGone_0 := by decide +kernel
theorem dksX3_teethGone_1 : cX3_teethGone.data.toList.drop 24 = dktX3_teethGone_1 := dk_seg dksX3_teethGone_0 24 rfl rfl
theorem dksX3_teethGone_2 : cX3_teethGone.data.toList.drop 48 = dktX3_teethGone_2 := dk_seg dksX3_teethGone_1 24 rfl rfl
theorem dX3_teethGone_0 : decode cX3_teethGone 0 = .ok (.aload_n 0, 1) := dk_42 (dk_at dksX3_teethGone_0 0 rfl rfl)
theorem dX3_teethGone_1 : decode cX3_teethGone 1 = .ok (.iload_n 1, 1) := dk_27 (dk_at dksX3_teethGone_0 1 rfl rfl)
theorem dX3_teethGone_2 : decode cX3_teethGone 2 = .ok (.invokevirtual 95, 3) := dk_182 0 95 (dk_at dksX3_teethGone_0 2 rfl rfl)
theorem dX3_teethGone_5 : decode cX3_teethGone 5 = .ok (.istore_n 2, 1) := dk_61 (dk_at dksX3_teethGone_0 5 rfl rfl)
theorem dX3_teethGone_6 : decode cX3_teethGone 6 = .ok (.iload_n 2, 1) := dk_28 (dk_at dksX3_teethGone_0 6 rfl rfl)
theorem dX3_teethGone_7 : decode cX3_teethGone 7 = .ok (.ifCond .eq 15, 3) := dk_153 0 15 (dk_at dksX3_teethGone_0 7 rfl rfl)
theorem dX3_teethGone_10 : decode cX3_teethGone 10 = .ok (.aload_n 0, 1) := dk_42 (dk_at dksX3_teethGone_0 10 rfl rfl)
theorem dX3_teethGone_11 : decode cX3_teethGone 11 = .ok (.getfield 7, 3) := dk_180 0 7 (dk_at dksX3_teethGone_0 11 rfl rfl)
theorem dX3_teethGone_14 : decode cX3_teethGone 14 = .ok (.bipush 26, 2) := dk_16 26 (dk_at dksX3_teethGone_0 14 rfl rfl)
theorem dX3_teethGone_16 : decode cX3_teethGone 16 = .ok (.iload_n 1, 1) := dk_27 (dk_at dksX3_teethGone_0 16 rfl rfl)
theorem dX3_teethGone_17 : decode cX3_teethGone 17 = .ok (.iadd, 1) := dk_96 (dk_at dksX3_teethGone_0 17 rfl rfl)
theorem dX3_teethGone_18 : decode cX3_teethGone 18 = .ok (.iaload, 1) := dk_46 (dk_at dksX3_teethGone_0 18 rfl rfl)
theorem dX3_teethGone_19 : decode cX3_teethGone 19 = .ok (.goto 4, 3) := dk_167 0 4 (dk_at dksX3_teethGone_0 19 rfl rfl)
theorem dX3_teethGone_22 : decode cX3_teethGone 22 = .ok (.iconst 0, 1) := dk_3 (dk_at dksX3_teethGone_0 22 rfl rfl)
theorem dX3_teethGone_23 : decode cX3_teethGone 23 = .ok (.istore_n 3, 1) := dk_62 (dk_at dksX3_teethGone_0 23 rfl rfl)
theorem dX3_teethGone_24 : decode cX3_teethGone 24 = .ok (.aload_n 0, 1) := dk_42 (dk_at dksX3_teethGone_1 0 rfl rfl)
theorem dX3_teethGone_25 : decode cX3_teethGone 25 = .ok (.iload_n 3, 1) := dk_29 (dk_at dksX3_teethGone_1 1 rfl rfl)
theorem dX3_teethGone_26 : decode cX3_teethGone 26 = .ok (.iload_n 2, 1) := dk_28 (dk_at dksX3_teethGone_1 2 rfl rfl)
theorem dX3_teethGone_27 : decode cX3_teethGone 27 = .ok (.invokevirtual 158, 3) := dk_182 0 158 (dk_at dksX3_teethGone_1 3 rfl rfl)
theorem dX3_teethGone_30 : decode cX3_teethGone 30 = .ok (.ifCond .eq 37, 3) := dk_153 0 37 (dk_at dksX3_teethGone_1 6 rfl rfl)
theorem dX3_teethGone_33 : decode cX3_teethGone 33 = .ok (.aload_n 0, 1) := dk_42 (dk_at dksX3_teethGone_1 9 rfl rfl)
theorem dX3_teethGone_34 : decode cX3_teethGone 34 = .ok (.iload_n 3, 1) := dk_29 (dk_at dksX3_teethGone_1 10 rfl rfl)
theorem dX3_teethGone_35 : decode cX3_teethGone 35 = .ok (.invokevirtual 162, 3) := dk_182 0 162 (dk_at dksX3_teethGone_1 11 rfl rfl)
theorem dX3_teethGone_38 : decode cX3_teethGone 38 = .ok (.aload_n 0, 1) := dk_42 (dk_at dksX3_teethGone_1 14 rfl rfl)
theorem dX3_teethGone_39 : decode cX3_teethGone 39 = .ok (.getfield 7, 3) := dk_180 0 7 (dk_at dksX3_teethGone_1 15 rfl rfl)
theorem dX3_teethGone_42 : decode cX3_teethGone 42 = .ok (.bipush 111, 2) := dk_16 111 (dk_at dksX3_teethGone_1 18 rfl rfl)
theorem dX3_teethGone_44 : decode cX3_teethGone 44 = .ok (.iaload, 1) := dk_46 (dk_at dksX3_teethGone_1 20 rfl rfl)
theorem dX3_teethGone_45 : decode cX3_teethGone 45 = .ok (.i2l, 1) := dk_133 (dk_at dksX3_teethGone_1 21 rfl rfl)
theorem dX3_teethGone_46 : decode cX3_teethGone 46 = .ok (.lmul, 1) := dk_105 (dk_at dksX3_teethGone_1 22 rfl rfl)
theorem dX3_teethGone_47 : decode cX3_teethGone 47 = .ok (.aload_n 0, 1) := dk_42 (dk_at dksX3_teethGone_1 23 rfl rfl)
theorem dX3_teethGone_48 : decode cX3_teethGone 48 = .ok (.getfield 7, 3) := dk_180 0 7 (dk_at dksX3_teethGone_2 0 rfl rfl)
theorem dX3_teethGone_51 : decode cX3_teethGone 51 = .ok (.iconst 2, 1) := dk_5 (dk_at dksX3_teethGone_2 3 rfl rfl)
theorem dX3_teethGone_52 : decode cX3_teethGone 52 = .ok (.iload_n 1, 1) := dk_27 (dk_at dksX3_teethGone_2 4 rfl rfl)
theorem dX3_teethGone_53 : decode cX3_teethGone 53 = .ok (.iadd, 1) := dk_96 (dk_at dksX3_teethGone_2 5 rfl rfl)
theorem dX3_teethGone_54 : decode cX3_teethGone 54 = .ok (.iaload, 1) := dk_46 (dk_at dksX3_teethGone_2 6 rfl rfl)
theorem dX3_teethGone_55 : decode cX3_teethGone 55 = .ok (.i2l, 1) := dk_133 (dk_at dksX3_teethGone_2 7 rfl rfl)
theorem dX3_teethGone_56 : decode cX3_teethGone 56 = .ok (.lmul, 1) := dk_105 (dk_at dksX3_teethGone_2 8 rfl rfl)
theorem dX3_teethGone_57 : decode cX3_teethGone 57 = .ok (.aload_n 0, 1) := dk_42 (dk_at dksX3_teethGone_2 9 rfl rfl)
theorem dX3_teethGone_58 : decode cX3_teethGone 58 = .ok (.getfield 32, 3) := dk_180 0 32 (dk_at dksX3_teethGone_2 10 rfl rfl)
theorem dX3_teethGone_61 : decode cX3_teethGone 61 = .ok (.iload_n 3, 1) := dk_29 (dk_at dksX3_teethGone_2 13 rfl rfl)
theorem dX3_teethGone_62 : decode cX3_teethGone 62 = .ok (.laload, 1) := dk_47 (dk_at dksX3_teethGone_2 14 rfl rfl)
theorem dX3_teethGone_63 : decode cX3_teethGone 63 = .ok (.ldiv, 1) := dk_109 (dk_at dksX3_teethGone_2 15 rfl rfl)
theorem dX3_teethGone_64 : decode cX3_teethGone 64 = .ok (.goto 4, 3) := dk_167 0 4 (dk_at dksX3_teethGone_2 16 rfl rfl)
theorem dX3_teethGone_67 : decode cX3_teethGone 67 = .ok (.lconst 0, 1) := dk_9 (dk_at dksX3_teethGone_2 19 rfl rfl)
theorem dX3_teethGone_68 : decode cX3_teethGone 68 = .ok (.lreturn, 1) := dk_173 (dk_at dksX3_teethGone_2 20 rfl rfl)
abbrev cX3_arms : ByteArray := prog_10_method_73_code
def yX3_arms : MethodName := ⟨RX3, "arms", "()I"⟩
def dkwX3_arms_0 : List UInt8 := [42, 16, 83, 182, 0, 151, 172]
abbrev dktX3_arms_0 : List UInt8 := dkwX3_arms_0 ++ []
theorem dksX3_arms_0 : cX3_arms.data.toList.drop 0 = dktX3_arms_0 := by decide +kernel
theorem dX3_arms_0 : decode cX3_arms 0 = .ok (.aload_n 0, 1) := dk_42 (dk_at dksX3_arms_0 0 rfl rfl)
theorem dX3_arms_1 : decode cX3_arms 1 = .ok (.bipush 83, 2) := dk_16 83 (dk_at dksX3_arms_0 1 rfl rfl)
theorem dX3_arms_3 : decode cX3_arms 3 = .ok (.invokevirtual 151, 3) := dk_182 0 151 (dk_at dksX3_arms_0 3 rfl rfl)
theorem dX3_arms_6 : decode cX3_arms 6 = .ok (.ireturn, 1) := dk_172 (dk_at dksX3_arms_0 6 rfl rfl)
abbrev cX3_moons : ByteArray := prog_10_method_74_code
def yX3_moons : MethodName := ⟨RX3, "moons", "()I"⟩
def dkwX3_moons_0 : List UInt8 := [42, 16, 102, 182, 0, 151, 172]
abbrev dktX3_moons_0 : List UInt8 := dkwX3_moons_0 ++ []
theorem dksX3_moons_0 : cX3_moons.data.toList.drop 0 = dktX3_moons_0 := by decide +kernel
theorem dX3_moons_0 : decode cX3_moons 0 = .ok (.aload_n 0, 1) := dk_42 (dk_at dksX3_moons_0 0 rfl rfl)
theorem dX3_moons_1 : decode cX3_moons 1 = .ok (.bipush 102, 2) := dk_16 102 (dk_at dksX3_moons_0 1 rfl rfl)
theorem dX3_moons_3 : decode cX3_moons 3 = .ok (.invokevirtual 151, 3) := dk_182 0 151 (dk_at dksX3_moons_0 3 rfl rfl)
theorem dX3_moons_6 : decode cX3_moons 6 = .ok (.ireturn, 1) := dk_172 (dk_at dksX3_moons_0 6 rfl rfl)
abbrev cX3_bendOf : ByteArray := prog_10_method_75_code
def yX3_bendOf : MethodName := ⟨RX3, "bendOf", "(I)I"⟩
def dkwX3_bendOf_1 : List UInt8 := [3, 172]
abbrev dktX3_bendOf_1 : List UInt8 := dkwX3_bendOf_1 ++ []
def dkwX3_bendOf_0 : List UInt8 := [42, 42, 27, 182, 0, 137, 182, 0, 154, 153, 0, 15, 42, 180, 0, 7, 16, 90, 27, 96, 46, 167, 0, 4]
abbrev dktX3_bendOf_0 : List UInt8 := dkwX3_bendOf_0 ++ dktX3_bendOf_1
theorem dksX3_bendOf_0 : cX3_bendOf.data.toList.drop 0 = dktX3_bendOf_0 := by decide +kernel
theorem dksX3_bendOf_1 : cX3_bendOf.data.toList.drop 24 = dktX3_bendOf_1 := dk_seg dksX3_bendOf_0 24 rfl rfl
theorem dX3_bendOf_0 : decode cX3_bendOf 0 = .ok (.aload_n 0, 1) := dk_42 (dk_at dksX3_bendOf_0 0 rfl rfl)
theorem dX3_bendOf_1 : decode cX3_bendOf 1 = .ok (.aload_n 0, 1) := dk_42 (dk_at dksX3_bendOf_0 1 rfl rfl)
theorem dX3_bendOf_2 : decode cX3_bendOf 2 = .ok (.iload_n 1, 1) := dk_27 (dk_at dksX3_bendOf_0 2 rfl rfl)
theorem dX3_bendOf_3 : decode cX3_bendOf 3 = .ok (.invokevirtual 137, 3) := dk_182 0 137 (dk_at dksX3_bendOf_0 3 rfl rfl)
theorem dX3_bendOf_6 : decode cX3_bendOf 6 = .ok (.invokevirtual 154, 3) := dk_182 0 154 (dk_at dksX3_bendOf_0 6 rfl rfl)
theorem dX3_bendOf_9 : decode cX3_bendOf 9 = .ok (.ifCond .eq 15, 3) := dk_153 0 15 (dk_at dksX3_bendOf_0 9 rfl rfl)
theorem dX3_bendOf_12 : decode cX3_bendOf 12 = .ok (.aload_n 0, 1) := dk_42 (dk_at dksX3_bendOf_0 12 rfl rfl)
theorem dX3_bendOf_13 : decode cX3_bendOf 13 = .ok (.getfield 7, 3) := dk_180 0 7 (dk_at dksX3_bendOf_0 13 rfl rfl)
theorem dX3_bendOf_16 : decode cX3_bendOf 16 = .ok (.bipush 90, 2) := dk_16 90 (dk_at dksX3_bendOf_0 16 rfl rfl)
theorem dX3_bendOf_18 : decode cX3_bendOf 18 = .ok (.iload_n 1, 1) := dk_27 (dk_at dksX3_bendOf_0 18 rfl rfl)
theorem dX3_bendOf_19 : decode cX3_bendOf 19 = .ok (.iadd, 1) := dk_96 (dk_at dksX3_bendOf_0 19 rfl rfl)
theorem dX3_bendOf_20 : decode cX3_bendOf 20 = .ok (.iaload, 1) := dk_46 (dk_at dksX3_bendOf_0 20 rfl rfl)
theorem dX3_bendOf_21 : decode cX3_bendOf 21 = .ok (.goto 4, 3) := dk_167 0 4 (dk_at dksX3_bendOf_0 21 rfl rfl)
theorem dX3_bendOf_24 : decode cX3_bendOf 24 = .ok (.iconst 0, 1) := dk_3 (dk_at dksX3_bendOf_1 0 rfl rfl)
theorem dX3_bendOf_25 : decode cX3_bendOf 25 = .ok (.ireturn, 1) := dk_172 (dk_at dksX3_bendOf_1 1 rfl rfl)
abbrev cX3_angleOf : ByteArray := prog_10_method_78_code
def yX3_angleOf : MethodName := ⟨RX3, "angleOf", "(I)I"⟩
def dkwX3_angleOf_0 : List UInt8 := [42, 27, 182, 0, 186, 172]
abbrev dktX3_angleOf_0 : List UInt8 := dkwX3_angleOf_0 ++ []
theorem dksX3_angleOf_0 : cX3_angleOf.data.toList.drop 0 = dktX3_angleOf_0 := by decide +kernel
theorem dX3_angleOf_0 : decode cX3_angleOf 0 = .ok (.aload_n 0, 1) := dk_42 (dk_at dksX3_angleOf_0 0 rfl rfl)
theorem dX3_angleOf_1 : decode cX3_angleOf 1 = .ok (.iload_n 1, 1) := dk_27 (dk_at dksX3_angleOf_0 1 rfl rfl)
theorem dX3_angleOf_2 : decode cX3_angleOf 2 = .ok (.invokevirtual 186, 3) := dk_182 0 186 (dk_at dksX3_angleOf_0 2 rfl rfl)
theorem dX3_angleOf_5 : decode cX3_angleOf 5 = .ok (.ireturn, 1) := dk_172 (dk_at dksX3_angleOf_0 5 rfl rfl)
abbrev cX3_toldAngle : ByteArray := prog_10_method_77_code
def yX3_toldAngle : MethodName := ⟨RX3, "toldAngle", "(I)I"⟩
def dkwX3_toldAngle_1 : List UInt8 := [3, 172]
abbrev dktX3_toldAngle_1 : List UInt8 := dkwX3_toldAngle_1 ++ []
def dkwX3_toldAngle_0 : List UInt8 := [42, 27, 4, 182, 0, 180, 153, 0, 18, 42, 27, 42, 180, 0, 7, 16, 111, 46, 182, 0, 183, 167, 0, 4]
abbrev dktX3_toldAngle_0 : List UInt8 := dkwX3_toldAngle_0 ++ dktX3_toldAngle_1
theorem dksX3_toldAngle_0 : cX3_toldAngle.data.toList.drop 0 = dktX3_toldAngle_0 := by decide +kernel
theorem dksX3_toldAngle_1 : cX3_toldAngle.data.toList.drop 24 = dktX3_toldAngle_1 := dk_seg dksX3_toldAngle_0 24 rfl rfl
theorem dX3_toldAngle_0 : decode cX3_toldAngle 0 = .ok (.aload_n 0, 1) := dk_42 (dk_at dksX3_toldAngle_0 0 rfl rfl)
theorem dX3_toldAngle_1 : decode cX3_toldAngle 1 = .ok (.iload_n 1, 1) := dk_27 (dk_at dksX3_toldAngle_0 1 rfl rfl)
theorem dX3_toldAngle_2 : decode cX3_toldAngle 2 = .ok (.iconst 1, 1) := dk_4 (dk_at dksX3_toldAngle_0 2 rfl rfl)
theorem dX3_toldAngle_3 : decode cX3_toldAngle 3 = .ok (.invokevirtual 180, 3) := dk_182 0 180 (dk_at dksX3_toldAngle_0 3 rfl rfl)
theorem dX3_toldAngle_6 : decode cX3_toldAngle 6 = .ok (.ifCond .eq 18, 3) := dk_153 0 18 (dk_at dksX3_toldAngle_0 6 rfl rfl)
theorem dX3_toldAngle_9 : decode cX3_toldAngle 9 = .ok (.aload_n 0, 1) := dk_42 (dk_at dksX3_toldAngle_0 9 rfl rfl)
theorem dX3_toldAngle_10 : decode cX3_toldAngle 10 = .ok (.iload_n 1, 1) := dk_27 (dk_at dksX3_toldAngle_0 10 rfl rfl)
theorem dX3_toldAngle_11 : decode cX3_toldAngle 11 = .ok (.aload_n 0, 1) := dk_42 (dk_at dksX3_toldAngle_0 11 rfl rfl)
theorem dX3_toldAngle_12 : decode cX3_toldAngle 12 = .ok (.getfield 7, 3) := dk_180 0 7 (dk_at dksX3_toldAngle_0 12 rfl rfl)
theorem dX3_toldAngle_15 : decode cX3_toldAngle 15 = .ok (.bipush 111, 2) := dk_16 111 (dk_at dksX3_toldAngle_0 15 rfl rfl)
theorem dX3_toldAngle_17 : decode cX3_toldAngle 17 = .ok (.iaload, 1) := dk_46 (dk_at dksX3_toldAngle_0 17 rfl rfl)
theorem dX3_toldAngle_18 : decode cX3_toldAngle 18 = .ok (.invokevirtual 183, 3) := dk_182 0 183 (dk_at dksX3_toldAngle_0 18 rfl rfl)
theorem dX3_toldAngle_21 : decode cX3_toldAngle 21 = .ok (.goto 4, 3) := dk_167 0 4 (dk_at dksX3_toldAngle_0 21 rfl rfl)
theorem dX3_toldAngle_24 : decode cX3_toldAngle 24 = .ok (.iconst 0, 1) := dk_3 (dk_at dksX3_toldAngle_1 0 rfl rfl)
theorem dX3_toldAngle_25 : decode cX3_toldAngle 25 = .ok (.ireturn, 1) := dk_172 (dk_at dksX3_toldAngle_1 1 rfl rfl)
abbrev cX3_asksArm : ByteArray := prog_10_method_76_code
def yX3_asksArm : MethodName := ⟨RX3, "asksArm", "(IZ)Z"⟩
def dkwX3_asksArm_1 : List UInt8 := [180, 0, 7, 16, 84, 27, 96, 46, 167, 0, 4, 3, 29, 182, 0, 158, 172]
abbrev dktX3_asksArm_1 : List UInt8 := dkwX3_asksArm_1 ++ []
def dkwX3_asksArm_0 : List UInt8 := [28, 153, 0, 15, 42, 27, 182, 0, 137, 153, 0, 7, 4, 167, 0, 4, 3, 62, 42, 29, 153, 0, 15, 42]
abbrev dktX3_asksArm_0 : List UInt8 := dkwX3_asksArm_0 ++ dktX3_asksArm_1
theorem dksX3_asksArm_0 : cX3_asksArm.data.toList.drop 0 = dktX3_asksArm_0 := by decide +kernel
theorem dksX3_asksArm_1 : cX3_asksArm.data.toList.drop 24 = dktX3_asksArm_1 := dk_seg dksX3_asksArm_0 24 rfl rfl
theorem dX3_asksArm_0 : decode cX3_asksArm 0 = .ok (.iload_n 2, 1) := dk_28 (dk_at dksX3_asksArm_0 0 rfl rfl)
theorem dX3_asksArm_1 : decode cX3_asksArm 1 = .ok (.ifCond .eq 15, 3) := dk_153 0 15 (dk_at dksX3_asksArm_0 1 rfl rfl)
theorem dX3_asksArm_4 : decode cX3_asksArm 4 = .ok (.aload_n 0, 1) := dk_42 (dk_at dksX3_asksArm_0 4 rfl rfl)
theorem dX3_asksArm_5 : decode cX3_asksArm 5 = .ok (.iload_n 1, 1) := dk_27 (dk_at dksX3_asksArm_0 5 rfl rfl)
theorem dX3_asksArm_6 : decode cX3_asksArm 6 = .ok (.invokevirtual 137, 3) := dk_182 0 137 (dk_at dksX3_asksArm_0 6 rfl rfl)
theorem dX3_asksArm_9 : decode cX3_asksArm 9 = .ok (.ifCond .eq 7, 3) := dk_153 0 7 (dk_at dksX3_asksArm_0 9 rfl rfl)
theorem dX3_asksArm_12 : decode cX3_asksArm 12 = .ok (.iconst 1, 1) := dk_4 (dk_at dksX3_asksArm_0 12 rfl rfl)
theorem dX3_asksArm_13 : decode cX3_asksArm 13 = .ok (.goto 4, 3) := dk_167 0 4 (dk_at dksX3_asksArm_0 13 rfl rfl)
theorem dX3_asksArm_16 : decode cX3_asksArm 16 = .ok (.iconst 0, 1) := dk_3 (dk_at dksX3_asksArm_0 16 rfl rfl)
theorem dX3_asksArm_17 : decode cX3_asksArm 17 = .ok (.istore_n 3, 1) := dk_62 (dk_at dksX3_asksArm_0 17 rfl rfl)
theorem dX3_asksArm_18 : decode cX3_asksArm 18 = .ok (.aload_n 0, 1) := dk_42 (dk_at dksX3_asksArm_0 18 rfl rfl)
theorem dX3_asksArm_19 : decode cX3_asksArm 19 = .ok (.iload_n 3, 1) := dk_29 (dk_at dksX3_asksArm_0 19 rfl rfl)
theorem dX3_asksArm_20 : decode cX3_asksArm 20 = .ok (.ifCond .eq 15, 3) := dk_153 0 15 (dk_at dksX3_asksArm_0 20 rfl rfl)
theorem dX3_asksArm_23 : decode cX3_asksArm 23 = .ok (.aload_n 0, 1) := dk_42 (dk_at dksX3_asksArm_0 23 rfl rfl)
theorem dX3_asksArm_24 : decode cX3_asksArm 24 = .ok (.getfield 7, 3) := dk_180 0 7 (dk_at dksX3_asksArm_1 0 rfl rfl)
theorem dX3_asksArm_27 : decode cX3_asksArm 27 = .ok (.bipush 84, 2) := dk_16 84 (dk_at dksX3_asksArm_1 3 rfl rfl)
theorem dX3_asksArm_29 : decode cX3_asksArm 29 = .ok (.iload_n 1, 1) := dk_27 (dk_at dksX3_asksArm_1 5 rfl rfl)
theorem dX3_asksArm_30 : decode cX3_asksArm 30 = .ok (.iadd, 1) := dk_96 (dk_at dksX3_asksArm_1 6 rfl rfl)
theorem dX3_asksArm_31 : decode cX3_asksArm 31 = .ok (.iaload, 1) := dk_46 (dk_at dksX3_asksArm_1 7 rfl rfl)
theorem dX3_asksArm_32 : decode cX3_asksArm 32 = .ok (.goto 4, 3) := dk_167 0 4 (dk_at dksX3_asksArm_1 8 rfl rfl)
theorem dX3_asksArm_35 : decode cX3_asksArm 35 = .ok (.iconst 0, 1) := dk_3 (dk_at dksX3_asksArm_1 11 rfl rfl)
theorem dX3_asksArm_36 : decode cX3_asksArm 36 = .ok (.iload_n 3, 1) := dk_29 (dk_at dksX3_asksArm_1 12 rfl rfl)
theorem dX3_asksArm_37 : decode cX3_asksArm 37 = .ok (.invokevirtual 158, 3) := dk_182 0 158 (dk_at dksX3_asksArm_1 13 rfl rfl)
theorem dX3_asksArm_40 : decode cX3_asksArm 40 = .ok (.ireturn, 1) := dk_172 (dk_at dksX3_asksArm_1 16 rfl rfl)
abbrev cX3_armAngle : ByteArray := prog_10_method_71_code
def yX3_armAngle : MethodName := ⟨RX3, "armAngle", "(II)I"⟩
def dkwX3_armAngle_1 : List UInt8 := [46, 104, 96, 184, 0, 177, 172]
abbrev dktX3_armAngle_1 : List UInt8 := dkwX3_armAngle_1 ++ []
def dkwX3_armAngle_0 : List UInt8 := [42, 42, 180, 0, 7, 16, 84, 27, 96, 46, 28, 182, 0, 174, 16, 60, 42, 180, 0, 7, 16, 90, 27, 96]
abbrev dktX3_armAngle_0 : List UInt8 := dkwX3_armAngle_0 ++ dktX3_armAngle_1
theorem dksX3_armAngle_0 : cX3_armAngle.data.toList.drop 0 = dktX3_armAngle_0 := by decide +kernel
theorem dksX3_armAngle_1 : cX3_armAngle.data.toList.drop 24 = dktX3_armAngle_1 := dk_seg dksX3_armAngle_0 24 rfl rfl
theorem dX3_armAngle_0 : decode cX3_armAngle 0 = .ok (.aload_n 0, 1) := dk_42 (dk_at dksX3_armAngle_0 0 rfl rfl)
theorem dX3_armAngle_1 : decode cX3_armAngle 1 = .ok (.aload_n 0, 1) := dk_42 (dk_at dksX3_armAngle_0 1 rfl rfl)
theorem dX3_armAngle_2 : decode cX3_armAngle 2 = .ok (.getfield 7, 3) := dk_180 0 7 (dk_at dksX3_armAngle_0 2 rfl rfl)
theorem dX3_armAngle_5 : decode cX3_armAngle 5 = .ok (.bipush 84, 2) := dk_16 84 (dk_at dksX3_armAngle_0 5 rfl rfl)
theorem dX3_armAngle_7 : decode cX3_armAngle 7 = .ok (.iload_n 1, 1) := dk_27 (dk_at dksX3_armAngle_0 7 rfl rfl)
theorem dX3_armAngle_8 : decode cX3_armAngle 8 = .ok (.iadd, 1) := dk_96 (dk_at dksX3_armAngle_0 8 rfl rfl)
theorem dX3_armAngle_9 : decode cX3_armAngle 9 = .ok (.iaload, 1) := dk_46 (dk_at dksX3_armAngle_0 9 rfl rfl)
theorem dX3_armAngle_10 : decode cX3_armAngle 10 = .ok (.iload_n 2, 1) := dk_28 (dk_at dksX3_armAngle_0 10 rfl rfl)
theorem dX3_armAngle_11 : decode cX3_armAngle 11 = .ok (.invokevirtual 174, 3) := dk_182 0 174 (dk_at dksX3_armAngle_0 11 rfl rfl)
theorem dX3_armAngle_14 : decode cX3_armAngle 14 = .ok (.bipush 60, 2) := dk_16 60 (dk_at dksX3_armAngle_0 14 rfl rfl)
theorem dX3_armAngle_16 : decode cX3_armAngle 16 = .ok (.aload_n 0, 1) := dk_42 (dk_at dksX3_armAngle_0 16 rfl rfl)
theorem dX3_armAngle_17 : decode cX3_armAngle 17 = .ok (.getfield 7, 3) := dk_180 0 7 (dk_at dksX3_armAngle_0 17 rfl rfl)
theorem dX3_armAngle_20 : decode cX3_armAngle 20 = .ok (.bipush 90, 2) := dk_16 90 (dk_at dksX3_armAngle_0 20 rfl rfl)
theorem dX3_armAngle_22 : decode cX3_armAngle 22 = .ok (.iload_n 1, 1) := dk_27 (dk_at dksX3_armAngle_0 22 rfl rfl)
theorem dX3_armAngle_23 : decode cX3_armAngle 23 = .ok (.iadd, 1) := dk_96 (dk_at dksX3_armAngle_0 23 rfl rfl)
theorem dX3_armAngle_24 : decode cX3_armAngle 24 = .ok (.iaload, 1) := dk_46 (dk_at dksX3_armAngle_1 0 rfl rfl)
theorem dX3_armAngle_25 : decode cX3_armAngle 25 = .ok (.imul, 1) := dk_104 (dk_at dksX3_armAngle_1 1 rfl rfl)
theorem dX3_armAngle_26 : decode cX3_armAngle 26 = .ok (.iadd, 1) := dk_96 (dk_at dksX3_armAngle_1 2 rfl rfl)
theorem dX3_armAngle_27 : decode cX3_armAngle 27 = .ok (.invokestatic 177, 3) := dk_184 0 177 (dk_at dksX3_armAngle_1 3 rfl rfl)
theorem dX3_armAngle_30 : decode cX3_armAngle 30 = .ok (.ireturn, 1) := dk_172 (dk_at dksX3_armAngle_1 6 rfl rfl)
abbrev cX3_angle : ByteArray := prog_10_method_69_code
def yX3_angle : MethodName := ⟨RX3, "angle", "(II)I"⟩
def dkwX3_angle_2 : List UInt8 := [136, 172]
abbrev dktX3_angle_2 : List UInt8 := dkwX3_angle_2 ++ []
def dkwX3_angle_1 : List UInt8 := [42, 180, 0, 32, 27, 47, 97, 167, 0, 4, 33, 66, 33, 20, 0, 172, 105, 42, 180, 0, 32, 27, 47, 109]
abbrev dktX3_angle_1 : List UInt8 := dkwX3_angle_1 ++ dktX3_angle_2
def dkwX3_angle_0 : List UInt8 := [42, 180, 0, 28, 27, 47, 28, 133, 105, 42, 180, 0, 32, 27, 47, 113, 66, 33, 9, 148, 156, 0, 14, 33]
abbrev dktX3_angle_0 : List UInt8 := dkwX3_angle_0 ++ dktX3_angle_1
theorem dksX3_angle_0 : cX3_angle.data.toList.drop 0 = dktX3_angle_0 := by decide +kernel
theorem dksX3_angle_1 : cX3_angle.data.toList.drop 24 = dktX3_angle_1 := dk_seg dksX3_angle_0 24 rfl rfl
theorem dksX3_angle_2 : cX3_angle.data.toList.drop 48 = dktX3_angle_2 := dk_seg dksX3_angle_1 24 rfl rfl
theorem dX3_angle_0 : decode cX3_angle 0 = .ok (.aload_n 0, 1) := dk_42 (dk_at dksX3_angle_0 0 rfl rfl)
theorem dX3_angle_1 : decode cX3_angle 1 = .ok (.getfield 28, 3) := dk_180 0 28 (dk_at dksX3_angle_0 1 rfl rfl)
theorem dX3_angle_4 : decode cX3_angle 4 = .ok (.iload_n 1, 1) := dk_27 (dk_at dksX3_angle_0 4 rfl rfl)
theorem dX3_angle_5 : decode cX3_angle 5 = .ok (.laload, 1) := dk_47 (dk_at dksX3_angle_0 5 rfl rfl)
theorem dX3_angle_6 : decode cX3_angle 6 = .ok (.iload_n 2, 1) := dk_28 (dk_at dksX3_angle_0 6 rfl rfl)
theorem dX3_angle_7 : decode cX3_angle 7 = .ok (.i2l, 1) := dk_133 (dk_at dksX3_angle_0 7 rfl rfl)
theorem dX3_angle_8 : decode cX3_angle 8 = .ok (.lmul, 1) := dk_105 (dk_at dksX3_angle_0 8 rfl rfl)
theorem dX3_angle_9 : decode cX3_angle 9 = .ok (.aload_n 0, 1) := dk_42 (dk_at dksX3_angle_0 9 rfl rfl)
theorem dX3_angle_10 : decode cX3_angle 10 = .ok (.getfield 32, 3) := dk_180 0 32 (dk_at dksX3_angle_0 10 rfl rfl)
theorem dX3_angle_13 : decode cX3_angle 13 = .ok (.iload_n 1, 1) := dk_27 (dk_at dksX3_angle_0 13 rfl rfl)
theorem dX3_angle_14 : decode cX3_angle 14 = .ok (.laload, 1) := dk_47 (dk_at dksX3_angle_0 14 rfl rfl)
theorem dX3_angle_15 : decode cX3_angle 15 = .ok (.lrem, 1) := dk_113 (dk_at dksX3_angle_0 15 rfl rfl)
theorem dX3_angle_16 : decode cX3_angle 16 = .ok (.lstore_n 3, 1) := dk_66 (dk_at dksX3_angle_0 16 rfl rfl)
theorem dX3_angle_17 : decode cX3_angle 17 = .ok (.lload_n 3, 1) := dk_33 (dk_at dksX3_angle_0 17 rfl rfl)
theorem dX3_angle_18 : decode cX3_angle 18 = .ok (.lconst 0, 1) := dk_9 (dk_at dksX3_angle_0 18 rfl rfl)
theorem dX3_angle_19 : decode cX3_angle 19 = .ok (.lcmp, 1) := dk_148 (dk_at dksX3_angle_0 19 rfl rfl)
theorem dX3_angle_20 : decode cX3_angle 20 = .ok (.ifCond .ge 14, 3) := dk_156 0 14 (dk_at dksX3_angle_0 20 rfl rfl)
theorem dX3_angle_23 : decode cX3_angle 23 = .ok (.lload_n 3, 1) := dk_33 (dk_at dksX3_angle_0 23 rfl rfl)
theorem dX3_angle_24 : decode cX3_angle 24 = .ok (.aload_n 0, 1) := dk_42 (dk_at dksX3_angle_1 0 rfl rfl)
theorem dX3_angle_25 : decode cX3_angle 25 = .ok (.getfield 32, 3) := dk_180 0 32 (dk_at dksX3_angle_1 1 rfl rfl)
theorem dX3_angle_28 : decode cX3_angle 28 = .ok (.iload_n 1, 1) := dk_27 (dk_at dksX3_angle_1 4 rfl rfl)
theorem dX3_angle_29 : decode cX3_angle 29 = .ok (.laload, 1) := dk_47 (dk_at dksX3_angle_1 5 rfl rfl)
theorem dX3_angle_30 : decode cX3_angle 30 = .ok (.ladd, 1) := dk_97 (dk_at dksX3_angle_1 6 rfl rfl)
theorem dX3_angle_31 : decode cX3_angle 31 = .ok (.goto 4, 3) := dk_167 0 4 (dk_at dksX3_angle_1 7 rfl rfl)
theorem dX3_angle_34 : decode cX3_angle 34 = .ok (.lload_n 3, 1) := dk_33 (dk_at dksX3_angle_1 10 rfl rfl)
theorem dX3_angle_35 : decode cX3_angle 35 = .ok (.lstore_n 3, 1) := dk_66 (dk_at dksX3_angle_1 11 rfl rfl)
theorem dX3_angle_36 : decode cX3_angle 36 = .ok (.lload_n 3, 1) := dk_33 (dk_at dksX3_angle_1 12 rfl rfl)
theorem dX3_angle_37 : decode cX3_angle 37 = .ok (.ldc2_w 172, 3) := dk_20 0 172 (dk_at dksX3_angle_1 13 rfl rfl)
theorem dX3_angle_40 : decode cX3_angle 40 = .ok (.lmul, 1) := dk_105 (dk_at dksX3_angle_1 16 rfl rfl)
theorem dX3_angle_41 : decode cX3_angle 41 = .ok (.aload_n 0, 1) := dk_42 (dk_at dksX3_angle_1 17 rfl rfl)
theorem dX3_angle_42 : decode cX3_angle 42 = .ok (.getfield 32, 3) := dk_180 0 32 (dk_at dksX3_angle_1 18 rfl rfl)
theorem dX3_angle_45 : decode cX3_angle 45 = .ok (.iload_n 1, 1) := dk_27 (dk_at dksX3_angle_1 21 rfl rfl)
theorem dX3_angle_46 : decode cX3_angle 46 = .ok (.laload, 1) := dk_47 (dk_at dksX3_angle_1 22 rfl rfl)
theorem dX3_angle_47 : decode cX3_angle 47 = .ok (.ldiv, 1) := dk_109 (dk_at dksX3_angle_1 23 rfl rfl)
theorem dX3_angle_48 : decode cX3_angle 48 = .ok (.l2i, 1) := dk_136 (dk_at dksX3_angle_2 0 rfl rfl)
theorem dX3_angle_49 : decode cX3_angle 49 = .ok (.ireturn, 1) := dk_172 (dk_at dksX3_angle_2 1 rfl rfl)
abbrev cX3_brought : ByteArray := prog_10_method_70_code
def yX3_brought : MethodName := ⟨RX3, "brought", "(I)I"⟩
def dkwX3_brought_0 : List UInt8 := [26, 17, 84, 96, 112, 17, 84, 96, 96, 17, 84, 96, 112, 172]
abbrev dktX3_brought_0 : List UInt8 := dkwX3_brought_0 ++ []
theorem dksX3_brought_0 : cX3_brought.data.toList.drop 0 = dktX3_brought_0 := by decide +kernel
theorem dX3_brought_0 : decode cX3_brought 0 = .ok (.iload_n 0, 1) := dk_26 (dk_at dksX3_brought_0 0 rfl rfl)
theorem dX3_brought_1 : decode cX3_brought 1 = .ok (.sipush 21600, 3) := dk_17 84 96 (dk_at dksX3_brought_0 1 rfl rfl)
theorem dX3_brought_4 : decode cX3_brought 4 = .ok (.irem, 1) := dk_112 (dk_at dksX3_brought_0 4 rfl rfl)
theorem dX3_brought_5 : decode cX3_brought 5 = .ok (.sipush 21600, 3) := dk_17 84 96 (dk_at dksX3_brought_0 5 rfl rfl)
theorem dX3_brought_8 : decode cX3_brought 8 = .ok (.iadd, 1) := dk_96 (dk_at dksX3_brought_0 8 rfl rfl)
theorem dX3_brought_9 : decode cX3_brought 9 = .ok (.sipush 21600, 3) := dk_17 84 96 (dk_at dksX3_brought_0 9 rfl rfl)
theorem dX3_brought_12 : decode cX3_brought 12 = .ok (.irem, 1) := dk_112 (dk_at dksX3_brought_0 12 rfl rfl)
theorem dX3_brought_13 : decode cX3_brought 13 = .ok (.ireturn, 1) := dk_172 (dk_at dksX3_brought_0 13 rfl rfl)
abbrev cX3_angleByTeeth : ByteArray := prog_10_method_79_code
def yX3_angleByTeeth : MethodName := ⟨RX3, "angleByTeeth", "(I)I"⟩
def dkwX3_angleByTeeth_0 : List UInt8 := [42, 27, 182, 0, 186, 172]
abbrev dktX3_angleByTeeth_0 : List UInt8 := dkwX3_angleByTeeth_0 ++ []
theorem dksX3_angleByTeeth_0 : cX3_angleByTeeth.data.toList.drop 0 = dktX3_angleByTeeth_0 := by decide +kernel
theorem dX3_angleByTeeth_0 : decode cX3_angleByTeeth 0 = .ok (.aload_n 0, 1) := dk_42 (dk_at dksX3_angleByTeeth_0 0 rfl rfl)
theorem dX3_angleByTeeth_1 : decode cX3_angleByTeeth 1 = .ok (.iload_n 1, 1) := dk_27 (dk_at dksX3_angleByTeeth_0 1 rfl rfl)
theorem dX3_angleByTeeth_2 : decode cX3_angleByTeeth 2 = .ok (.invokevirtual 186, 3) := dk_182 0 186 (dk_at dksX3_angleByTeeth_0 2 rfl rfl)
theorem dX3_angleByTeeth_5 : decode cX3_angleByTeeth 5 = .ok (.ireturn, 1) := dk_172 (dk_at dksX3_angleByTeeth_0 5 rfl rfl)
abbrev cX3_moonAngle : ByteArray := prog_10_method_81_code
def yX3_moonAngle : MethodName := ⟨RX3, "moonAngle", "(I)I"⟩
def dkwX3_moonAngle_2 : List UInt8 := [42, 180, 0, 7, 16, 111, 46, 182, 0, 174, 100, 184, 0, 177, 172]
abbrev dktX3_moonAngle_2 : List UInt8 := dkwX3_moonAngle_2 ++ []
def dkwX3_moonAngle_1 : List UInt8 := [16, 111, 46, 182, 0, 174, 42, 42, 180, 0, 7, 16, 84, 42, 180, 0, 7, 16, 103, 27, 96, 46, 96, 46]
abbrev dktX3_moonAngle_1 : List UInt8 := dkwX3_moonAngle_1 ++ dktX3_moonAngle_2
def dkwX3_moonAngle_0 : List UInt8 := [42, 27, 182, 0, 192, 154, 0, 5, 3, 172, 42, 42, 180, 0, 7, 16, 107, 27, 96, 46, 42, 180, 0, 7]
abbrev dktX3_moonAngle_0 : List UInt8 := dkwX3_moonAngle_0 ++ dktX3_moonAngle_1
theorem dksX3_moonAngle_0 : cX3_moonAngle.data.toList.drop 0 = dktX3_moonAngle_0 := by decide +kernel
theorem dksX3_moonAngle_1 : cX3_moonAngle.data.toList.drop 24 = dktX3_moonAngle_1 := dk_seg dksX3_moonAngle_0 24 rfl rfl
theorem dksX3_moonAngle_2 : cX3_moonAngle.data.toList.drop 48 = dktX3_moonAngle_2 := dk_seg dksX3_moonAngle_1 24 rfl rfl
theorem dX3_moonAngle_0 : decode cX3_moonAngle 0 = .ok (.aload_n 0, 1) := dk_42 (dk_at dksX3_moonAngle_0 0 rfl rfl)
theorem dX3_moonAngle_1 : decode cX3_moonAngle 1 = .ok (.iload_n 1, 1) := dk_27 (dk_at dksX3_moonAngle_0 1 rfl rfl)
theorem dX3_moonAngle_2 : decode cX3_moonAngle 2 = .ok (.invokevirtual 192, 3) := dk_182 0 192 (dk_at dksX3_moonAngle_0 2 rfl rfl)
theorem dX3_moonAngle_5 : decode cX3_moonAngle 5 = .ok (.ifCond .ne 5, 3) := dk_154 0 5 (dk_at dksX3_moonAngle_0 5 rfl rfl)
theorem dX3_moonAngle_8 : decode cX3_moonAngle 8 = .ok (.iconst 0, 1) := dk_3 (dk_at dksX3_moonAngle_0 8 rfl rfl)
theorem dX3_moonAngle_9 : decode cX3_moonAngle 9 = .ok (.ireturn, 1) := dk_172 (dk_at dksX3_moonAngle_0 9 rfl rfl)
theorem dX3_moonAngle_10 : decode cX3_moonAngle 10 = .ok (.aload_n 0, 1) := dk_42 (dk_at dksX3_moonAngle_0 10 rfl rfl)
theorem dX3_moonAngle_11 : decode cX3_moonAngle 11 = .ok (.aload_n 0, 1) := dk_42 (dk_at dksX3_moonAngle_0 11 rfl rfl)
theorem dX3_moonAngle_12 : decode cX3_moonAngle 12 = .ok (.getfield 7, 3) := dk_180 0 7 (dk_at dksX3_moonAngle_0 12 rfl rfl)
theorem dX3_moonAngle_15 : decode cX3_moonAngle 15 = .ok (.bipush 107, 2) := dk_16 107 (dk_at dksX3_moonAngle_0 15 rfl rfl)
theorem dX3_moonAngle_17 : decode cX3_moonAngle 17 = .ok (.iload_n 1, 1) := dk_27 (dk_at dksX3_moonAngle_0 17 rfl rfl)
theorem dX3_moonAngle_18 : decode cX3_moonAngle 18 = .ok (.iadd, 1) := dk_96 (dk_at dksX3_moonAngle_0 18 rfl rfl)
theorem dX3_moonAngle_19 : decode cX3_moonAngle 19 = .ok (.iaload, 1) := dk_46 (dk_at dksX3_moonAngle_0 19 rfl rfl)
theorem dX3_moonAngle_20 : decode cX3_moonAngle 20 = .ok (.aload_n 0, 1) := dk_42 (dk_at dksX3_moonAngle_0 20 rfl rfl)
theorem dX3_moonAngle_21 : decode cX3_moonAngle 21 = .ok (.getfield 7, 3) := dk_180 0 7 (dk_at dksX3_moonAngle_0 21 rfl rfl)
theorem dX3_moonAngle_24 : decode cX3_moonAngle 24 = .ok (.bipush 111, 2) := dk_16 111 (dk_at dksX3_moonAngle_1 0 rfl rfl)
theorem dX3_moonAngle_26 : decode cX3_moonAngle 26 = .ok (.iaload, 1) := dk_46 (dk_at dksX3_moonAngle_1 2 rfl rfl)
theorem dX3_moonAngle_27 : decode cX3_moonAngle 27 = .ok (.invokevirtual 174, 3) := dk_182 0 174 (dk_at dksX3_moonAngle_1 3 rfl rfl)
theorem dX3_moonAngle_30 : decode cX3_moonAngle 30 = .ok (.aload_n 0, 1) := dk_42 (dk_at dksX3_moonAngle_1 6 rfl rfl)
theorem dX3_moonAngle_31 : decode cX3_moonAngle 31 = .ok (.aload_n 0, 1) := dk_42 (dk_at dksX3_moonAngle_1 7 rfl rfl)
theorem dX3_moonAngle_32 : decode cX3_moonAngle 32 = .ok (.getfield 7, 3) := dk_180 0 7 (dk_at dksX3_moonAngle_1 8 rfl rfl)
theorem dX3_moonAngle_35 : decode cX3_moonAngle 35 = .ok (.bipush 84, 2) := dk_16 84 (dk_at dksX3_moonAngle_1 11 rfl rfl)
theorem dX3_moonAngle_37 : decode cX3_moonAngle 37 = .ok (.aload_n 0, 1) := dk_42 (dk_at dksX3_moonAngle_1 13 rfl rfl)
theorem dX3_moonAngle_38 : decode cX3_moonAngle 38 = .ok (.getfield 7, 3) := dk_180 0 7 (dk_at dksX3_moonAngle_1 14 rfl rfl)
theorem dX3_moonAngle_41 : decode cX3_moonAngle 41 = .ok (.bipush 103, 2) := dk_16 103 (dk_at dksX3_moonAngle_1 17 rfl rfl)
theorem dX3_moonAngle_43 : decode cX3_moonAngle 43 = .ok (.iload_n 1, 1) := dk_27 (dk_at dksX3_moonAngle_1 19 rfl rfl)
theorem dX3_moonAngle_44 : decode cX3_moonAngle 44 = .ok (.iadd, 1) := dk_96 (dk_at dksX3_moonAngle_1 20 rfl rfl)
theorem dX3_moonAngle_45 : decode cX3_moonAngle 45 = .ok (.iaload, 1) := dk_46 (dk_at dksX3_moonAngle_1 21 rfl rfl)
theorem dX3_moonAngle_46 : decode cX3_moonAngle 46 = .ok (.iadd, 1) := dk_96 (dk_at dksX3_moonAngle_1 22 rfl rfl)
theorem dX3_moonAngle_47 : decode cX3_moonAngle 47 = .ok (.iaload, 1) := dk_46 (dk_at dksX3_moonAngle_1 23 rfl rfl)
theorem dX3_moonAngle_48 : decode cX3_moonAngle 48 = .ok (.aload_n 0, 1) := dk_42 (dk_at dksX3_moonAngle_2 0 rfl rfl)
theorem dX3_moonAngle_49 : decode cX3_moonAngle 49 = .ok (.getfield 7, 3) := dk_180 0 7 (dk_at dksX3_moonAngle_2 1 rfl rfl)
theorem dX3_moonAngle_52 : decode cX3_moonAngle 52 = .ok (.bipush 111, 2) := dk_16 111 (dk_at dksX3_moonAngle_2 4 rfl rfl)
theorem dX3_moonAngle_54 : decode cX3_moonAngle 54 = .ok (.iaload, 1) := dk_46 (dk_at dksX3_moonAngle_2 6 rfl rfl)
theorem dX3_moonAngle_55 : decode cX3_moonAngle 55 = .ok (.invokevirtual 174, 3) := dk_182 0 174 (dk_at dksX3_moonAngle_2 7 rfl rfl)
theorem dX3_moonAngle_58 : decode cX3_moonAngle 58 = .ok (.isub, 1) := dk_100 (dk_at dksX3_moonAngle_2 10 rfl rfl)
theorem dX3_moonAngle_59 : decode cX3_moonAngle 59 = .ok (.invokestatic 177, 3) := dk_184 0 177 (dk_at dksX3_moonAngle_2 11 rfl rfl)
theorem dX3_moonAngle_62 : decode cX3_moonAngle 62 = .ok (.ireturn, 1) := dk_172 (dk_at dksX3_moonAngle_2 14 rfl rfl)
abbrev cX3_asksMoon : ByteArray := prog_10_method_80_code
def yX3_asksMoon : MethodName := ⟨RX3, "asksMoon", "(I)Z"⟩
def dkwX3_asksMoon_2 : List UInt8 := [46, 4, 182, 0, 158, 153, 0, 7, 4, 167, 0, 4, 3, 172]
abbrev dktX3_asksMoon_2 : List UInt8 := dkwX3_asksMoon_2 ++ []
def dkwX3_asksMoon_1 : List UInt8 := [28, 182, 0, 158, 153, 0, 32, 42, 42, 180, 0, 7, 16, 84, 42, 180, 0, 7, 16, 103, 27, 96, 46, 96]
abbrev dktX3_asksMoon_1 : List UInt8 := dkwX3_asksMoon_1 ++ dktX3_asksMoon_2
def dkwX3_asksMoon_0 : List UInt8 := [42, 27, 182, 0, 189, 61, 42, 28, 153, 0, 15, 42, 180, 0, 7, 16, 107, 27, 96, 46, 167, 0, 4, 3]
abbrev dktX3_asksMoon_0 : List UInt8 := dkwX3_asksMoon_0 ++ dktX3_asksMoon_1
theorem dksX3_asksMoon_0 : cX3_asksMoon.data.toList.drop 0 = dktX3_asksMoon_0 := by decide +kernel
theorem dksX3_asksMoon_1 : cX3_asksMoon.data.toList.drop 24 = dktX3_asksMoon_1 := dk_seg dksX3_asksMoon_0 24 rfl rfl
theorem dksX3_asksMoon_2 : cX3_asksMoon.data.toList.drop 48 = dktX3_asksMoon_2 := dk_seg dksX3_asksMoon_1 24 rfl rfl
theorem dX3_asksMoon_0 : decode cX3_asksMoon 0 = .ok (.aload_n 0, 1) := dk_42 (dk_at dksX3_asksMoon_0 0 rfl rfl)
theorem dX3_asksMoon_1 : decode cX3_asksMoon 1 = .ok (.iload_n 1, 1) := dk_27 (dk_at dksX3_asksMoon_0 1 rfl rfl)
theorem dX3_asksMoon_2 : decode cX3_asksMoon 2 = .ok (.invokevirtual 189, 3) := dk_182 0 189 (dk_at dksX3_asksMoon_0 2 rfl rfl)
theorem dX3_asksMoon_5 : decode cX3_asksMoon 5 = .ok (.istore_n 2, 1) := dk_61 (dk_at dksX3_asksMoon_0 5 rfl rfl)
theorem dX3_asksMoon_6 : decode cX3_asksMoon 6 = .ok (.aload_n 0, 1) := dk_42 (dk_at dksX3_asksMoon_0 6 rfl rfl)
theorem dX3_asksMoon_7 : decode cX3_asksMoon 7 = .ok (.iload_n 2, 1) := dk_28 (dk_at dksX3_asksMoon_0 7 rfl rfl)
theorem dX3_asksMoon_8 : decode cX3_asksMoon 8 = .ok (.ifCond .eq 15, 3) := dk_153 0 15 (dk_at dksX3_asksMoon_0 8 rfl rfl)
theorem dX3_asksMoon_11 : decode cX3_asksMoon 11 = .ok (.aload_n 0, 1) := dk_42 (dk_at dksX3_asksMoon_0 11 rfl rfl)
theorem dX3_asksMoon_12 : decode cX3_asksMoon 12 = .ok (.getfield 7, 3) := dk_180 0 7 (dk_at dksX3_asksMoon_0 12 rfl rfl)
theorem dX3_asksMoon_15 : decode cX3_asksMoon 15 = .ok (.bipush 107, 2) := dk_16 107 (dk_at dksX3_asksMoon_0 15 rfl rfl)
theorem dX3_asksMoon_17 : decode cX3_asksMoon 17 = .ok (.iload_n 1, 1) := dk_27 (dk_at dksX3_asksMoon_0 17 rfl rfl)
theorem dX3_asksMoon_18 : decode cX3_asksMoon 18 = .ok (.iadd, 1) := dk_96 (dk_at dksX3_asksMoon_0 18 rfl rfl)
theorem dX3_asksMoon_19 : decode cX3_asksMoon 19 = .ok (.iaload, 1) := dk_46 (dk_at dksX3_asksMoon_0 19 rfl rfl)
theorem dX3_asksMoon_20 : decode cX3_asksMoon 20 = .ok (.goto 4, 3) := dk_167 0 4 (dk_at dksX3_asksMoon_0 20 rfl rfl)
theorem dX3_asksMoon_23 : decode cX3_asksMoon 23 = .ok (.iconst 0, 1) := dk_3 (dk_at dksX3_asksMoon_0 23 rfl rfl)
theorem dX3_asksMoon_24 : decode cX3_asksMoon 24 = .ok (.iload_n 2, 1) := dk_28 (dk_at dksX3_asksMoon_1 0 rfl rfl)
theorem dX3_asksMoon_25 : decode cX3_asksMoon 25 = .ok (.invokevirtual 158, 3) := dk_182 0 158 (dk_at dksX3_asksMoon_1 1 rfl rfl)
theorem dX3_asksMoon_28 : decode cX3_asksMoon 28 = .ok (.ifCond .eq 32, 3) := dk_153 0 32 (dk_at dksX3_asksMoon_1 4 rfl rfl)
theorem dX3_asksMoon_31 : decode cX3_asksMoon 31 = .ok (.aload_n 0, 1) := dk_42 (dk_at dksX3_asksMoon_1 7 rfl rfl)
theorem dX3_asksMoon_32 : decode cX3_asksMoon 32 = .ok (.aload_n 0, 1) := dk_42 (dk_at dksX3_asksMoon_1 8 rfl rfl)
theorem dX3_asksMoon_33 : decode cX3_asksMoon 33 = .ok (.getfield 7, 3) := dk_180 0 7 (dk_at dksX3_asksMoon_1 9 rfl rfl)
theorem dX3_asksMoon_36 : decode cX3_asksMoon 36 = .ok (.bipush 84, 2) := dk_16 84 (dk_at dksX3_asksMoon_1 12 rfl rfl)
theorem dX3_asksMoon_38 : decode cX3_asksMoon 38 = .ok (.aload_n 0, 1) := dk_42 (dk_at dksX3_asksMoon_1 14 rfl rfl)
theorem dX3_asksMoon_39 : decode cX3_asksMoon 39 = .ok (.getfield 7, 3) := dk_180 0 7 (dk_at dksX3_asksMoon_1 15 rfl rfl)
theorem dX3_asksMoon_42 : decode cX3_asksMoon 42 = .ok (.bipush 103, 2) := dk_16 103 (dk_at dksX3_asksMoon_1 18 rfl rfl)
theorem dX3_asksMoon_44 : decode cX3_asksMoon 44 = .ok (.iload_n 1, 1) := dk_27 (dk_at dksX3_asksMoon_1 20 rfl rfl)
theorem dX3_asksMoon_45 : decode cX3_asksMoon 45 = .ok (.iadd, 1) := dk_96 (dk_at dksX3_asksMoon_1 21 rfl rfl)
theorem dX3_asksMoon_46 : decode cX3_asksMoon 46 = .ok (.iaload, 1) := dk_46 (dk_at dksX3_asksMoon_1 22 rfl rfl)
theorem dX3_asksMoon_47 : decode cX3_asksMoon 47 = .ok (.iadd, 1) := dk_96 (dk_at dksX3_asksMoon_1 23 rfl rfl)
theorem dX3_asksMoon_48 : decode cX3_asksMoon 48 = .ok (.iaload, 1) := dk_46 (dk_at dksX3_asksMoon_2 0 rfl rfl)
theorem dX3_asksMoon_49 : decode cX3_asksMoon 49 = .ok (.iconst 1, 1) := dk_4 (dk_at dksX3_asksMoon_2 1 rfl rfl)
theorem dX3_asksMoon_50 : decode cX3_asksMoon 50 = .ok (.invokevirtual 158, 3) := dk_182 0 158 (dk_at dksX3_asksMoon_2 2 rfl rfl)
theorem dX3_asksMoon_53 : decode cX3_asksMoon 53 = .ok (.ifCond .eq 7, 3) := dk_153 0 7 (dk_at dksX3_asksMoon_2 5 rfl rfl)
theorem dX3_asksMoon_56 : decode cX3_asksMoon 56 = .ok (.iconst 1, 1) := dk_4 (dk_at dksX3_asksMoon_2 8 rfl rfl)
theorem dX3_asksMoon_57 : decode cX3_asksMoon 57 = .ok (.goto 4, 3) := dk_167 0 4 (dk_at dksX3_asksMoon_2 9 rfl rfl)
theorem dX3_asksMoon_60 : decode cX3_asksMoon 60 = .ok (.iconst 0, 1) := dk_3 (dk_at dksX3_asksMoon_2 12 rfl rfl)
theorem dX3_asksMoon_61 : decode cX3_asksMoon 61 = .ok (.ireturn, 1) := dk_172 (dk_at dksX3_asksMoon_2 13 rfl rfl)
abbrev cX3_isMoon : ByteArray := prog_10_method_14_code
def yX3_isMoon : MethodName := ⟨RX3, "isMoon", "(I)Z"⟩
def dkwX3_isMoon_0 : List UInt8 := [27, 3, 42, 180, 0, 7, 16, 102, 46, 4, 100, 184, 0, 58, 172]
abbrev dktX3_isMoon_0 : List UInt8 := dkwX3_isMoon_0 ++ []
theorem dksX3_isMoon_0 : cX3_isMoon.data.toList.drop 0 = dktX3_isMoon_0 := by decide +kernel
theorem dX3_isMoon_0 : decode cX3_isMoon 0 = .ok (.iload_n 1, 1) := dk_27 (dk_at dksX3_isMoon_0 0 rfl rfl)
theorem dX3_isMoon_1 : decode cX3_isMoon 1 = .ok (.iconst 0, 1) := dk_3 (dk_at dksX3_isMoon_0 1 rfl rfl)
theorem dX3_isMoon_2 : decode cX3_isMoon 2 = .ok (.aload_n 0, 1) := dk_42 (dk_at dksX3_isMoon_0 2 rfl rfl)
theorem dX3_isMoon_3 : decode cX3_isMoon 3 = .ok (.getfield 7, 3) := dk_180 0 7 (dk_at dksX3_isMoon_0 3 rfl rfl)
theorem dX3_isMoon_6 : decode cX3_isMoon 6 = .ok (.bipush 102, 2) := dk_16 102 (dk_at dksX3_isMoon_0 6 rfl rfl)
theorem dX3_isMoon_8 : decode cX3_isMoon 8 = .ok (.iaload, 1) := dk_46 (dk_at dksX3_isMoon_0 8 rfl rfl)
theorem dX3_isMoon_9 : decode cX3_isMoon 9 = .ok (.iconst 1, 1) := dk_4 (dk_at dksX3_isMoon_0 9 rfl rfl)
theorem dX3_isMoon_10 : decode cX3_isMoon 10 = .ok (.isub, 1) := dk_100 (dk_at dksX3_isMoon_0 10 rfl rfl)
theorem dX3_isMoon_11 : decode cX3_isMoon 11 = .ok (.invokestatic 58, 3) := dk_184 0 58 (dk_at dksX3_isMoon_0 11 rfl rfl)
theorem dX3_isMoon_14 : decode cX3_isMoon 14 = .ok (.ireturn, 1) := dk_172 (dk_at dksX3_isMoon_0 14 rfl rfl)
abbrev cX3_isSlow : ByteArray := prog_10_method_82_code
def yX3_isSlow : MethodName := ⟨RX3, "isSlow", "(I)Z"⟩
def dkwX3_isSlow_2 : List UInt8 := [47, 105, 42, 29, 182, 0, 162, 42, 180, 0, 32, 28, 47, 105, 148, 156, 0, 7, 4, 167, 0, 4, 3, 172]
abbrev dktX3_isSlow_2 : List UInt8 := dkwX3_isSlow_2 ++ []
def dkwX3_isSlow_1 : List UInt8 := [16, 84, 42, 180, 0, 7, 16, 103, 27, 96, 46, 96, 46, 62, 42, 28, 182, 0, 162, 42, 180, 0, 32, 29]
abbrev dktX3_isSlow_1 : List UInt8 := dkwX3_isSlow_1 ++ dktX3_isSlow_2
def dkwX3_isSlow_0 : List UInt8 := [42, 27, 182, 0, 192, 154, 0, 5, 3, 172, 42, 180, 0, 7, 16, 107, 27, 96, 46, 61, 42, 180, 0, 7]
abbrev dktX3_isSlow_0 : List UInt8 := dkwX3_isSlow_0 ++ dktX3_isSlow_1
theorem dksX3_isSlow_0 : cX3_isSlow.data.toList.drop 0 = dktX3_isSlow_0 := by decide +kernel
theorem dksX3_isSlow_1 : cX3_isSlow.data.toList.drop 24 = dktX3_isSlow_1 := dk_seg dksX3_isSlow_0 24 rfl rfl
theorem dksX3_isSlow_2 : cX3_isSlow.data.toList.drop 48 = dktX3_isSlow_2 := dk_seg dksX3_isSlow_1 24 rfl rfl
theorem dX3_isSlow_0 : decode cX3_isSlow 0 = .ok (.aload_n 0, 1) := dk_42 (dk_at dksX3_isSlow_0 0 rfl rfl)
theorem dX3_isSlow_1 : decode cX3_isSlow 1 = .ok (.iload_n 1, 1) := dk_27 (dk_at dksX3_isSlow_0 1 rfl rfl)
theorem dX3_isSlow_2 : decode cX3_isSlow 2 = .ok (.invokevirtual 192, 3) := dk_182 0 192 (dk_at dksX3_isSlow_0 2 rfl rfl)
theorem dX3_isSlow_5 : decode cX3_isSlow 5 = .ok (.ifCond .ne 5, 3) := dk_154 0 5 (dk_at dksX3_isSlow_0 5 rfl rfl)
theorem dX3_isSlow_8 : decode cX3_isSlow 8 = .ok (.iconst 0, 1) := dk_3 (dk_at dksX3_isSlow_0 8 rfl rfl)
theorem dX3_isSlow_9 : decode cX3_isSlow 9 = .ok (.ireturn, 1) := dk_172 (dk_at dksX3_isSlow_0 9 rfl rfl)
theorem dX3_isSlow_10 : decode cX3_isSlow 10 = .ok (.aload_n 0, 1) := dk_42 (dk_at dksX3_isSlow_0 10 rfl rfl)
theorem dX3_isSlow_11 : decode cX3_isSlow 11 = .ok (.getfield 7, 3) := dk_180 0 7 (dk_at dksX3_isSlow_0 11 rfl rfl)
theorem dX3_isSlow_14 : decode cX3_isSlow 14 = .ok (.bipush 107, 2) := dk_16 107 (dk_at dksX3_isSlow_0 14 rfl rfl)
theorem dX3_isSlow_16 : decode cX3_isSlow 16 = .ok (.iload_n 1, 1) := dk_27 (dk_at dksX3_isSlow_0 16 rfl rfl)
theorem dX3_isSlow_17 : decode cX3_isSlow 17 = .ok (.iadd, 1) := dk_96 (dk_at dksX3_isSlow_0 17 rfl rfl)
theorem dX3_isSlow_18 : decode cX3_isSlow 18 = .ok (.iaload, 1) := dk_46 (dk_at dksX3_isSlow_0 18 rfl rfl)
theorem dX3_isSlow_19 : decode cX3_isSlow 19 = .ok (.istore_n 2, 1) := dk_61 (dk_at dksX3_isSlow_0 19 rfl rfl)
theorem dX3_isSlow_20 : decode cX3_isSlow 20 = .ok (.aload_n 0, 1) := dk_42 (dk_at dksX3_isSlow_0 20 rfl rfl)
theorem dX3_isSlow_21 : decode cX3_isSlow 21 = .ok (.getfield 7, 3) := dk_180 0 7 (dk_at dksX3_isSlow_0 21 rfl rfl)
theorem dX3_isSlow_24 : decode cX3_isSlow 24 = .ok (.bipush 84, 2) := dk_16 84 (dk_at dksX3_isSlow_1 0 rfl rfl)
theorem dX3_isSlow_26 : decode cX3_isSlow 26 = .ok (.aload_n 0, 1) := dk_42 (dk_at dksX3_isSlow_1 2 rfl rfl)
theorem dX3_isSlow_27 : decode cX3_isSlow 27 = .ok (.getfield 7, 3) := dk_180 0 7 (dk_at dksX3_isSlow_1 3 rfl rfl)
theorem dX3_isSlow_30 : decode cX3_isSlow 30 = .ok (.bipush 103, 2) := dk_16 103 (dk_at dksX3_isSlow_1 6 rfl rfl)
theorem dX3_isSlow_32 : decode cX3_isSlow 32 = .ok (.iload_n 1, 1) := dk_27 (dk_at dksX3_isSlow_1 8 rfl rfl)
theorem dX3_isSlow_33 : decode cX3_isSlow 33 = .ok (.iadd, 1) := dk_96 (dk_at dksX3_isSlow_1 9 rfl rfl)
theorem dX3_isSlow_34 : decode cX3_isSlow 34 = .ok (.iaload, 1) := dk_46 (dk_at dksX3_isSlow_1 10 rfl rfl)
theorem dX3_isSlow_35 : decode cX3_isSlow 35 = .ok (.iadd, 1) := dk_96 (dk_at dksX3_isSlow_1 11 rfl rfl)
theorem dX3_isSlow_36 : decode cX3_isSlow 36 = .ok (.iaload, 1) := dk_46 (dk_at dksX3_isSlow_1 12 rfl rfl)
theorem dX3_isSlow_37 : decode cX3_isSlow 37 = .ok (.istore_n 3, 1) := dk_62 (dk_at dksX3_isSlow_1 13 rfl rfl)
theorem dX3_isSlow_38 : decode cX3_isSlow 38 = .ok (.aload_n 0, 1) := dk_42 (dk_at dksX3_isSlow_1 14 rfl rfl)
theorem dX3_isSlow_39 : decode cX3_isSlow 39 = .ok (.iload_n 2, 1) := dk_28 (dk_at dksX3_isSlow_1 15 rfl rfl)
theorem dX3_isSlow_40 : decode cX3_isSlow 40 = .ok (.invokevirtual 162, 3) := dk_182 0 162 (dk_at dksX3_isSlow_1 16 rfl rfl)
theorem dX3_isSlow_43 : decode cX3_isSlow 43 = .ok (.aload_n 0, 1) := dk_42 (dk_at dksX3_isSlow_1 19 rfl rfl)
theorem dX3_isSlow_44 : decode cX3_isSlow 44 = .ok (.getfield 32, 3) := dk_180 0 32 (dk_at dksX3_isSlow_1 20 rfl rfl)
theorem dX3_isSlow_47 : decode cX3_isSlow 47 = .ok (.iload_n 3, 1) := dk_29 (dk_at dksX3_isSlow_1 23 rfl rfl)
theorem dX3_isSlow_48 : decode cX3_isSlow 48 = .ok (.laload, 1) := dk_47 (dk_at dksX3_isSlow_2 0 rfl rfl)
theorem dX3_isSlow_49 : decode cX3_isSlow 49 = .ok (.lmul, 1) := dk_105 (dk_at dksX3_isSlow_2 1 rfl rfl)
theorem dX3_isSlow_50 : decode cX3_isSlow 50 = .ok (.aload_n 0, 1) := dk_42 (dk_at dksX3_isSlow_2 2 rfl rfl)
theorem dX3_isSlow_51 : decode cX3_isSlow 51 = .ok (.iload_n 3, 1) := dk_29 (dk_at dksX3_isSlow_2 3 rfl rfl)
theorem dX3_isSlow_52 : decode cX3_isSlow 52 = .ok (.invokevirtual 162, 3) := dk_182 0 162 (dk_at dksX3_isSlow_2 4 rfl rfl)
theorem dX3_isSlow_55 : decode cX3_isSlow 55 = .ok (.aload_n 0, 1) := dk_42 (dk_at dksX3_isSlow_2 7 rfl rfl)
theorem dX3_isSlow_56 : decode cX3_isSlow 56 = .ok (.getfield 32, 3) := dk_180 0 32 (dk_at dksX3_isSlow_2 8 rfl rfl)
theorem dX3_isSlow_59 : decode cX3_isSlow 59 = .ok (.iload_n 2, 1) := dk_28 (dk_at dksX3_isSlow_2 11 rfl rfl)
theorem dX3_isSlow_60 : decode cX3_isSlow 60 = .ok (.laload, 1) := dk_47 (dk_at dksX3_isSlow_2 12 rfl rfl)
theorem dX3_isSlow_61 : decode cX3_isSlow 61 = .ok (.lmul, 1) := dk_105 (dk_at dksX3_isSlow_2 13 rfl rfl)
theorem dX3_isSlow_62 : decode cX3_isSlow 62 = .ok (.lcmp, 1) := dk_148 (dk_at dksX3_isSlow_2 14 rfl rfl)
theorem dX3_isSlow_63 : decode cX3_isSlow 63 = .ok (.ifCond .ge 7, 3) := dk_156 0 7 (dk_at dksX3_isSlow_2 15 rfl rfl)
theorem dX3_isSlow_66 : decode cX3_isSlow 66 = .ok (.iconst 1, 1) := dk_4 (dk_at dksX3_isSlow_2 18 rfl rfl)
theorem dX3_isSlow_67 : decode cX3_isSlow 67 = .ok (.goto 4, 3) := dk_167 0 4 (dk_at dksX3_isSlow_2 19 rfl rfl)
theorem dX3_isSlow_70 : decode cX3_isSlow 70 = .ok (.iconst 0, 1) := dk_3 (dk_at dksX3_isSlow_2 22 rfl rfl)
theorem dX3_isSlow_71 : decode cX3_isSlow 71 = .ok (.ireturn, 1) := dk_172 (dk_at dksX3_isSlow_2 23 rfl rfl)
abbrev cX3_meetIn : ByteArray := prog_10_method_87_code
def yX3_meetIn : MethodName := ⟨RX3, "meetIn", "(III)I"⟩
def dkwX3_meetIn_2 : List UInt8 := [21, 4, 172, 132, 4, 1, 167, 255, 222, 42, 5, 182, 0, 51, 172]
abbrev dktX3_meetIn_2 : List UInt8 := dkwX3_meetIn_2 ++ []
def dkwX3_meetIn_1 : List UInt8 := [163, 0, 32, 42, 27, 28, 42, 180, 0, 7, 16, 111, 46, 21, 4, 96, 29, 182, 0, 208, 153, 0, 6]
abbrev dktX3_meetIn_1 : List UInt8 := dkwX3_meetIn_1 ++ dktX3_meetIn_2
def dkwX3_meetIn_0 : List UInt8 := [42, 27, 28, 29, 184, 0, 201, 182, 0, 204, 154, 0, 5, 3, 172, 4, 54, 4, 21, 4, 17, 3, 232]
abbrev dktX3_meetIn_0 : List UInt8 := dkwX3_meetIn_0 ++ dktX3_meetIn_1
theorem dksX3_meetIn_0 : cX3_meetIn.data.toList.drop 0 = dktX3_meetIn_0 := by decide +kernel
theorem dksX3_meetIn_1 : cX3_meetIn.data.toList.drop 23 = dktX3_meetIn_1 := dk_seg dksX3_meetIn_0 23 rfl rfl
theorem dksX3_meetIn_2 : cX3_meetIn.data.toList.drop 46 = dktX3_meetIn_2 := dk_seg dksX3_meetIn_1 23 rfl rfl
theorem dX3_meetIn_0 : decode cX3_meetIn 0 = .ok (.aload_n 0, 1) := dk_42 (dk_at dksX3_meetIn_0 0 rfl rfl)
theorem dX3_meetIn_1 : decode cX3_meetIn 1 = .ok (.iload_n 1, 1) := dk_27 (dk_at dksX3_meetIn_0 1 rfl rfl)
theorem dX3_meetIn_2 : decode cX3_meetIn 2 = .ok (.iload_n 2, 1) := dk_28 (dk_at dksX3_meetIn_0 2 rfl rfl)
theorem dX3_meetIn_3 : decode cX3_meetIn 3 = .ok (.iload_n 3, 1) := dk_29 (dk_at dksX3_meetIn_0 3 rfl rfl)
theorem dX3_meetIn_4 : decode cX3_meetIn 4 = .ok (.invokestatic 201, 3) := dk_184 0 201 (dk_at dksX3_meetIn_0 4 rfl rfl)
theorem dX3_meetIn_7 : decode cX3_meetIn 7 = .ok (.invokevirtual 204, 3) := dk_182 0 204 (dk_at dksX3_meetIn_0 7 rfl rfl)
theorem dX3_meetIn_10 : decode cX3_meetIn 10 = .ok (.ifCond .ne 5, 3) := dk_154 0 5 (dk_at dksX3_meetIn_0 10 rfl rfl)
theorem dX3_meetIn_13 : decode cX3_meetIn 13 = .ok (.iconst 0, 1) := dk_3 (dk_at dksX3_meetIn_0 13 rfl rfl)
theorem dX3_meetIn_14 : decode cX3_meetIn 14 = .ok (.ireturn, 1) := dk_172 (dk_at dksX3_meetIn_0 14 rfl rfl)
theorem dX3_meetIn_15 : decode cX3_meetIn 15 = .ok (.iconst 1, 1) := dk_4 (dk_at dksX3_meetIn_0 15 rfl rfl)
theorem dX3_meetIn_16 : decode cX3_meetIn 16 = .ok (.istore 4, 2) := dk_54 4 (dk_at dksX3_meetIn_0 16 rfl rfl)
theorem dX3_meetIn_18 : decode cX3_meetIn 18 = .ok (.iload 4, 2) := dk_21 4 (dk_at dksX3_meetIn_0 18 rfl rfl)
theorem dX3_meetIn_20 : decode cX3_meetIn 20 = .ok (.sipush 1000, 3) := dk_17 3 232 (dk_at dksX3_meetIn_0 20 rfl rfl)
theorem dX3_meetIn_23 : decode cX3_meetIn 23 = .ok (.if_icmp .gt 32, 3) := dk_163 0 32 (dk_at dksX3_meetIn_1 0 rfl rfl)
theorem dX3_meetIn_26 : decode cX3_meetIn 26 = .ok (.aload_n 0, 1) := dk_42 (dk_at dksX3_meetIn_1 3 rfl rfl)
theorem dX3_meetIn_27 : decode cX3_meetIn 27 = .ok (.iload_n 1, 1) := dk_27 (dk_at dksX3_meetIn_1 4 rfl rfl)
theorem dX3_meetIn_28 : decode cX3_meetIn 28 = .ok (.iload_n 2, 1) := dk_28 (dk_at dksX3_meetIn_1 5 rfl rfl)
theorem dX3_meetIn_29 : decode cX3_meetIn 29 = .ok (.aload_n 0, 1) := dk_42 (dk_at dksX3_meetIn_1 6 rfl rfl)
theorem dX3_meetIn_30 : decode cX3_meetIn 30 = .ok (.getfield 7, 3) := dk_180 0 7 (dk_at dksX3_meetIn_1 7 rfl rfl)
theorem dX3_meetIn_33 : decode cX3_meetIn 33 = .ok (.bipush 111, 2) := dk_16 111 (dk_at dksX3_meetIn_1 10 rfl rfl)
theorem dX3_meetIn_35 : decode cX3_meetIn 35 = .ok (.iaload, 1) := dk_46 (dk_at dksX3_meetIn_1 12 rfl rfl)
theorem dX3_meetIn_36 : decode cX3_meetIn 36 = .ok (.iload 4, 2) := dk_21 4 (dk_at dksX3_meetIn_1 13 rfl rfl)
theorem dX3_meetIn_38 : decode cX3_meetIn 38 = .ok (.iadd, 1) := dk_96 (dk_at dksX3_meetIn_1 15 rfl rfl)
theorem dX3_meetIn_39 : decode cX3_meetIn 39 = .ok (.iload_n 3, 1) := dk_29 (dk_at dksX3_meetIn_1 16 rfl rfl)
theorem dX3_meetIn_40 : decode cX3_meetIn 40 = .ok (.invokevirtual 208, 3) := dk_182 0 208 (dk_at dksX3_meetIn_1 17 rfl rfl)
theorem dX3_meetIn_43 : decode cX3_meetIn 43 = .ok (.ifCond .eq 6, 3) := dk_153 0 6 (dk_at dksX3_meetIn_1 20 rfl rfl)
theorem dX3_meetIn_46 : decode cX3_meetIn 46 = .ok (.iload 4, 2) := dk_21 4 (dk_at dksX3_meetIn_2 0 rfl rfl)
theorem dX3_meetIn_48 : decode cX3_meetIn 48 = .ok (.ireturn, 1) := dk_172 (dk_at dksX3_meetIn_2 2 rfl rfl)
theorem dX3_meetIn_49 : decode cX3_meetIn 49 = .ok (.iinc 4 1, 3) := dk_132 4 1 (dk_at dksX3_meetIn_2 3 rfl rfl)
theorem dX3_meetIn_52 : decode cX3_meetIn 52 = .ok (.goto (-34), 3) := dk_167 255 222 (dk_at dksX3_meetIn_2 6 rfl rfl)
theorem dX3_meetIn_55 : decode cX3_meetIn 55 = .ok (.aload_n 0, 1) := dk_42 (dk_at dksX3_meetIn_2 9 rfl rfl)
theorem dX3_meetIn_56 : decode cX3_meetIn 56 = .ok (.iconst 2, 1) := dk_5 (dk_at dksX3_meetIn_2 10 rfl rfl)
theorem dX3_meetIn_57 : decode cX3_meetIn 57 = .ok (.invokevirtual 51, 3) := dk_182 0 51 (dk_at dksX3_meetIn_2 11 rfl rfl)
theorem dX3_meetIn_60 : decode cX3_meetIn 60 = .ok (.ireturn, 1) := dk_172 (dk_at dksX3_meetIn_2 14 rfl rfl)
abbrev cX3_isTolerance : ByteArray := prog_10_method_86_code
def yX3_isTolerance : MethodName := ⟨RX3, "isTolerance", "(I)Z"⟩
def dkwX3_isTolerance_0 : List UInt8 := [26, 3, 17, 2, 88, 184, 0, 58, 172]
abbrev dktX3_isTolerance_0 : List UInt8 := dkwX3_isTolerance_0 ++ []
theorem dksX3_isTolerance_0 : cX3_isTolerance.data.toList.drop 0 = dktX3_isTolerance_0 := by decide +kernel
theorem dX3_isTolerance_0 : decode cX3_isTolerance 0 = .ok (.iload_n 0, 1) := dk_26 (dk_at dksX3_isTolerance_0 0 rfl rfl)
theorem dX3_isTolerance_1 : decode cX3_isTolerance 1 = .ok (.iconst 0, 1) := dk_3 (dk_at dksX3_isTolerance_0 1 rfl rfl)
theorem dX3_isTolerance_2 : decode cX3_isTolerance 2 = .ok (.sipush 600, 3) := dk_17 2 88 (dk_at dksX3_isTolerance_0 2 rfl rfl)
theorem dX3_isTolerance_5 : decode cX3_isTolerance 5 = .ok (.invokestatic 58, 3) := dk_184 0 58 (dk_at dksX3_isTolerance_0 5 rfl rfl)
theorem dX3_isTolerance_8 : decode cX3_isTolerance 8 = .ok (.ireturn, 1) := dk_172 (dk_at dksX3_isTolerance_0 8 rfl rfl)
abbrev cX3_asksArms : ByteArray := prog_10_method_84_code
def yX3_asksArms : MethodName := ⟨RX3, "asksArms", "(IIZ)Z"⟩
def dkwX3_asksArms_1 : List UInt8 := [182, 0, 180, 153, 0, 16, 42, 28, 4, 182, 0, 180, 153, 0, 7, 4, 167, 0, 4, 3, 172]
abbrev dktX3_asksArms_1 : List UInt8 := dkwX3_asksArms_1 ++ []
def dkwX3_asksArms_0 : List UInt8 := [29, 153, 0, 16, 42, 27, 28, 182, 0, 195, 153, 0, 7, 4, 167, 0, 4, 3, 54, 4, 42, 27, 21, 4]
abbrev dktX3_asksArms_0 : List UInt8 := dkwX3_asksArms_0 ++ dktX3_asksArms_1
theorem dksX3_asksArms_0 : cX3_asksArms.data.toList.drop 0 = dktX3_asksArms_0 := by decide +kernel
theorem dksX3_asksArms_1 : cX3_asksArms.data.toList.drop 24 = dktX3_asksArms_1 := dk_seg dksX3_asksArms_0 24 rfl rfl
theorem dX3_asksArms_0 : decode cX3_asksArms 0 = .ok (.iload_n 3, 1) := dk_29 (dk_at dksX3_asksArms_0 0 rfl rfl)
theorem dX3_asksArms_1 : decode cX3_asksArms 1 = .ok (.ifCond .eq 16, 3) := dk_153 0 16 (dk_at dksX3_asksArms_0 1 rfl rfl)
theorem dX3_asksArms_4 : decode cX3_asksArms 4 = .ok (.aload_n 0, 1) := dk_42 (dk_at dksX3_asksArms_0 4 rfl rfl)
theorem dX3_asksArms_5 : decode cX3_asksArms 5 = .ok (.iload_n 1, 1) := dk_27 (dk_at dksX3_asksArms_0 5 rfl rfl)
theorem dX3_asksArms_6 : decode cX3_asksArms 6 = .ok (.iload_n 2, 1) := dk_28 (dk_at dksX3_asksArms_0 6 rfl rfl)
theorem dX3_asksArms_7 : decode cX3_asksArms 7 = .ok (.invokevirtual 195, 3) := dk_182 0 195 (dk_at dksX3_asksArms_0 7 rfl rfl)
theorem dX3_asksArms_10 : decode cX3_asksArms 10 = .ok (.ifCond .eq 7, 3) := dk_153 0 7 (dk_at dksX3_asksArms_0 10 rfl rfl)
theorem dX3_asksArms_13 : decode cX3_asksArms 13 = .ok (.iconst 1, 1) := dk_4 (dk_at dksX3_asksArms_0 13 rfl rfl)
theorem dX3_asksArms_14 : decode cX3_asksArms 14 = .ok (.goto 4, 3) := dk_167 0 4 (dk_at dksX3_asksArms_0 14 rfl rfl)
theorem dX3_asksArms_17 : decode cX3_asksArms 17 = .ok (.iconst 0, 1) := dk_3 (dk_at dksX3_asksArms_0 17 rfl rfl)
theorem dX3_asksArms_18 : decode cX3_asksArms 18 = .ok (.istore 4, 2) := dk_54 4 (dk_at dksX3_asksArms_0 18 rfl rfl)
theorem dX3_asksArms_20 : decode cX3_asksArms 20 = .ok (.aload_n 0, 1) := dk_42 (dk_at dksX3_asksArms_0 20 rfl rfl)
theorem dX3_asksArms_21 : decode cX3_asksArms 21 = .ok (.iload_n 1, 1) := dk_27 (dk_at dksX3_asksArms_0 21 rfl rfl)
theorem dX3_asksArms_22 : decode cX3_asksArms 22 = .ok (.iload 4, 2) := dk_21 4 (dk_at dksX3_asksArms_0 22 rfl rfl)
theorem dX3_asksArms_24 : decode cX3_asksArms 24 = .ok (.invokevirtual 180, 3) := dk_182 0 180 (dk_at dksX3_asksArms_1 0 rfl rfl)
theorem dX3_asksArms_27 : decode cX3_asksArms 27 = .ok (.ifCond .eq 16, 3) := dk_153 0 16 (dk_at dksX3_asksArms_1 3 rfl rfl)
theorem dX3_asksArms_30 : decode cX3_asksArms 30 = .ok (.aload_n 0, 1) := dk_42 (dk_at dksX3_asksArms_1 6 rfl rfl)
theorem dX3_asksArms_31 : decode cX3_asksArms 31 = .ok (.iload_n 2, 1) := dk_28 (dk_at dksX3_asksArms_1 7 rfl rfl)
theorem dX3_asksArms_32 : decode cX3_asksArms 32 = .ok (.iconst 1, 1) := dk_4 (dk_at dksX3_asksArms_1 8 rfl rfl)
theorem dX3_asksArms_33 : decode cX3_asksArms 33 = .ok (.invokevirtual 180, 3) := dk_182 0 180 (dk_at dksX3_asksArms_1 9 rfl rfl)
theorem dX3_asksArms_36 : decode cX3_asksArms 36 = .ok (.ifCond .eq 7, 3) := dk_153 0 7 (dk_at dksX3_asksArms_1 12 rfl rfl)
theorem dX3_asksArms_39 : decode cX3_asksArms 39 = .ok (.iconst 1, 1) := dk_4 (dk_at dksX3_asksArms_1 15 rfl rfl)
theorem dX3_asksArms_40 : decode cX3_asksArms 40 = .ok (.goto 4, 3) := dk_167 0 4 (dk_at dksX3_asksArms_1 16 rfl rfl)
theorem dX3_asksArms_43 : decode cX3_asksArms 43 = .ok (.iconst 0, 1) := dk_3 (dk_at dksX3_asksArms_1 19 rfl rfl)
theorem dX3_asksArms_44 : decode cX3_asksArms 44 = .ok (.ireturn, 1) := dk_172 (dk_at dksX3_asksArms_1 20 rfl rfl)
abbrev cX3_areArms : ByteArray := prog_10_method_83_code
def yX3_areArms : MethodName := ⟨RX3, "areArms", "(II)Z"⟩
def dkwX3_areArms_1 : List UInt8 := [167, 0, 4, 3, 172]
abbrev dktX3_areArms_1 : List UInt8 := dkwX3_areArms_1 ++ []
def dkwX3_areArms_0 : List UInt8 := [42, 27, 182, 0, 137, 153, 0, 20, 42, 28, 182, 0, 137, 153, 0, 12, 27, 28, 159, 0, 7, 4]
abbrev dktX3_areArms_0 : List UInt8 := dkwX3_areArms_0 ++ dktX3_areArms_1
theorem dksX3_areArms_0 : cX3_areArms.data.toList.drop 0 = dktX3_areArms_0 := by decide +kernel
theorem dksX3_areArms_1 : cX3_areArms.data.toList.drop 22 = dktX3_areArms_1 := dk_seg dksX3_areArms_0 22 rfl rfl
theorem dX3_areArms_0 : decode cX3_areArms 0 = .ok (.aload_n 0, 1) := dk_42 (dk_at dksX3_areArms_0 0 rfl rfl)
theorem dX3_areArms_1 : decode cX3_areArms 1 = .ok (.iload_n 1, 1) := dk_27 (dk_at dksX3_areArms_0 1 rfl rfl)
theorem dX3_areArms_2 : decode cX3_areArms 2 = .ok (.invokevirtual 137, 3) := dk_182 0 137 (dk_at dksX3_areArms_0 2 rfl rfl)
theorem dX3_areArms_5 : decode cX3_areArms 5 = .ok (.ifCond .eq 20, 3) := dk_153 0 20 (dk_at dksX3_areArms_0 5 rfl rfl)
theorem dX3_areArms_8 : decode cX3_areArms 8 = .ok (.aload_n 0, 1) := dk_42 (dk_at dksX3_areArms_0 8 rfl rfl)
theorem dX3_areArms_9 : decode cX3_areArms 9 = .ok (.iload_n 2, 1) := dk_28 (dk_at dksX3_areArms_0 9 rfl rfl)
theorem dX3_areArms_10 : decode cX3_areArms 10 = .ok (.invokevirtual 137, 3) := dk_182 0 137 (dk_at dksX3_areArms_0 10 rfl rfl)
theorem dX3_areArms_13 : decode cX3_areArms 13 = .ok (.ifCond .eq 12, 3) := dk_153 0 12 (dk_at dksX3_areArms_0 13 rfl rfl)
theorem dX3_areArms_16 : decode cX3_areArms 16 = .ok (.iload_n 1, 1) := dk_27 (dk_at dksX3_areArms_0 16 rfl rfl)
theorem dX3_areArms_17 : decode cX3_areArms 17 = .ok (.iload_n 2, 1) := dk_28 (dk_at dksX3_areArms_0 17 rfl rfl)
theorem dX3_areArms_18 : decode cX3_areArms 18 = .ok (.if_icmp .eq 7, 3) := dk_159 0 7 (dk_at dksX3_areArms_0 18 rfl rfl)
theorem dX3_areArms_21 : decode cX3_areArms 21 = .ok (.iconst 1, 1) := dk_4 (dk_at dksX3_areArms_0 21 rfl rfl)
theorem dX3_areArms_22 : decode cX3_areArms 22 = .ok (.goto 4, 3) := dk_167 0 4 (dk_at dksX3_areArms_1 0 rfl rfl)
theorem dX3_areArms_25 : decode cX3_areArms 25 = .ok (.iconst 0, 1) := dk_3 (dk_at dksX3_areArms_1 3 rfl rfl)
theorem dX3_areArms_26 : decode cX3_areArms 26 = .ok (.ireturn, 1) := dk_172 (dk_at dksX3_areArms_1 4 rfl rfl)
abbrev cX3_meet : ByteArray := prog_10_method_85_code
def yX3_meet : MethodName := ⟨RX3, "meet", "(IIII)Z"⟩
def dkwX3_meet_1 : List UInt8 := [3, 172]
abbrev dktX3_meet_1 : List UInt8 := dkwX3_meet_1 ++ []
def dkwX3_meet_0 : List UInt8 := [42, 27, 29, 182, 0, 183, 42, 28, 29, 182, 0, 183, 184, 0, 198, 21, 4, 163, 0, 7, 4, 167, 0, 4]
abbrev dktX3_meet_0 : List UInt8 := dkwX3_meet_0 ++ dktX3_meet_1
theorem dksX3_meet_0 : cX3_meet.data.toList.drop 0 = dktX3_meet_0 := by decide +kernel
theorem dksX3_meet_1 : cX3_meet.data.toList.drop 24 = dktX3_meet_1 := dk_seg dksX3_meet_0 24 rfl rfl
theorem dX3_meet_0 : decode cX3_meet 0 = .ok (.aload_n 0, 1) := dk_42 (dk_at dksX3_meet_0 0 rfl rfl)
theorem dX3_meet_1 : decode cX3_meet 1 = .ok (.iload_n 1, 1) := dk_27 (dk_at dksX3_meet_0 1 rfl rfl)
theorem dX3_meet_2 : decode cX3_meet 2 = .ok (.iload_n 3, 1) := dk_29 (dk_at dksX3_meet_0 2 rfl rfl)
theorem dX3_meet_3 : decode cX3_meet 3 = .ok (.invokevirtual 183, 3) := dk_182 0 183 (dk_at dksX3_meet_0 3 rfl rfl)
theorem dX3_meet_6 : decode cX3_meet 6 = .ok (.aload_n 0, 1) := dk_42 (dk_at dksX3_meet_0 6 rfl rfl)
theorem dX3_meet_7 : decode cX3_meet 7 = .ok (.iload_n 2, 1) := dk_28 (dk_at dksX3_meet_0 7 rfl rfl)
theorem dX3_meet_8 : decode cX3_meet 8 = .ok (.iload_n 3, 1) := dk_29 (dk_at dksX3_meet_0 8 rfl rfl)
theorem dX3_meet_9 : decode cX3_meet 9 = .ok (.invokevirtual 183, 3) := dk_182 0 183 (dk_at dksX3_meet_0 9 rfl rfl)
theorem dX3_meet_12 : decode cX3_meet 12 = .ok (.invokestatic 198, 3) := dk_184 0 198 (dk_at dksX3_meet_0 12 rfl rfl)
theorem dX3_meet_15 : decode cX3_meet 15 = .ok (.iload 4, 2) := dk_21 4 (dk_at dksX3_meet_0 15 rfl rfl)
theorem dX3_meet_17 : decode cX3_meet 17 = .ok (.if_icmp .gt 7, 3) := dk_163 0 7 (dk_at dksX3_meet_0 17 rfl rfl)
theorem dX3_meet_20 : decode cX3_meet 20 = .ok (.iconst 1, 1) := dk_4 (dk_at dksX3_meet_0 20 rfl rfl)
theorem dX3_meet_21 : decode cX3_meet 21 = .ok (.goto 4, 3) := dk_167 0 4 (dk_at dksX3_meet_0 21 rfl rfl)
theorem dX3_meet_24 : decode cX3_meet 24 = .ok (.iconst 0, 1) := dk_3 (dk_at dksX3_meet_1 0 rfl rfl)
theorem dX3_meet_25 : decode cX3_meet 25 = .ok (.ireturn, 1) := dk_172 (dk_at dksX3_meet_1 1 rfl rfl)
abbrev cX3_apart : ByteArray := prog_10_method_72_code
def yX3_apart : MethodName := ⟨RX3, "apart", "(II)I"⟩
def dkwX3_apart_1 : List UInt8 := [28, 172]
abbrev dktX3_apart_1 : List UInt8 := dkwX3_apart_1 ++ []
def dkwX3_apart_0 : List UInt8 := [26, 27, 100, 184, 0, 177, 61, 28, 17, 84, 96, 28, 100, 164, 0, 11, 17, 84, 96, 28, 100, 167, 0, 4]
abbrev dktX3_apart_0 : List UInt8 := dkwX3_apart_0 ++ dktX3_apart_1
theorem dksX3_apart_0 : cX3_apart.data.toList.drop 0 = dktX3_apart_0 := by decide +kernel
theorem dksX3_apart_1 : cX3_apart.data.toList.drop 24 = dktX3_apart_1 := dk_seg dksX3_apart_0 24 rfl rfl
theorem dX3_apart_0 : decode cX3_apart 0 = .ok (.iload_n 0, 1) := dk_26 (dk_at dksX3_apart_0 0 rfl rfl)
theorem dX3_apart_1 : decode cX3_apart 1 = .ok (.iload_n 1, 1) := dk_27 (dk_at dksX3_apart_0 1 rfl rfl)
theorem dX3_apart_2 : decode cX3_apart 2 = .ok (.isub, 1) := dk_100 (dk_at dksX3_apart_0 2 rfl rfl)
theorem dX3_apart_3 : decode cX3_apart 3 = .ok (.invokestatic 177, 3) := dk_184 0 177 (dk_at dksX3_apart_0 3 rfl rfl)
theorem dX3_apart_6 : decode cX3_apart 6 = .ok (.istore_n 2, 1) := dk_61 (dk_at dksX3_apart_0 6 rfl rfl)
theorem dX3_apart_7 : decode cX3_apart 7 = .ok (.iload_n 2, 1) := dk_28 (dk_at dksX3_apart_0 7 rfl rfl)
theorem dX3_apart_8 : decode cX3_apart 8 = .ok (.sipush 21600, 3) := dk_17 84 96 (dk_at dksX3_apart_0 8 rfl rfl)
theorem dX3_apart_11 : decode cX3_apart 11 = .ok (.iload_n 2, 1) := dk_28 (dk_at dksX3_apart_0 11 rfl rfl)
theorem dX3_apart_12 : decode cX3_apart 12 = .ok (.isub, 1) := dk_100 (dk_at dksX3_apart_0 12 rfl rfl)
theorem dX3_apart_13 : decode cX3_apart 13 = .ok (.if_icmp .le 11, 3) := dk_164 0 11 (dk_at dksX3_apart_0 13 rfl rfl)
theorem dX3_apart_16 : decode cX3_apart 16 = .ok (.sipush 21600, 3) := dk_17 84 96 (dk_at dksX3_apart_0 16 rfl rfl)
theorem dX3_apart_19 : decode cX3_apart 19 = .ok (.iload_n 2, 1) := dk_28 (dk_at dksX3_apart_0 19 rfl rfl)
theorem dX3_apart_20 : decode cX3_apart 20 = .ok (.isub, 1) := dk_100 (dk_at dksX3_apart_0 20 rfl rfl)
theorem dX3_apart_21 : decode cX3_apart 21 = .ok (.goto 4, 3) := dk_167 0 4 (dk_at dksX3_apart_0 21 rfl rfl)
theorem dX3_apart_24 : decode cX3_apart 24 = .ok (.iload_n 2, 1) := dk_28 (dk_at dksX3_apart_1 0 rfl rfl)
theorem dX3_apart_25 : decode cX3_apart 25 = .ok (.ireturn, 1) := dk_172 (dk_at dksX3_apart_1 1 rfl rfl)
abbrev cX3_meetings : ByteArray := prog_10_method_88_code
def yX3_meetings : MethodName := ⟨RX3, "meetings", "(III)I"⟩
def dkwX3_meetings_2 : List UInt8 := [182, 0, 208, 153, 0, 7, 4, 167, 0, 4, 3, 96, 54, 4, 132, 5, 1, 167, 255, 215, 21, 4, 172]
abbrev dktX3_meetings_2 : List UInt8 := dkwX3_meetings_2 ++ []
def dkwX3_meetings_1 : List UInt8 := [17, 3, 232, 163, 0, 39, 21, 4, 42, 27, 28, 42, 180, 0, 7, 16, 111, 46, 21, 5, 96, 29]
abbrev dktX3_meetings_1 : List UInt8 := dkwX3_meetings_1 ++ dktX3_meetings_2
def dkwX3_meetings_0 : List UInt8 := [42, 27, 28, 29, 184, 0, 201, 182, 0, 204, 154, 0, 5, 3, 172, 3, 54, 4, 4, 54, 5, 21, 5]
abbrev dktX3_meetings_0 : List UInt8 := dkwX3_meetings_0 ++ dktX3_meetings_1
theorem dksX3_meetings_0 : cX3_meetings.data.toList.drop 0 = dktX3_meetings_0 := by decide +kernel
theorem dksX3_meetings_1 : cX3_meetings.data.toList.drop 23 = dktX3_meetings_1 := dk_seg dksX3_meetings_0 23 rfl rfl
theorem dksX3_meetings_2 : cX3_meetings.data.toList.drop 45 = dktX3_meetings_2 := dk_seg dksX3_meetings_1 22 rfl rfl
theorem dX3_meetings_0 : decode cX3_meetings 0 = .ok (.aload_n 0, 1) := dk_42 (dk_at dksX3_meetings_0 0 rfl rfl)
theorem dX3_meetings_1 : decode cX3_meetings 1 = .ok (.iload_n 1, 1) := dk_27 (dk_at dksX3_meetings_0 1 rfl rfl)
theorem dX3_meetings_2 : decode cX3_meetings 2 = .ok (.iload_n 2, 1) := dk_28 (dk_at dksX3_meetings_0 2 rfl rfl)
theorem dX3_meetings_3 : decode cX3_meetings 3 = .ok (.iload_n 3, 1) := dk_29 (dk_at dksX3_meetings_0 3 rfl rfl)
theorem dX3_meetings_4 : decode cX3_meetings 4 = .ok (.invokestatic 201, 3) := dk_184 0 201 (dk_at dksX3_meetings_0 4 rfl rfl)
theorem dX3_meetings_7 : decode cX3_meetings 7 = .ok (.invokevirtual 204, 3) := dk_182 0 204 (dk_at dksX3_meetings_0 7 rfl rfl)
theorem dX3_meetings_10 : decode cX3_meetings 10 = .ok (.ifCond .ne 5, 3) := dk_154 0 5 (dk_at dksX3_meetings_0 10 rfl rfl)
theorem dX3_meetings_13 : decode cX3_meetings 13 = .ok (.iconst 0, 1) := dk_3 (dk_at dksX3_meetings_0 13 rfl rfl)
theorem dX3_meetings_14 : decode cX3_meetings 14 = .ok (.ireturn, 1) := dk_172 (dk_at dksX3_meetings_0 14 rfl rfl)
theorem dX3_meetings_15 : decode cX3_meetings 15 = .ok (.iconst 0, 1) := dk_3 (dk_at dksX3_meetings_0 15 rfl rfl)
theorem dX3_meetings_16 : decode cX3_meetings 16 = .ok (.istore 4, 2) := dk_54 4 (dk_at dksX3_meetings_0 16 rfl rfl)
theorem dX3_meetings_18 : decode cX3_meetings 18 = .ok (.iconst 1, 1) := dk_4 (dk_at dksX3_meetings_0 18 rfl rfl)
theorem dX3_meetings_19 : decode cX3_meetings 19 = .ok (.istore 5, 2) := dk_54 5 (dk_at dksX3_meetings_0 19 rfl rfl)
theorem dX3_meetings_21 : decode cX3_meetings 21 = .ok (.iload 5, 2) := dk_21 5 (dk_at dksX3_meetings_0 21 rfl rfl)
theorem dX3_meetings_23 : decode cX3_meetings 23 = .ok (.sipush 1000, 3) := dk_17 3 232 (dk_at dksX3_meetings_1 0 rfl rfl)
theorem dX3_meetings_26 : decode cX3_meetings 26 = .ok (.if_icmp .gt 39, 3) := dk_163 0 39 (dk_at dksX3_meetings_1 3 rfl rfl)
theorem dX3_meetings_29 : decode cX3_meetings 29 = .ok (.iload 4, 2) := dk_21 4 (dk_at dksX3_meetings_1 6 rfl rfl)
theorem dX3_meetings_31 : decode cX3_meetings 31 = .ok (.aload_n 0, 1) := dk_42 (dk_at dksX3_meetings_1 8 rfl rfl)
theorem dX3_meetings_32 : decode cX3_meetings 32 = .ok (.iload_n 1, 1) := dk_27 (dk_at dksX3_meetings_1 9 rfl rfl)
theorem dX3_meetings_33 : decode cX3_meetings 33 = .ok (.iload_n 2, 1) := dk_28 (dk_at dksX3_meetings_1 10 rfl rfl)
theorem dX3_meetings_34 : decode cX3_meetings 34 = .ok (.aload_n 0, 1) := dk_42 (dk_at dksX3_meetings_1 11 rfl rfl)
theorem dX3_meetings_35 : decode cX3_meetings 35 = .ok (.getfield 7, 3) := dk_180 0 7 (dk_at dksX3_meetings_1 12 rfl rfl)
theorem dX3_meetings_38 : decode cX3_meetings 38 = .ok (.bipush 111, 2) := dk_16 111 (dk_at dksX3_meetings_1 15 rfl rfl)
theorem dX3_meetings_40 : decode cX3_meetings 40 = .ok (.iaload, 1) := dk_46 (dk_at dksX3_meetings_1 17 rfl rfl)
theorem dX3_meetings_41 : decode cX3_meetings 41 = .ok (.iload 5, 2) := dk_21 5 (dk_at dksX3_meetings_1 18 rfl rfl)
theorem dX3_meetings_43 : decode cX3_meetings 43 = .ok (.iadd, 1) := dk_96 (dk_at dksX3_meetings_1 20 rfl rfl)
theorem dX3_meetings_44 : decode cX3_meetings 44 = .ok (.iload_n 3, 1) := dk_29 (dk_at dksX3_meetings_1 21 rfl rfl)
theorem dX3_meetings_45 : decode cX3_meetings 45 = .ok (.invokevirtual 208, 3) := dk_182 0 208 (dk_at dksX3_meetings_2 0 rfl rfl)
theorem dX3_meetings_48 : decode cX3_meetings 48 = .ok (.ifCond .eq 7, 3) := dk_153 0 7 (dk_at dksX3_meetings_2 3 rfl rfl)
theorem dX3_meetings_51 : decode cX3_meetings 51 = .ok (.iconst 1, 1) := dk_4 (dk_at dksX3_meetings_2 6 rfl rfl)
theorem dX3_meetings_52 : decode cX3_meetings 52 = .ok (.goto 4, 3) := dk_167 0 4 (dk_at dksX3_meetings_2 7 rfl rfl)
theorem dX3_meetings_55 : decode cX3_meetings 55 = .ok (.iconst 0, 1) := dk_3 (dk_at dksX3_meetings_2 10 rfl rfl)
theorem dX3_meetings_56 : decode cX3_meetings 56 = .ok (.iadd, 1) := dk_96 (dk_at dksX3_meetings_2 11 rfl rfl)
theorem dX3_meetings_57 : decode cX3_meetings 57 = .ok (.istore 4, 2) := dk_54 4 (dk_at dksX3_meetings_2 12 rfl rfl)
theorem dX3_meetings_59 : decode cX3_meetings 59 = .ok (.iinc 5 1, 3) := dk_132 5 1 (dk_at dksX3_meetings_2 14 rfl rfl)
theorem dX3_meetings_62 : decode cX3_meetings 62 = .ok (.goto (-41), 3) := dk_167 255 215 (dk_at dksX3_meetings_2 17 rfl rfl)
theorem dX3_meetings_65 : decode cX3_meetings 65 = .ok (.iload 4, 2) := dk_21 4 (dk_at dksX3_meetings_2 20 rfl rfl)
theorem dX3_meetings_67 : decode cX3_meetings 67 = .ok (.ireturn, 1) := dk_172 (dk_at dksX3_meetings_2 22 rfl rfl)
abbrev cX3_differenceAbove : ByteArray := prog_10_method_91_code
def yX3_differenceAbove : MethodName := ⟨RX3, "differenceAbove", "(II)J"⟩
def dkwX3_differenceAbove_0 : List UInt8 := [42, 27, 28, 182, 0, 222, 153, 0, 10, 42, 180, 0, 212, 167, 0, 4, 9, 173]
abbrev dktX3_differenceAbove_0 : List UInt8 := dkwX3_differenceAbove_0 ++ []
theorem dksX3_differenceAbove_0 : cX3_differenceAbove.data.toList.drop 0 = dktX3_differenceAbove_0 := by decide +kernel
theorem dX3_differenceAbove_0 : decode cX3_differenceAbove 0 = .ok (.aload_n 0, 1) := dk_42 (dk_at dksX3_differenceAbove_0 0 rfl rfl)
theorem dX3_differenceAbove_1 : decode cX3_differenceAbove 1 = .ok (.iload_n 1, 1) := dk_27 (dk_at dksX3_differenceAbove_0 1 rfl rfl)
theorem dX3_differenceAbove_2 : decode cX3_differenceAbove 2 = .ok (.iload_n 2, 1) := dk_28 (dk_at dksX3_differenceAbove_0 2 rfl rfl)
theorem dX3_differenceAbove_3 : decode cX3_differenceAbove 3 = .ok (.invokevirtual 222, 3) := dk_182 0 222 (dk_at dksX3_differenceAbove_0 3 rfl rfl)
theorem dX3_differenceAbove_6 : decode cX3_differenceAbove 6 = .ok (.ifCond .eq 10, 3) := dk_153 0 10 (dk_at dksX3_differenceAbove_0 6 rfl rfl)
theorem dX3_differenceAbove_9 : decode cX3_differenceAbove 9 = .ok (.aload_n 0, 1) := dk_42 (dk_at dksX3_differenceAbove_0 9 rfl rfl)
theorem dX3_differenceAbove_10 : decode cX3_differenceAbove 10 = .ok (.getfield 212, 3) := dk_180 0 212 (dk_at dksX3_differenceAbove_0 10 rfl rfl)
theorem dX3_differenceAbove_13 : decode cX3_differenceAbove 13 = .ok (.goto 4, 3) := dk_167 0 4 (dk_at dksX3_differenceAbove_0 13 rfl rfl)
theorem dX3_differenceAbove_16 : decode cX3_differenceAbove 16 = .ok (.lconst 0, 1) := dk_9 (dk_at dksX3_differenceAbove_0 16 rfl rfl)
theorem dX3_differenceAbove_17 : decode cX3_differenceAbove 17 = .ok (.lreturn, 1) := dk_173 (dk_at dksX3_differenceAbove_0 17 rfl rfl)
abbrev cX3_asksDifference : ByteArray := prog_10_method_90_code
def yX3_asksDifference : MethodName := ⟨RX3, "asksDifference", "(II)Z"⟩
def dkwX3_asksDifference_1 : List UInt8 := [180, 0, 7, 16, 84, 28, 96, 46, 182, 0, 219, 4, 172]
abbrev dktX3_asksDifference_1 : List UInt8 := dkwX3_asksDifference_1 ++ []
def dkwX3_asksDifference_0 : List UInt8 := [42, 27, 28, 4, 182, 0, 204, 154, 0, 5, 3, 172, 42, 42, 180, 0, 7, 16, 84, 27, 96, 46, 42]
abbrev dktX3_asksDifference_0 : List UInt8 := dkwX3_asksDifference_0 ++ dktX3_asksDifference_1
theorem dksX3_asksDifference_0 : cX3_asksDifference.data.toList.drop 0 = dktX3_asksDifference_0 := by decide +kernel
theorem dksX3_asksDifference_1 : cX3_asksDifference.data.toList.drop 23 = dktX3_asksDifference_1 := dk_seg dksX3_asksDifference_0 23 rfl rfl
theorem dX3_asksDifference_0 : decode cX3_asksDifference 0 = .ok (.aload_n 0, 1) := dk_42 (dk_at dksX3_asksDifference_0 0 rfl rfl)
theorem dX3_asksDifference_1 : decode cX3_asksDifference 1 = .ok (.iload_n 1, 1) := dk_27 (dk_at dksX3_asksDifference_0 1 rfl rfl)
theorem dX3_asksDifference_2 : decode cX3_asksDifference 2 = .ok (.iload_n 2, 1) := dk_28 (dk_at dksX3_asksDifference_0 2 rfl rfl)
theorem dX3_asksDifference_3 : decode cX3_asksDifference 3 = .ok (.iconst 1, 1) := dk_4 (dk_at dksX3_asksDifference_0 3 rfl rfl)
theorem dX3_asksDifference_4 : decode cX3_asksDifference 4 = .ok (.invokevirtual 204, 3) := dk_182 0 204 (dk_at dksX3_asksDifference_0 4 rfl rfl)
theorem dX3_asksDifference_7 : decode cX3_asksDifference 7 = .ok (.ifCond .ne 5, 3) := dk_154 0 5 (dk_at dksX3_asksDifference_0 7 rfl rfl)
theorem dX3_asksDifference_10 : decode cX3_asksDifference 10 = .ok (.iconst 0, 1) := dk_3 (dk_at dksX3_asksDifference_0 10 rfl rfl)
theorem dX3_asksDifference_11 : decode cX3_asksDifference 11 = .ok (.ireturn, 1) := dk_172 (dk_at dksX3_asksDifference_0 11 rfl rfl)
theorem dX3_asksDifference_12 : decode cX3_asksDifference 12 = .ok (.aload_n 0, 1) := dk_42 (dk_at dksX3_asksDifference_0 12 rfl rfl)
theorem dX3_asksDifference_13 : decode cX3_asksDifference 13 = .ok (.aload_n 0, 1) := dk_42 (dk_at dksX3_asksDifference_0 13 rfl rfl)
theorem dX3_asksDifference_14 : decode cX3_asksDifference 14 = .ok (.getfield 7, 3) := dk_180 0 7 (dk_at dksX3_asksDifference_0 14 rfl rfl)
theorem dX3_asksDifference_17 : decode cX3_asksDifference 17 = .ok (.bipush 84, 2) := dk_16 84 (dk_at dksX3_asksDifference_0 17 rfl rfl)
theorem dX3_asksDifference_19 : decode cX3_asksDifference 19 = .ok (.iload_n 1, 1) := dk_27 (dk_at dksX3_asksDifference_0 19 rfl rfl)
theorem dX3_asksDifference_20 : decode cX3_asksDifference 20 = .ok (.iadd, 1) := dk_96 (dk_at dksX3_asksDifference_0 20 rfl rfl)
theorem dX3_asksDifference_21 : decode cX3_asksDifference 21 = .ok (.iaload, 1) := dk_46 (dk_at dksX3_asksDifference_0 21 rfl rfl)
theorem dX3_asksDifference_22 : decode cX3_asksDifference 22 = .ok (.aload_n 0, 1) := dk_42 (dk_at dksX3_asksDifference_0 22 rfl rfl)
theorem dX3_asksDifference_23 : decode cX3_asksDifference 23 = .ok (.getfield 7, 3) := dk_180 0 7 (dk_at dksX3_asksDifference_1 0 rfl rfl)
theorem dX3_asksDifference_26 : decode cX3_asksDifference 26 = .ok (.bipush 84, 2) := dk_16 84 (dk_at dksX3_asksDifference_1 3 rfl rfl)
theorem dX3_asksDifference_28 : decode cX3_asksDifference 28 = .ok (.iload_n 2, 1) := dk_28 (dk_at dksX3_asksDifference_1 5 rfl rfl)
theorem dX3_asksDifference_29 : decode cX3_asksDifference 29 = .ok (.iadd, 1) := dk_96 (dk_at dksX3_asksDifference_1 6 rfl rfl)
theorem dX3_asksDifference_30 : decode cX3_asksDifference 30 = .ok (.iaload, 1) := dk_46 (dk_at dksX3_asksDifference_1 7 rfl rfl)
theorem dX3_asksDifference_31 : decode cX3_asksDifference 31 = .ok (.invokevirtual 219, 3) := dk_182 0 219 (dk_at dksX3_asksDifference_1 8 rfl rfl)
theorem dX3_asksDifference_34 : decode cX3_asksDifference 34 = .ok (.iconst 1, 1) := dk_4 (dk_at dksX3_asksDifference_1 11 rfl rfl)
theorem dX3_asksDifference_35 : decode cX3_asksDifference 35 = .ok (.ireturn, 1) := dk_172 (dk_at dksX3_asksDifference_1 12 rfl rfl)
abbrev cX3_differs : ByteArray := prog_10_method_89_code
def yX3_differs : MethodName := ⟨RX3, "differs", "(II)V"⟩
def dkwX3_differs_2 : List UInt8 := [184, 0, 65, 55, 7, 42, 33, 22, 7, 109, 181, 0, 212, 42, 22, 5, 22, 7, 109, 181, 0, 216, 177]
abbrev dktX3_differs_2 : List UInt8 := dkwX3_differs_2 ++ []
def dkwX3_differs_1 : List UInt8 := [47, 105, 101, 66, 42, 180, 0, 32, 27, 47, 42, 180, 0, 32, 28, 47, 105, 55, 5, 33, 22, 5]
abbrev dktX3_differs_1 : List UInt8 := dkwX3_differs_1 ++ dktX3_differs_2
def dkwX3_differs_0 : List UInt8 := [42, 180, 0, 28, 27, 47, 42, 180, 0, 32, 28, 47, 105, 42, 180, 0, 28, 28, 47, 42, 180, 0, 32, 27]
abbrev dktX3_differs_0 : List UInt8 := dkwX3_differs_0 ++ dktX3_differs_1
theorem dksX3_differs_0 : cX3_differs.data.toList.drop 0 = dktX3_differs_0 := by decide +kernel
theorem dksX3_differs_1 : cX3_differs.data.toList.drop 24 = dktX3_differs_1 := dk_seg dksX3_differs_0 24 rfl rfl
theorem dksX3_differs_2 : cX3_differs.data.toList.drop 46 = dktX3_differs_2 := dk_seg dksX3_differs_1 22 rfl rfl
theorem dX3_differs_0 : decode cX3_differs 0 = .ok (.aload_n 0, 1) := dk_42 (dk_at dksX3_differs_0 0 rfl rfl)
theorem dX3_differs_1 : decode cX3_differs 1 = .ok (.getfield 28, 3) := dk_180 0 28 (dk_at dksX3_differs_0 1 rfl rfl)
theorem dX3_differs_4 : decode cX3_differs 4 = .ok (.iload_n 1, 1) := dk_27 (dk_at dksX3_differs_0 4 rfl rfl)
theorem dX3_differs_5 : decode cX3_differs 5 = .ok (.laload, 1) := dk_47 (dk_at dksX3_differs_0 5 rfl rfl)
theorem dX3_differs_6 : decode cX3_differs 6 = .ok (.aload_n 0, 1) := dk_42 (dk_at dksX3_differs_0 6 rfl rfl)
theorem dX3_differs_7 : decode cX3_differs 7 = .ok (.getfield 32, 3) := dk_180 0 32 (dk_at dksX3_differs_0 7 rfl rfl)
theorem dX3_differs_10 : decode cX3_differs 10 = .ok (.iload_n 2, 1) := dk_28 (dk_at dksX3_differs_0 10 rfl rfl)
theorem dX3_differs_11 : decode cX3_differs 11 = .ok (.laload, 1) := dk_47 (dk_at dksX3_differs_0 11 rfl rfl)
theorem dX3_differs_12 : decode cX3_differs 12 = .ok (.lmul, 1) := dk_105 (dk_at dksX3_differs_0 12 rfl rfl)
theorem dX3_differs_13 : decode cX3_differs 13 = .ok (.aload_n 0, 1) := dk_42 (dk_at dksX3_differs_0 13 rfl rfl)
theorem dX3_differs_14 : decode cX3_differs 14 = .ok (.getfield 28, 3) := dk_180 0 28 (dk_at dksX3_differs_0 14 rfl rfl)
theorem dX3_differs_17 : decode cX3_differs 17 = .ok (.iload_n 2, 1) := dk_28 (dk_at dksX3_differs_0 17 rfl rfl)
theorem dX3_differs_18 : decode cX3_differs 18 = .ok (.laload, 1) := dk_47 (dk_at dksX3_differs_0 18 rfl rfl)
theorem dX3_differs_19 : decode cX3_differs 19 = .ok (.aload_n 0, 1) := dk_42 (dk_at dksX3_differs_0 19 rfl rfl)
theorem dX3_differs_20 : decode cX3_differs 20 = .ok (.getfield 32, 3) := dk_180 0 32 (dk_at dksX3_differs_0 20 rfl rfl)
theorem dX3_differs_23 : decode cX3_differs 23 = .ok (.iload_n 1, 1) := dk_27 (dk_at dksX3_differs_0 23 rfl rfl)
theorem dX3_differs_24 : decode cX3_differs 24 = .ok (.laload, 1) := dk_47 (dk_at dksX3_differs_1 0 rfl rfl)
theorem dX3_differs_25 : decode cX3_differs 25 = .ok (.lmul, 1) := dk_105 (dk_at dksX3_differs_1 1 rfl rfl)
theorem dX3_differs_26 : decode cX3_differs 26 = .ok (.lsub, 1) := dk_101 (dk_at dksX3_differs_1 2 rfl rfl)
theorem dX3_differs_27 : decode cX3_differs 27 = .ok (.lstore_n 3, 1) := dk_66 (dk_at dksX3_differs_1 3 rfl rfl)
theorem dX3_differs_28 : decode cX3_differs 28 = .ok (.aload_n 0, 1) := dk_42 (dk_at dksX3_differs_1 4 rfl rfl)
theorem dX3_differs_29 : decode cX3_differs 29 = .ok (.getfield 32, 3) := dk_180 0 32 (dk_at dksX3_differs_1 5 rfl rfl)
theorem dX3_differs_32 : decode cX3_differs 32 = .ok (.iload_n 1, 1) := dk_27 (dk_at dksX3_differs_1 8 rfl rfl)
theorem dX3_differs_33 : decode cX3_differs 33 = .ok (.laload, 1) := dk_47 (dk_at dksX3_differs_1 9 rfl rfl)
theorem dX3_differs_34 : decode cX3_differs 34 = .ok (.aload_n 0, 1) := dk_42 (dk_at dksX3_differs_1 10 rfl rfl)
theorem dX3_differs_35 : decode cX3_differs 35 = .ok (.getfield 32, 3) := dk_180 0 32 (dk_at dksX3_differs_1 11 rfl rfl)
theorem dX3_differs_38 : decode cX3_differs 38 = .ok (.iload_n 2, 1) := dk_28 (dk_at dksX3_differs_1 14 rfl rfl)
theorem dX3_differs_39 : decode cX3_differs 39 = .ok (.laload, 1) := dk_47 (dk_at dksX3_differs_1 15 rfl rfl)
theorem dX3_differs_40 : decode cX3_differs 40 = .ok (.lmul, 1) := dk_105 (dk_at dksX3_differs_1 16 rfl rfl)
theorem dX3_differs_41 : decode cX3_differs 41 = .ok (.lstore 5, 2) := dk_55 5 (dk_at dksX3_differs_1 17 rfl rfl)
theorem dX3_differs_43 : decode cX3_differs 43 = .ok (.lload_n 3, 1) := dk_33 (dk_at dksX3_differs_1 19 rfl rfl)
theorem dX3_differs_44 : decode cX3_differs 44 = .ok (.lload 5, 2) := dk_22 5 (dk_at dksX3_differs_1 20 rfl rfl)
theorem dX3_differs_46 : decode cX3_differs 46 = .ok (.invokestatic 65, 3) := dk_184 0 65 (dk_at dksX3_differs_2 0 rfl rfl)
theorem dX3_differs_49 : decode cX3_differs 49 = .ok (.lstore 7, 2) := dk_55 7 (dk_at dksX3_differs_2 3 rfl rfl)
theorem dX3_differs_51 : decode cX3_differs 51 = .ok (.aload_n 0, 1) := dk_42 (dk_at dksX3_differs_2 5 rfl rfl)
theorem dX3_differs_52 : decode cX3_differs 52 = .ok (.lload_n 3, 1) := dk_33 (dk_at dksX3_differs_2 6 rfl rfl)
theorem dX3_differs_53 : decode cX3_differs 53 = .ok (.lload 7, 2) := dk_22 7 (dk_at dksX3_differs_2 7 rfl rfl)
theorem dX3_differs_55 : decode cX3_differs 55 = .ok (.ldiv, 1) := dk_109 (dk_at dksX3_differs_2 9 rfl rfl)
theorem dX3_differs_56 : decode cX3_differs 56 = .ok (.putfield 212, 3) := dk_181 0 212 (dk_at dksX3_differs_2 10 rfl rfl)
theorem dX3_differs_59 : decode cX3_differs 59 = .ok (.aload_n 0, 1) := dk_42 (dk_at dksX3_differs_2 13 rfl rfl)
theorem dX3_differs_60 : decode cX3_differs 60 = .ok (.lload 5, 2) := dk_22 5 (dk_at dksX3_differs_2 14 rfl rfl)
theorem dX3_differs_62 : decode cX3_differs 62 = .ok (.lload 7, 2) := dk_22 7 (dk_at dksX3_differs_2 16 rfl rfl)
theorem dX3_differs_64 : decode cX3_differs 64 = .ok (.ldiv, 1) := dk_109 (dk_at dksX3_differs_2 18 rfl rfl)
theorem dX3_differs_65 : decode cX3_differs 65 = .ok (.putfield 216, 3) := dk_181 0 216 (dk_at dksX3_differs_2 19 rfl rfl)
theorem dX3_differs_68 : decode cX3_differs 68 = .ok (.return_, 1) := dk_177 (dk_at dksX3_differs_2 22 rfl rfl)
abbrev cX3_comeBackIn : ByteArray := prog_10_method_92_code
def yX3_comeBackIn : MethodName := ⟨RX3, "comeBackIn", "(II)J"⟩
def dkwX3_comeBackIn_0 : List UInt8 := [42, 27, 28, 182, 0, 222, 153, 0, 10, 42, 180, 0, 216, 167, 0, 4, 9, 173]
abbrev dktX3_comeBackIn_0 : List UInt8 := dkwX3_comeBackIn_0 ++ []
theorem dksX3_comeBackIn_0 : cX3_comeBackIn.data.toList.drop 0 = dktX3_comeBackIn_0 := by decide +kernel
theorem dX3_comeBackIn_0 : decode cX3_comeBackIn 0 = .ok (.aload_n 0, 1) := dk_42 (dk_at dksX3_comeBackIn_0 0 rfl rfl)
theorem dX3_comeBackIn_1 : decode cX3_comeBackIn 1 = .ok (.iload_n 1, 1) := dk_27 (dk_at dksX3_comeBackIn_0 1 rfl rfl)
theorem dX3_comeBackIn_2 : decode cX3_comeBackIn 2 = .ok (.iload_n 2, 1) := dk_28 (dk_at dksX3_comeBackIn_0 2 rfl rfl)
theorem dX3_comeBackIn_3 : decode cX3_comeBackIn 3 = .ok (.invokevirtual 222, 3) := dk_182 0 222 (dk_at dksX3_comeBackIn_0 3 rfl rfl)
theorem dX3_comeBackIn_6 : decode cX3_comeBackIn 6 = .ok (.ifCond .eq 10, 3) := dk_153 0 10 (dk_at dksX3_comeBackIn_0 6 rfl rfl)
theorem dX3_comeBackIn_9 : decode cX3_comeBackIn 9 = .ok (.aload_n 0, 1) := dk_42 (dk_at dksX3_comeBackIn_0 9 rfl rfl)
theorem dX3_comeBackIn_10 : decode cX3_comeBackIn 10 = .ok (.getfield 216, 3) := dk_180 0 216 (dk_at dksX3_comeBackIn_0 10 rfl rfl)
theorem dX3_comeBackIn_13 : decode cX3_comeBackIn 13 = .ok (.goto 4, 3) := dk_167 0 4 (dk_at dksX3_comeBackIn_0 13 rfl rfl)
theorem dX3_comeBackIn_16 : decode cX3_comeBackIn 16 = .ok (.lconst 0, 1) := dk_9 (dk_at dksX3_comeBackIn_0 16 rfl rfl)
theorem dX3_comeBackIn_17 : decode cX3_comeBackIn 17 = .ok (.lreturn, 1) := dk_173 (dk_at dksX3_comeBackIn_0 17 rfl rfl)
abbrev cX3_allMeetIn : ByteArray := prog_10_method_93_code
def yX3_allMeetIn : MethodName := ⟨RX3, "allMeetIn", "(IIII)I"⟩
def dkwX3_allMeetIn_6 : List UInt8 := [172]
abbrev dktX3_allMeetIn_6 : List UInt8 := dkwX3_allMeetIn_6 ++ []
def dkwX3_allMeetIn_5 : List UInt8 := [21, 7, 21, 4, 182, 0, 208, 153, 0, 6, 21, 6, 172, 132, 6, 1, 167, 255, 191, 42, 5, 182, 0, 51]
abbrev dktX3_allMeetIn_5 : List UInt8 := dkwX3_allMeetIn_5 ++ dktX3_allMeetIn_6
def dkwX3_allMeetIn_4 : List UInt8 := [21, 4, 182, 0, 208, 153, 0, 32, 42, 28, 29, 21, 7, 21, 4, 182, 0, 208, 153, 0, 19, 42, 27, 29]
abbrev dktX3_allMeetIn_4 : List UInt8 := dkwX3_allMeetIn_4 ++ dktX3_allMeetIn_5
def dkwX3_allMeetIn_3 : List UInt8 := [17, 3, 232, 163, 0, 63, 42, 180, 0, 7, 16, 111, 46, 21, 6, 96, 54, 7, 42, 27, 28, 21, 7]
abbrev dktX3_allMeetIn_3 : List UInt8 := dkwX3_allMeetIn_3 ++ dktX3_allMeetIn_4
def dkwX3_allMeetIn_2 : List UInt8 := [182, 0, 204, 153, 0, 12, 42, 29, 4, 182, 0, 180, 154, 0, 5, 3, 172, 4, 54, 6, 21, 6]
abbrev dktX3_allMeetIn_2 : List UInt8 := dkwX3_allMeetIn_2 ++ dktX3_allMeetIn_3
def dkwX3_allMeetIn_1 : List UInt8 := [153, 0, 16, 42, 27, 29, 182, 0, 195, 153, 0, 7, 4, 167, 0, 4, 3, 54, 5, 42, 27, 28, 21, 5]
abbrev dktX3_allMeetIn_1 : List UInt8 := dkwX3_allMeetIn_1 ++ dktX3_allMeetIn_2
def dkwX3_allMeetIn_0 : List UInt8 := [21, 4, 184, 0, 201, 153, 0, 34, 42, 27, 28, 182, 0, 195, 153, 0, 25, 42, 28, 29, 182, 0, 195]
abbrev dktX3_allMeetIn_0 : List UInt8 := dkwX3_allMeetIn_0 ++ dktX3_allMeetIn_1
theorem dksX3_allMeetIn_0 : cX3_allMeetIn.data.toList.drop 0 = dktX3_allMeetIn_0 := by decide +kernel
theorem dksX3_allMeetIn_1 : cX3_allMeetIn.data.toList.drop 23 = dktX3_allMeetIn_1 := dk_seg dksX3_allMeetIn_0 23 rfl rfl
theorem dksX3_allMeetIn_2 : cX3_allMeetIn.data.toList.drop 47 = dktX3_allMeetIn_2 := dk_seg dksX3_allMeetIn_1 24 rfl rfl
theorem dksX3_allMeetIn_3 : cX3_allMeetIn.data.toList.drop 69 = dktX3_allMeetIn_3 := dk_seg dksX3_allMeetIn_2 22 rfl rfl
theorem dksX3_allMeetIn_4 : cX3_allMeetIn.data.toList.drop 92 = dktX3_allMeetIn_4 := dk_seg dksX3_allMeetIn_3 23 rfl rfl
theorem dksX3_allMeetIn_5 : cX3_allMeetIn.data.toList.drop 116 = dktX3_allMeetIn_5 := dk_seg dksX3_allMeetIn_4 24 rfl rfl
theorem dksX3_allMeetIn_6 : cX3_allMeetIn.data.toList.drop 140 = dktX3_allMeetIn_6 := dk_seg dksX3_allMeetIn_5 24 rfl rfl
theorem dX3_allMeetIn_0 : decode cX3_allMeetIn 0 = .ok (.iload 4, 2) := dk_21 4 (dk_at dksX3_allMeetIn_0 0 rfl rfl)
theorem dX3_allMeetIn_2 : decode cX3_allMeetIn 2 = .ok (.invokestatic 201, 3) := dk_184 0 201 (dk_at dksX3_allMeetIn_0 2 rfl rfl)
theorem dX3_allMeetIn_5 : decode cX3_allMeetIn 5 = .ok (.ifCond .eq 34, 3) := dk_153 0 34 (dk_at dksX3_allMeetIn_0 5 rfl rfl)
theorem dX3_allMeetIn_8 : decode cX3_allMeetIn 8 = .ok (.aload_n 0, 1) := dk_42 (dk_at dksX3_allMeetIn_0 8 rfl rfl)
theorem dX3_allMeetIn_9 : decode cX3_allMeetIn 9 = .ok (.iload_n 1, 1) := dk_27 (dk_at dksX3_allMeetIn_0 9 rfl rfl)
theorem dX3_allMeetIn_10 : decode cX3_allMeetIn 10 = .ok (.iload_n 2, 1) := dk_28 (dk_at dksX3_allMeetIn_0 10 rfl rfl)
theorem dX3_allMeetIn_11 : decode cX3_allMeetIn 11 = .ok (.invokevirtual 195, 3) := dk_182 0 195 (dk_at dksX3_allMeetIn_0 11 rfl rfl)
theorem dX3_allMeetIn_14 : decode cX3_allMeetIn 14 = .ok (.ifCond .eq 25, 3) := dk_153 0 25 (dk_at dksX3_allMeetIn_0 14 rfl rfl)
theorem dX3_allMeetIn_17 : decode cX3_allMeetIn 17 = .ok (.aload_n 0, 1) := dk_42 (dk_at dksX3_allMeetIn_0 17 rfl rfl)
theorem dX3_allMeetIn_18 : decode cX3_allMeetIn 18 = .ok (.iload_n 2, 1) := dk_28 (dk_at dksX3_allMeetIn_0 18 rfl rfl)
theorem dX3_allMeetIn_19 : decode cX3_allMeetIn 19 = .ok (.iload_n 3, 1) := dk_29 (dk_at dksX3_allMeetIn_0 19 rfl rfl)
theorem dX3_allMeetIn_20 : decode cX3_allMeetIn 20 = .ok (.invokevirtual 195, 3) := dk_182 0 195 (dk_at dksX3_allMeetIn_0 20 rfl rfl)
theorem dX3_allMeetIn_23 : decode cX3_allMeetIn 23 = .ok (.ifCond .eq 16, 3) := dk_153 0 16 (dk_at dksX3_allMeetIn_1 0 rfl rfl)
theorem dX3_allMeetIn_26 : decode cX3_allMeetIn 26 = .ok (.aload_n 0, 1) := dk_42 (dk_at dksX3_allMeetIn_1 3 rfl rfl)
theorem dX3_allMeetIn_27 : decode cX3_allMeetIn 27 = .ok (.iload_n 1, 1) := dk_27 (dk_at dksX3_allMeetIn_1 4 rfl rfl)
theorem dX3_allMeetIn_28 : decode cX3_allMeetIn 28 = .ok (.iload_n 3, 1) := dk_29 (dk_at dksX3_allMeetIn_1 5 rfl rfl)
theorem dX3_allMeetIn_29 : decode cX3_allMeetIn 29 = .ok (.invokevirtual 195, 3) := dk_182 0 195 (dk_at dksX3_allMeetIn_1 6 rfl rfl)
theorem dX3_allMeetIn_32 : decode cX3_allMeetIn 32 = .ok (.ifCond .eq 7, 3) := dk_153 0 7 (dk_at dksX3_allMeetIn_1 9 rfl rfl)
theorem dX3_allMeetIn_35 : decode cX3_allMeetIn 35 = .ok (.iconst 1, 1) := dk_4 (dk_at dksX3_allMeetIn_1 12 rfl rfl)
theorem dX3_allMeetIn_36 : decode cX3_allMeetIn 36 = .ok (.goto 4, 3) := dk_167 0 4 (dk_at dksX3_allMeetIn_1 13 rfl rfl)
theorem dX3_allMeetIn_39 : decode cX3_allMeetIn 39 = .ok (.iconst 0, 1) := dk_3 (dk_at dksX3_allMeetIn_1 16 rfl rfl)
theorem dX3_allMeetIn_40 : decode cX3_allMeetIn 40 = .ok (.istore 5, 2) := dk_54 5 (dk_at dksX3_allMeetIn_1 17 rfl rfl)
theorem dX3_allMeetIn_42 : decode cX3_allMeetIn 42 = .ok (.aload_n 0, 1) := dk_42 (dk_at dksX3_allMeetIn_1 19 rfl rfl)
theorem dX3_allMeetIn_43 : decode cX3_allMeetIn 43 = .ok (.iload_n 1, 1) := dk_27 (dk_at dksX3_allMeetIn_1 20 rfl rfl)
theorem dX3_allMeetIn_44 : decode cX3_allMeetIn 44 = .ok (.iload_n 2, 1) := dk_28 (dk_at dksX3_allMeetIn_1 21 rfl rfl)
theorem dX3_allMeetIn_45 : decode cX3_allMeetIn 45 = .ok (.iload 5, 2) := dk_21 5 (dk_at dksX3_allMeetIn_1 22 rfl rfl)
theorem dX3_allMeetIn_47 : decode cX3_allMeetIn 47 = .ok (.invokevirtual 204, 3) := dk_182 0 204 (dk_at dksX3_allMeetIn_2 0 rfl rfl)
theorem dX3_allMeetIn_50 : decode cX3_allMeetIn 50 = .ok (.ifCond .eq 12, 3) := dk_153 0 12 (dk_at dksX3_allMeetIn_2 3 rfl rfl)
theorem dX3_allMeetIn_53 : decode cX3_allMeetIn 53 = .ok (.aload_n 0, 1) := dk_42 (dk_at dksX3_allMeetIn_2 6 rfl rfl)
theorem dX3_allMeetIn_54 : decode cX3_allMeetIn 54 = .ok (.iload_n 3, 1) := dk_29 (dk_at dksX3_allMeetIn_2 7 rfl rfl)
theorem dX3_allMeetIn_55 : decode cX3_allMeetIn 55 = .ok (.iconst 1, 1) := dk_4 (dk_at dksX3_allMeetIn_2 8 rfl rfl)
theorem dX3_allMeetIn_56 : decode cX3_allMeetIn 56 = .ok (.invokevirtual 180, 3) := dk_182 0 180 (dk_at dksX3_allMeetIn_2 9 rfl rfl)
theorem dX3_allMeetIn_59 : decode cX3_allMeetIn 59 = .ok (.ifCond .ne 5, 3) := dk_154 0 5 (dk_at dksX3_allMeetIn_2 12 rfl rfl)
theorem dX3_allMeetIn_62 : decode cX3_allMeetIn 62 = .ok (.iconst 0, 1) := dk_3 (dk_at dksX3_allMeetIn_2 15 rfl rfl)
theorem dX3_allMeetIn_63 : decode cX3_allMeetIn 63 = .ok (.ireturn, 1) := dk_172 (dk_at dksX3_allMeetIn_2 16 rfl rfl)
theorem dX3_allMeetIn_64 : decode cX3_allMeetIn 64 = .ok (.iconst 1, 1) := dk_4 (dk_at dksX3_allMeetIn_2 17 rfl rfl)
theorem dX3_allMeetIn_65 : decode cX3_allMeetIn 65 = .ok (.istore 6, 2) := dk_54 6 (dk_at dksX3_allMeetIn_2 18 rfl rfl)
theorem dX3_allMeetIn_67 : decode cX3_allMeetIn 67 = .ok (.iload 6, 2) := dk_21 6 (dk_at dksX3_allMeetIn_2 20 rfl rfl)
theorem dX3_allMeetIn_69 : decode cX3_allMeetIn 69 = .ok (.sipush 1000, 3) := dk_17 3 232 (dk_at dksX3_allMeetIn_3 0 rfl rfl)
theorem dX3_allMeetIn_72 : decode cX3_allMeetIn 72 = .ok (.if_icmp .gt 63, 3) := dk_163 0 63 (dk_at dksX3_allMeetIn_3 3 rfl rfl)
theorem dX3_allMeetIn_75 : decode cX3_allMeetIn 75 = .ok (.aload_n 0, 1) := dk_42 (dk_at dksX3_allMeetIn_3 6 rfl rfl)
theorem dX3_allMeetIn_76 : decode cX3_allMeetIn 76 = .ok (.getfield 7, 3) := dk_180 0 7 (dk_at dksX3_allMeetIn_3 7 rfl rfl)
theorem dX3_allMeetIn_79 : decode cX3_allMeetIn 79 = .ok (.bipush 111, 2) := dk_16 111 (dk_at dksX3_allMeetIn_3 10 rfl rfl)
theorem dX3_allMeetIn_81 : decode cX3_allMeetIn 81 = .ok (.iaload, 1) := dk_46 (dk_at dksX3_allMeetIn_3 12 rfl rfl)
theorem dX3_allMeetIn_82 : decode cX3_allMeetIn 82 = .ok (.iload 6, 2) := dk_21 6 (dk_at dksX3_allMeetIn_3 13 rfl rfl)
theorem dX3_allMeetIn_84 : decode cX3_allMeetIn 84 = .ok (.iadd, 1) := dk_96 (dk_at dksX3_allMeetIn_3 15 rfl rfl)
theorem dX3_allMeetIn_85 : decode cX3_allMeetIn 85 = .ok (.istore 7, 2) := dk_54 7 (dk_at dksX3_allMeetIn_3 16 rfl rfl)
theorem dX3_allMeetIn_87 : decode cX3_allMeetIn 87 = .ok (.aload_n 0, 1) := dk_42 (dk_at dksX3_allMeetIn_3 18 rfl rfl)
theorem dX3_allMeetIn_88 : decode cX3_allMeetIn 88 = .ok (.iload_n 1, 1) := dk_27 (dk_at dksX3_allMeetIn_3 19 rfl rfl)
theorem dX3_allMeetIn_89 : decode cX3_allMeetIn 89 = .ok (.iload_n 2, 1) := dk_28 (dk_at dksX3_allMeetIn_3 20 rfl rfl)
theorem dX3_allMeetIn_90 : decode cX3_allMeetIn 90 = .ok (.iload 7, 2) := dk_21 7 (dk_at dksX3_allMeetIn_3 21 rfl rfl)
theorem dX3_allMeetIn_92 : decode cX3_allMeetIn 92 = .ok (.iload 4, 2) := dk_21 4 (dk_at dksX3_allMeetIn_4 0 rfl rfl)
theorem dX3_allMeetIn_94 : decode cX3_allMeetIn 94 = .ok (.invokevirtual 208, 3) := dk_182 0 208 (dk_at dksX3_allMeetIn_4 2 rfl rfl)
theorem dX3_allMeetIn_97 : decode cX3_allMeetIn 97 = .ok (.ifCond .eq 32, 3) := dk_153 0 32 (dk_at dksX3_allMeetIn_4 5 rfl rfl)
theorem dX3_allMeetIn_100 : decode cX3_allMeetIn 100 = .ok (.aload_n 0, 1) := dk_42 (dk_at dksX3_allMeetIn_4 8 rfl rfl)
theorem dX3_allMeetIn_101 : decode cX3_allMeetIn 101 = .ok (.iload_n 2, 1) := dk_28 (dk_at dksX3_allMeetIn_4 9 rfl rfl)
theorem dX3_allMeetIn_102 : decode cX3_allMeetIn 102 = .ok (.iload_n 3, 1) := dk_29 (dk_at dksX3_allMeetIn_4 10 rfl rfl)
theorem dX3_allMeetIn_103 : decode cX3_allMeetIn 103 = .ok (.iload 7, 2) := dk_21 7 (dk_at dksX3_allMeetIn_4 11 rfl rfl)
theorem dX3_allMeetIn_105 : decode cX3_allMeetIn 105 = .ok (.iload 4, 2) := dk_21 4 (dk_at dksX3_allMeetIn_4 13 rfl rfl)
theorem dX3_allMeetIn_107 : decode cX3_allMeetIn 107 = .ok (.invokevirtual 208, 3) := dk_182 0 208 (dk_at dksX3_allMeetIn_4 15 rfl rfl)
theorem dX3_allMeetIn_110 : decode cX3_allMeetIn 110 = .ok (.ifCond .eq 19, 3) := dk_153 0 19 (dk_at dksX3_allMeetIn_4 18 rfl rfl)
theorem dX3_allMeetIn_113 : decode cX3_allMeetIn 113 = .ok (.aload_n 0, 1) := dk_42 (dk_at dksX3_allMeetIn_4 21 rfl rfl)
theorem dX3_allMeetIn_114 : decode cX3_allMeetIn 114 = .ok (.iload_n 1, 1) := dk_27 (dk_at dksX3_allMeetIn_4 22 rfl rfl)
theorem dX3_allMeetIn_115 : decode cX3_allMeetIn 115 = .ok (.iload_n 3, 1) := dk_29 (dk_at dksX3_allMeetIn_4 23 rfl rfl)
theorem dX3_allMeetIn_116 : decode cX3_allMeetIn 116 = .ok (.iload 7, 2) := dk_21 7 (dk_at dksX3_allMeetIn_5 0 rfl rfl)
theorem dX3_allMeetIn_118 : decode cX3_allMeetIn 118 = .ok (.iload 4, 2) := dk_21 4 (dk_at dksX3_allMeetIn_5 2 rfl rfl)
theorem dX3_allMeetIn_120 : decode cX3_allMeetIn 120 = .ok (.invokevirtual 208, 3) := dk_182 0 208 (dk_at dksX3_allMeetIn_5 4 rfl rfl)
theorem dX3_allMeetIn_123 : decode cX3_allMeetIn 123 = .ok (.ifCond .eq 6, 3) := dk_153 0 6 (dk_at dksX3_allMeetIn_5 7 rfl rfl)
theorem dX3_allMeetIn_126 : decode cX3_allMeetIn 126 = .ok (.iload 6, 2) := dk_21 6 (dk_at dksX3_allMeetIn_5 10 rfl rfl)
theorem dX3_allMeetIn_128 : decode cX3_allMeetIn 128 = .ok (.ireturn, 1) := dk_172 (dk_at dksX3_allMeetIn_5 12 rfl rfl)
theorem dX3_allMeetIn_129 : decode cX3_allMeetIn 129 = .ok (.iinc 6 1, 3) := dk_132 6 1 (dk_at dksX3_allMeetIn_5 13 rfl rfl)
theorem dX3_allMeetIn_132 : decode cX3_allMeetIn 132 = .ok (.goto (-65), 3) := dk_167 255 191 (dk_at dksX3_allMeetIn_5 16 rfl rfl)
theorem dX3_allMeetIn_135 : decode cX3_allMeetIn 135 = .ok (.aload_n 0, 1) := dk_42 (dk_at dksX3_allMeetIn_5 19 rfl rfl)
theorem dX3_allMeetIn_136 : decode cX3_allMeetIn 136 = .ok (.iconst 2, 1) := dk_5 (dk_at dksX3_allMeetIn_5 20 rfl rfl)
theorem dX3_allMeetIn_137 : decode cX3_allMeetIn 137 = .ok (.invokevirtual 51, 3) := dk_182 0 51 (dk_at dksX3_allMeetIn_5 21 rfl rfl)
theorem dX3_allMeetIn_140 : decode cX3_allMeetIn 140 = .ok (.ireturn, 1) := dk_172 (dk_at dksX3_allMeetIn_6 0 rfl rfl)
abbrev cX3_farthestIn : ByteArray := prog_10_method_94_code
def yX3_farthestIn : MethodName := ⟨RX3, "farthestIn", "(II)I"⟩
def dkwX3_farthestIn_4 : List UInt8 := [132, 5, 1, 167, 255, 180, 29, 172]
abbrev dktX3_farthestIn_4 : List UInt8 := dkwX3_farthestIn_4 ++ []
def dkwX3_farthestIn_3 : List UInt8 := [21, 5, 167, 0, 4, 29, 62, 21, 6, 21, 4, 164, 0, 8, 21, 6, 167, 0, 5, 21, 4, 54, 4]
abbrev dktX3_farthestIn_3 : List UInt8 := dkwX3_farthestIn_3 ++ dktX3_farthestIn_4
def dkwX3_farthestIn_2 : List UInt8 := [180, 0, 7, 16, 111, 46, 21, 5, 96, 182, 0, 183, 184, 0, 198, 54, 6, 21, 6, 21, 4, 164, 0, 8]
abbrev dktX3_farthestIn_2 : List UInt8 := dkwX3_farthestIn_2 ++ dktX3_farthestIn_3
def dkwX3_farthestIn_1 : List UInt8 := [17, 3, 232, 163, 0, 74, 42, 27, 42, 180, 0, 7, 16, 111, 46, 21, 5, 96, 182, 0, 183, 42, 28, 42]
abbrev dktX3_farthestIn_1 : List UInt8 := dkwX3_farthestIn_1 ++ dktX3_farthestIn_2
def dkwX3_farthestIn_0 : List UInt8 := [42, 27, 28, 4, 182, 0, 204, 154, 0, 5, 3, 172, 3, 62, 2, 54, 4, 4, 54, 5, 21, 5]
abbrev dktX3_farthestIn_0 : List UInt8 := dkwX3_farthestIn_0 ++ dktX3_farthestIn_1
theorem dksX3_farthestIn_0 : cX3_farthestIn.data.toList.drop 0 = dktX3_farthestIn_0 := by decide +kernel
theorem dksX3_farthestIn_1 : cX3_farthestIn.data.toList.drop 22 = dktX3_farthestIn_1 := dk_seg dksX3_farthestIn_0 22 rfl rfl
theorem dksX3_farthestIn_2 : cX3_farthestIn.data.toList.drop 46 = dktX3_farthestIn_2 := dk_seg dksX3_farthestIn_1 24 rfl rfl
theorem dksX3_farthestIn_3 : cX3_farthestIn.data.toList.drop 70 = dktX3_farthestIn_3 := dk_seg dksX3_farthestIn_2 24 rfl rfl
theorem dksX3_farthestIn_4 : cX3_farthestIn.data.toList.drop 93 = dktX3_farthestIn_4 := dk_seg dksX3_farthestIn_3 23 rfl rfl
theorem dX3_farthestIn_0 : decode cX3_farthestIn 0 = .ok (.aload_n 0, 1) := dk_42 (dk_at dksX3_farthestIn_0 0 rfl rfl)
theorem dX3_farthestIn_1 : decode cX3_farthestIn 1 = .ok (.iload_n 1, 1) := dk_27 (dk_at dksX3_farthestIn_0 1 rfl rfl)
theorem dX3_farthestIn_2 : decode cX3_farthestIn 2 = .ok (.iload_n 2, 1) := dk_28 (dk_at dksX3_farthestIn_0 2 rfl rfl)
theorem dX3_farthestIn_3 : decode cX3_farthestIn 3 = .ok (.iconst 1, 1) := dk_4 (dk_at dksX3_farthestIn_0 3 rfl rfl)
theorem dX3_farthestIn_4 : decode cX3_farthestIn 4 = .ok (.invokevirtual 204, 3) := dk_182 0 204 (dk_at dksX3_farthestIn_0 4 rfl rfl)
theorem dX3_farthestIn_7 : decode cX3_farthestIn 7 = .ok (.ifCond .ne 5, 3) := dk_154 0 5 (dk_at dksX3_farthestIn_0 7 rfl rfl)
theorem dX3_farthestIn_10 : decode cX3_farthestIn 10 = .ok (.iconst 0, 1) := dk_3 (dk_at dksX3_farthestIn_0 10 rfl rfl)
theorem dX3_farthestIn_11 : decode cX3_farthestIn 11 = .ok (.ireturn, 1) := dk_172 (dk_at dksX3_farthestIn_0 11 rfl rfl)
theorem dX3_farthestIn_12 : decode cX3_farthestIn 12 = .ok (.iconst 0, 1) := dk_3 (dk_at dksX3_farthestIn_0 12 rfl rfl)
theorem dX3_farthestIn_13 : decode cX3_farthestIn 13 = .ok (.istore_n 3, 1) := dk_62 (dk_at dksX3_farthestIn_0 13 rfl rfl)
theorem dX3_farthestIn_14 : decode cX3_farthestIn 14 = .ok (.iconst (-1), 1) := dk_2 (dk_at dksX3_farthestIn_0 14 rfl rfl)
theorem dX3_farthestIn_15 : decode cX3_farthestIn 15 = .ok (.istore 4, 2) := dk_54 4 (dk_at dksX3_farthestIn_0 15 rfl rfl)
theorem dX3_farthestIn_17 : decode cX3_farthestIn 17 = .ok (.iconst 1, 1) := dk_4 (dk_at dksX3_farthestIn_0 17 rfl rfl)
theorem dX3_farthestIn_18 : decode cX3_farthestIn 18 = .ok (.istore 5, 2) := dk_54 5 (dk_at dksX3_farthestIn_0 18 rfl rfl)
theorem dX3_farthestIn_20 : decode cX3_farthestIn 20 = .ok (.iload 5, 2) := dk_21 5 (dk_at dksX3_farthestIn_0 20 rfl rfl)
theorem dX3_farthestIn_22 : decode cX3_farthestIn 22 = .ok (.sipush 1000, 3) := dk_17 3 232 (dk_at dksX3_farthestIn_1 0 rfl rfl)
theorem dX3_farthestIn_25 : decode cX3_farthestIn 25 = .ok (.if_icmp .gt 74, 3) := dk_163 0 74 (dk_at dksX3_farthestIn_1 3 rfl rfl)
theorem dX3_farthestIn_28 : decode cX3_farthestIn 28 = .ok (.aload_n 0, 1) := dk_42 (dk_at dksX3_farthestIn_1 6 rfl rfl)
theorem dX3_farthestIn_29 : decode cX3_farthestIn 29 = .ok (.iload_n 1, 1) := dk_27 (dk_at dksX3_farthestIn_1 7 rfl rfl)
theorem dX3_farthestIn_30 : decode cX3_farthestIn 30 = .ok (.aload_n 0, 1) := dk_42 (dk_at dksX3_farthestIn_1 8 rfl rfl)
theorem dX3_farthestIn_31 : decode cX3_farthestIn 31 = .ok (.getfield 7, 3) := dk_180 0 7 (dk_at dksX3_farthestIn_1 9 rfl rfl)
theorem dX3_farthestIn_34 : decode cX3_farthestIn 34 = .ok (.bipush 111, 2) := dk_16 111 (dk_at dksX3_farthestIn_1 12 rfl rfl)
theorem dX3_farthestIn_36 : decode cX3_farthestIn 36 = .ok (.iaload, 1) := dk_46 (dk_at dksX3_farthestIn_1 14 rfl rfl)
theorem dX3_farthestIn_37 : decode cX3_farthestIn 37 = .ok (.iload 5, 2) := dk_21 5 (dk_at dksX3_farthestIn_1 15 rfl rfl)
theorem dX3_farthestIn_39 : decode cX3_farthestIn 39 = .ok (.iadd, 1) := dk_96 (dk_at dksX3_farthestIn_1 17 rfl rfl)
theorem dX3_farthestIn_40 : decode cX3_farthestIn 40 = .ok (.invokevirtual 183, 3) := dk_182 0 183 (dk_at dksX3_farthestIn_1 18 rfl rfl)
theorem dX3_farthestIn_43 : decode cX3_farthestIn 43 = .ok (.aload_n 0, 1) := dk_42 (dk_at dksX3_farthestIn_1 21 rfl rfl)
theorem dX3_farthestIn_44 : decode cX3_farthestIn 44 = .ok (.iload_n 2, 1) := dk_28 (dk_at dksX3_farthestIn_1 22 rfl rfl)
theorem dX3_farthestIn_45 : decode cX3_farthestIn 45 = .ok (.aload_n 0, 1) := dk_42 (dk_at dksX3_farthestIn_1 23 rfl rfl)
theorem dX3_farthestIn_46 : decode cX3_farthestIn 46 = .ok (.getfield 7, 3) := dk_180 0 7 (dk_at dksX3_farthestIn_2 0 rfl rfl)
theorem dX3_farthestIn_49 : decode cX3_farthestIn 49 = .ok (.bipush 111, 2) := dk_16 111 (dk_at dksX3_farthestIn_2 3 rfl rfl)
theorem dX3_farthestIn_51 : decode cX3_farthestIn 51 = .ok (.iaload, 1) := dk_46 (dk_at dksX3_farthestIn_2 5 rfl rfl)
theorem dX3_farthestIn_52 : decode cX3_farthestIn 52 = .ok (.iload 5, 2) := dk_21 5 (dk_at dksX3_farthestIn_2 6 rfl rfl)
theorem dX3_farthestIn_54 : decode cX3_farthestIn 54 = .ok (.iadd, 1) := dk_96 (dk_at dksX3_farthestIn_2 8 rfl rfl)
theorem dX3_farthestIn_55 : decode cX3_farthestIn 55 = .ok (.invokevirtual 183, 3) := dk_182 0 183 (dk_at dksX3_farthestIn_2 9 rfl rfl)
theorem dX3_farthestIn_58 : decode cX3_farthestIn 58 = .ok (.invokestatic 198, 3) := dk_184 0 198 (dk_at dksX3_farthestIn_2 12 rfl rfl)
theorem dX3_farthestIn_61 : decode cX3_farthestIn 61 = .ok (.istore 6, 2) := dk_54 6 (dk_at dksX3_farthestIn_2 15 rfl rfl)
theorem dX3_farthestIn_63 : decode cX3_farthestIn 63 = .ok (.iload 6, 2) := dk_21 6 (dk_at dksX3_farthestIn_2 17 rfl rfl)
theorem dX3_farthestIn_65 : decode cX3_farthestIn 65 = .ok (.iload 4, 2) := dk_21 4 (dk_at dksX3_farthestIn_2 19 rfl rfl)
theorem dX3_farthestIn_67 : decode cX3_farthestIn 67 = .ok (.if_icmp .le 8, 3) := dk_164 0 8 (dk_at dksX3_farthestIn_2 21 rfl rfl)
theorem dX3_farthestIn_70 : decode cX3_farthestIn 70 = .ok (.iload 5, 2) := dk_21 5 (dk_at dksX3_farthestIn_3 0 rfl rfl)
theorem dX3_farthestIn_72 : decode cX3_farthestIn 72 = .ok (.goto 4, 3) := dk_167 0 4 (dk_at dksX3_farthestIn_3 2 rfl rfl)
theorem dX3_farthestIn_75 : decode cX3_farthestIn 75 = .ok (.iload_n 3, 1) := dk_29 (dk_at dksX3_farthestIn_3 5 rfl rfl)
theorem dX3_farthestIn_76 : decode cX3_farthestIn 76 = .ok (.istore_n 3, 1) := dk_62 (dk_at dksX3_farthestIn_3 6 rfl rfl)
theorem dX3_farthestIn_77 : decode cX3_farthestIn 77 = .ok (.iload 6, 2) := dk_21 6 (dk_at dksX3_farthestIn_3 7 rfl rfl)
theorem dX3_farthestIn_79 : decode cX3_farthestIn 79 = .ok (.iload 4, 2) := dk_21 4 (dk_at dksX3_farthestIn_3 9 rfl rfl)
theorem dX3_farthestIn_81 : decode cX3_farthestIn 81 = .ok (.if_icmp .le 8, 3) := dk_164 0 8 (dk_at dksX3_farthestIn_3 11 rfl rfl)
theorem dX3_farthestIn_84 : decode cX3_farthestIn 84 = .ok (.iload 6, 2) := dk_21 6 (dk_at dksX3_farthestIn_3 14 rfl rfl)
theorem dX3_farthestIn_86 : decode cX3_farthestIn 86 = .ok (.goto 5, 3) := dk_167 0 5 (dk_at dksX3_farthestIn_3 16 rfl rfl)
theorem dX3_farthestIn_89 : decode cX3_farthestIn 89 = .ok (.iload 4, 2) := dk_21 4 (dk_at dksX3_farthestIn_3 19 rfl rfl)
theorem dX3_farthestIn_91 : decode cX3_farthestIn 91 = .ok (.istore 4, 2) := dk_54 4 (dk_at dksX3_farthestIn_3 21 rfl rfl)
theorem dX3_farthestIn_93 : decode cX3_farthestIn 93 = .ok (.iinc 5 1, 3) := dk_132 5 1 (dk_at dksX3_farthestIn_4 0 rfl rfl)
theorem dX3_farthestIn_96 : decode cX3_farthestIn 96 = .ok (.goto (-76), 3) := dk_167 255 180 (dk_at dksX3_farthestIn_4 3 rfl rfl)
theorem dX3_farthestIn_99 : decode cX3_farthestIn 99 = .ok (.iload_n 3, 1) := dk_29 (dk_at dksX3_farthestIn_4 6 rfl rfl)
theorem dX3_farthestIn_100 : decode cX3_farthestIn 100 = .ok (.ireturn, 1) := dk_172 (dk_at dksX3_farthestIn_4 7 rfl rfl)
abbrev cX3_bendFor : ByteArray := prog_10_method_95_code
def yX3_bendFor : MethodName := ⟨RX3, "bendFor", "(II)I"⟩
def dkwX3_bendFor_4 : List UInt8 := [21, 5, 162, 0, 8, 21, 7, 167, 0, 5, 21, 5, 54, 5, 132, 6, 1, 167, 255, 197, 21, 4, 172]
abbrev dktX3_bendFor_4 : List UInt8 := dkwX3_bendFor_4 ++ []
def dkwX3_bendFor_3 : List UInt8 := [184, 0, 198, 54, 7, 21, 7, 21, 5, 162, 0, 8, 21, 6, 167, 0, 5, 21, 4, 54, 4, 21, 7]
abbrev dktX3_bendFor_3 : List UInt8 := dkwX3_bendFor_3 ++ dktX3_bendFor_4
def dkwX3_bendFor_2 : List UInt8 := [17, 255, 76, 54, 6, 21, 6, 17, 0, 180, 163, 0, 57, 29, 16, 60, 21, 6, 104, 96, 184, 0, 177, 28]
abbrev dktX3_bendFor_2 : List UInt8 := dkwX3_bendFor_2 ++ dktX3_bendFor_3
def dkwX3_bendFor_1 : List UInt8 := [16, 84, 27, 96, 46, 42, 180, 0, 7, 16, 111, 46, 182, 0, 174, 62, 3, 54, 4, 17, 84, 96, 54, 5]
abbrev dktX3_bendFor_1 : List UInt8 := dkwX3_bendFor_1 ++ dktX3_bendFor_2
def dkwX3_bendFor_0 : List UInt8 := [42, 27, 28, 3, 17, 84, 95, 184, 0, 58, 182, 0, 180, 154, 0, 5, 3, 172, 42, 42, 180, 0, 7]
abbrev dktX3_bendFor_0 : List UInt8 := dkwX3_bendFor_0 ++ dktX3_bendFor_1
theorem dksX3_bendFor_0 : cX3_bendFor.data.toList.drop 0 = dktX3_bendFor_0 := by decide +kernel
theorem dksX3_bendFor_1 : cX3_bendFor.data.toList.drop 23 = dktX3_bendFor_1 := dk_seg dksX3_bendFor_0 23 rfl rfl
theorem dksX3_bendFor_2 : cX3_bendFor.data.toList.drop 47 = dktX3_bendFor_2 := dk_seg dksX3_bendFor_1 24 rfl rfl
theorem dksX3_bendFor_3 : cX3_bendFor.data.toList.drop 71 = dktX3_bendFor_3 := dk_seg dksX3_bendFor_2 24 rfl rfl
theorem dksX3_bendFor_4 : cX3_bendFor.data.toList.drop 94 = dktX3_bendFor_4 := dk_seg dksX3_bendFor_3 23 rfl rfl
theorem dX3_bendFor_0 : decode cX3_bendFor 0 = .ok (.aload_n 0, 1) := dk_42 (dk_at dksX3_bendFor_0 0 rfl rfl)
theorem dX3_bendFor_1 : decode cX3_bendFor 1 = .ok (.iload_n 1, 1) := dk_27 (dk_at dksX3_bendFor_0 1 rfl rfl)
theorem dX3_bendFor_2 : decode cX3_bendFor 2 = .ok (.iload_n 2, 1) := dk_28 (dk_at dksX3_bendFor_0 2 rfl rfl)
theorem dX3_bendFor_3 : decode cX3_bendFor 3 = .ok (.iconst 0, 1) := dk_3 (dk_at dksX3_bendFor_0 3 rfl rfl)
theorem dX3_bendFor_4 : decode cX3_bendFor 4 = .ok (.sipush 21599, 3) := dk_17 84 95 (dk_at dksX3_bendFor_0 4 rfl rfl)
theorem dX3_bendFor_7 : decode cX3_bendFor 7 = .ok (.invokestatic 58, 3) := dk_184 0 58 (dk_at dksX3_bendFor_0 7 rfl rfl)
theorem dX3_bendFor_10 : decode cX3_bendFor 10 = .ok (.invokevirtual 180, 3) := dk_182 0 180 (dk_at dksX3_bendFor_0 10 rfl rfl)
theorem dX3_bendFor_13 : decode cX3_bendFor 13 = .ok (.ifCond .ne 5, 3) := dk_154 0 5 (dk_at dksX3_bendFor_0 13 rfl rfl)
theorem dX3_bendFor_16 : decode cX3_bendFor 16 = .ok (.iconst 0, 1) := dk_3 (dk_at dksX3_bendFor_0 16 rfl rfl)
theorem dX3_bendFor_17 : decode cX3_bendFor 17 = .ok (.ireturn, 1) := dk_172 (dk_at dksX3_bendFor_0 17 rfl rfl)
theorem dX3_bendFor_18 : decode cX3_bendFor 18 = .ok (.aload_n 0, 1) := dk_42 (dk_at dksX3_bendFor_0 18 rfl rfl)
theorem dX3_bendFor_19 : decode cX3_bendFor 19 = .ok (.aload_n 0, 1) := dk_42 (dk_at dksX3_bendFor_0 19 rfl rfl)
theorem dX3_bendFor_20 : decode cX3_bendFor 20 = .ok (.getfield 7, 3) := dk_180 0 7 (dk_at dksX3_bendFor_0 20 rfl rfl)
theorem dX3_bendFor_23 : decode cX3_bendFor 23 = .ok (.bipush 84, 2) := dk_16 84 (dk_at dksX3_bendFor_1 0 rfl rfl)
theorem dX3_bendFor_25 : decode cX3_bendFor 25 = .ok (.iload_n 1, 1) := dk_27 (dk_at dksX3_bendFor_1 2 rfl rfl)
theorem dX3_bendFor_26 : decode cX3_bendFor 26 = .ok (.iadd, 1) := dk_96 (dk_at dksX3_bendFor_1 3 rfl rfl)
theorem dX3_bendFor_27 : decode cX3_bendFor 27 = .ok (.iaload, 1) := dk_46 (dk_at dksX3_bendFor_1 4 rfl rfl)
theorem dX3_bendFor_28 : decode cX3_bendFor 28 = .ok (.aload_n 0, 1) := dk_42 (dk_at dksX3_bendFor_1 5 rfl rfl)
theorem dX3_bendFor_29 : decode cX3_bendFor 29 = .ok (.getfield 7, 3) := dk_180 0 7 (dk_at dksX3_bendFor_1 6 rfl rfl)
theorem dX3_bendFor_32 : decode cX3_bendFor 32 = .ok (.bipush 111, 2) := dk_16 111 (dk_at dksX3_bendFor_1 9 rfl rfl)
theorem dX3_bendFor_34 : decode cX3_bendFor 34 = .ok (.iaload, 1) := dk_46 (dk_at dksX3_bendFor_1 11 rfl rfl)
theorem dX3_bendFor_35 : decode cX3_bendFor 35 = .ok (.invokevirtual 174, 3) := dk_182 0 174 (dk_at dksX3_bendFor_1 12 rfl rfl)
theorem dX3_bendFor_38 : decode cX3_bendFor 38 = .ok (.istore_n 3, 1) := dk_62 (dk_at dksX3_bendFor_1 15 rfl rfl)
theorem dX3_bendFor_39 : decode cX3_bendFor 39 = .ok (.iconst 0, 1) := dk_3 (dk_at dksX3_bendFor_1 16 rfl rfl)
theorem dX3_bendFor_40 : decode cX3_bendFor 40 = .ok (.istore 4, 2) := dk_54 4 (dk_at dksX3_bendFor_1 17 rfl rfl)
theorem dX3_bendFor_42 : decode cX3_bendFor 42 = .ok (.sipush 21600, 3) := dk_17 84 96 (dk_at dksX3_bendFor_1 19 rfl rfl)
theorem dX3_bendFor_45 : decode cX3_bendFor 45 = .ok (.istore 5, 2) := dk_54 5 (dk_at dksX3_bendFor_1 22 rfl rfl)
theorem dX3_bendFor_47 : decode cX3_bendFor 47 = .ok (.sipush (-180), 3) := dk_17 255 76 (dk_at dksX3_bendFor_2 0 rfl rfl)
theorem dX3_bendFor_50 : decode cX3_bendFor 50 = .ok (.istore 6, 2) := dk_54 6 (dk_at dksX3_bendFor_2 3 rfl rfl)
theorem dX3_bendFor_52 : decode cX3_bendFor 52 = .ok (.iload 6, 2) := dk_21 6 (dk_at dksX3_bendFor_2 5 rfl rfl)
theorem dX3_bendFor_54 : decode cX3_bendFor 54 = .ok (.sipush 180, 3) := dk_17 0 180 (dk_at dksX3_bendFor_2 7 rfl rfl)
theorem dX3_bendFor_57 : decode cX3_bendFor 57 = .ok (.if_icmp .gt 57, 3) := dk_163 0 57 (dk_at dksX3_bendFor_2 10 rfl rfl)
theorem dX3_bendFor_60 : decode cX3_bendFor 60 = .ok (.iload_n 3, 1) := dk_29 (dk_at dksX3_bendFor_2 13 rfl rfl)
theorem dX3_bendFor_61 : decode cX3_bendFor 61 = .ok (.bipush 60, 2) := dk_16 60 (dk_at dksX3_bendFor_2 14 rfl rfl)
theorem dX3_bendFor_63 : decode cX3_bendFor 63 = .ok (.iload 6, 2) := dk_21 6 (dk_at dksX3_bendFor_2 16 rfl rfl)
theorem dX3_bendFor_65 : decode cX3_bendFor 65 = .ok (.imul, 1) := dk_104 (dk_at dksX3_bendFor_2 18 rfl rfl)
theorem dX3_bendFor_66 : decode cX3_bendFor 66 = .ok (.iadd, 1) := dk_96 (dk_at dksX3_bendFor_2 19 rfl rfl)
theorem dX3_bendFor_67 : decode cX3_bendFor 67 = .ok (.invokestatic 177, 3) := dk_184 0 177 (dk_at dksX3_bendFor_2 20 rfl rfl)
theorem dX3_bendFor_70 : decode cX3_bendFor 70 = .ok (.iload_n 2, 1) := dk_28 (dk_at dksX3_bendFor_2 23 rfl rfl)
theorem dX3_bendFor_71 : decode cX3_bendFor 71 = .ok (.invokestatic 198, 3) := dk_184 0 198 (dk_at dksX3_bendFor_3 0 rfl rfl)
theorem dX3_bendFor_74 : decode cX3_bendFor 74 = .ok (.istore 7, 2) := dk_54 7 (dk_at dksX3_bendFor_3 3 rfl rfl)
theorem dX3_bendFor_76 : decode cX3_bendFor 76 = .ok (.iload 7, 2) := dk_21 7 (dk_at dksX3_bendFor_3 5 rfl rfl)
theorem dX3_bendFor_78 : decode cX3_bendFor 78 = .ok (.iload 5, 2) := dk_21 5 (dk_at dksX3_bendFor_3 7 rfl rfl)
theorem dX3_bendFor_80 : decode cX3_bendFor 80 = .ok (.if_icmp .ge 8, 3) := dk_162 0 8 (dk_at dksX3_bendFor_3 9 rfl rfl)
theorem dX3_bendFor_83 : decode cX3_bendFor 83 = .ok (.iload 6, 2) := dk_21 6 (dk_at dksX3_bendFor_3 12 rfl rfl)
theorem dX3_bendFor_85 : decode cX3_bendFor 85 = .ok (.goto 5, 3) := dk_167 0 5 (dk_at dksX3_bendFor_3 14 rfl rfl)
theorem dX3_bendFor_88 : decode cX3_bendFor 88 = .ok (.iload 4, 2) := dk_21 4 (dk_at dksX3_bendFor_3 17 rfl rfl)
theorem dX3_bendFor_90 : decode cX3_bendFor 90 = .ok (.istore 4, 2) := dk_54 4 (dk_at dksX3_bendFor_3 19 rfl rfl)
theorem dX3_bendFor_92 : decode cX3_bendFor 92 = .ok (.iload 7, 2) := dk_21 7 (dk_at dksX3_bendFor_3 21 rfl rfl)
theorem dX3_bendFor_94 : decode cX3_bendFor 94 = .ok (.iload 5, 2) := dk_21 5 (dk_at dksX3_bendFor_4 0 rfl rfl)
theorem dX3_bendFor_96 : decode cX3_bendFor 96 = .ok (.if_icmp .ge 8, 3) := dk_162 0 8 (dk_at dksX3_bendFor_4 2 rfl rfl)
theorem dX3_bendFor_99 : decode cX3_bendFor 99 = .ok (.iload 7, 2) := dk_21 7 (dk_at dksX3_bendFor_4 5 rfl rfl)
theorem dX3_bendFor_101 : decode cX3_bendFor 101 = .ok (.goto 5, 3) := dk_167 0 5 (dk_at dksX3_bendFor_4 7 rfl rfl)
theorem dX3_bendFor_104 : decode cX3_bendFor 104 = .ok (.iload 5, 2) := dk_21 5 (dk_at dksX3_bendFor_4 10 rfl rfl)
theorem dX3_bendFor_106 : decode cX3_bendFor 106 = .ok (.istore 5, 2) := dk_54 5 (dk_at dksX3_bendFor_4 12 rfl rfl)
theorem dX3_bendFor_108 : decode cX3_bendFor 108 = .ok (.iinc 6 1, 3) := dk_132 6 1 (dk_at dksX3_bendFor_4 14 rfl rfl)
theorem dX3_bendFor_111 : decode cX3_bendFor 111 = .ok (.goto (-59), 3) := dk_167 255 197 (dk_at dksX3_bendFor_4 17 rfl rfl)
theorem dX3_bendFor_114 : decode cX3_bendFor 114 = .ok (.iload 4, 2) := dk_21 4 (dk_at dksX3_bendFor_4 20 rfl rfl)
theorem dX3_bendFor_116 : decode cX3_bendFor 116 = .ok (.ireturn, 1) := dk_172 (dk_at dksX3_bendFor_4 22 rfl rfl)
abbrev cX3_day : ByteArray := prog_10_method_99_code
def yX3_day : MethodName := ⟨RX3, "day", "()I"⟩
def dkwX3_day_0 : List UInt8 := [42, 16, 111, 182, 0, 151, 172]
abbrev dktX3_day_0 : List UInt8 := dkwX3_day_0 ++ []
theorem dksX3_day_0 : cX3_day.data.toList.drop 0 = dktX3_day_0 := by decide +kernel
theorem dX3_day_0 : decode cX3_day 0 = .ok (.aload_n 0, 1) := dk_42 (dk_at dksX3_day_0 0 rfl rfl)
theorem dX3_day_1 : decode cX3_day 1 = .ok (.bipush 111, 2) := dk_16 111 (dk_at dksX3_day_0 1 rfl rfl)
theorem dX3_day_3 : decode cX3_day 3 = .ok (.invokevirtual 151, 3) := dk_182 0 151 (dk_at dksX3_day_0 3 rfl rfl)
theorem dX3_day_6 : decode cX3_day 6 = .ok (.ireturn, 1) := dk_172 (dk_at dksX3_day_0 6 rfl rfl)
abbrev cX3_date : ByteArray := prog_10_method_101_code
def yX3_date : MethodName := ⟨RX3, "date", "()I"⟩
theorem dX3_date_0 : decode cX3_date 0 = .ok (.aload_n 0, 1) := by decide +kernel
theorem dX3_date_1 : decode cX3_date 1 = .ok (.invokevirtual 247, 3) := by decide +kernel
theorem dX3_date_4 : decode cX3_date 4 = .ok (.ireturn, 1) := by decide +kernel
abbrev cX3_toldDate : ByteArray := prog_10_method_100_code
def yX3_toldDate : MethodName := ⟨RX3, "toldDate", "()I"⟩
def dkwX3_toldDate_1 : List UInt8 := [16, 100, 42, 180, 0, 234, 104, 96, 42, 180, 0, 240, 96, 172]
abbrev dktX3_toldDate_1 : List UInt8 := dkwX3_toldDate_1 ++ []
def dkwX3_toldDate_0 : List UInt8 := [42, 3, 181, 0, 38, 42, 42, 180, 0, 7, 16, 111, 46, 182, 0, 243, 17, 39, 16, 42, 180, 0, 228, 104]
abbrev dktX3_toldDate_0 : List UInt8 := dkwX3_toldDate_0 ++ dktX3_toldDate_1
theorem dksX3_toldDate_0 : cX3_toldDate.data.toList.drop 0 = dktX3_toldDate_0 := by decide +kernel
theorem dksX3_toldDate_1 : cX3_toldDate.data.toList.drop 24 = dktX3_toldDate_1 := dk_seg dksX3_toldDate_0 24 rfl rfl
theorem dX3_toldDate_0 : decode cX3_toldDate 0 = .ok (.aload_n 0, 1) := dk_42 (dk_at dksX3_toldDate_0 0 rfl rfl)
theorem dX3_toldDate_1 : decode cX3_toldDate 1 = .ok (.iconst 0, 1) := dk_3 (dk_at dksX3_toldDate_0 1 rfl rfl)
theorem dX3_toldDate_2 : decode cX3_toldDate 2 = .ok (.putfield 38, 3) := dk_181 0 38 (dk_at dksX3_toldDate_0 2 rfl rfl)
theorem dX3_toldDate_5 : decode cX3_toldDate 5 = .ok (.aload_n 0, 1) := dk_42 (dk_at dksX3_toldDate_0 5 rfl rfl)
theorem dX3_toldDate_6 : decode cX3_toldDate 6 = .ok (.aload_n 0, 1) := dk_42 (dk_at dksX3_toldDate_0 6 rfl rfl)
theorem dX3_toldDate_7 : decode cX3_toldDate 7 = .ok (.getfield 7, 3) := dk_180 0 7 (dk_at dksX3_toldDate_0 7 rfl rfl)
theorem dX3_toldDate_10 : decode cX3_toldDate 10 = .ok (.bipush 111, 2) := dk_16 111 (dk_at dksX3_toldDate_0 10 rfl rfl)
theorem dX3_toldDate_12 : decode cX3_toldDate 12 = .ok (.iaload, 1) := dk_46 (dk_at dksX3_toldDate_0 12 rfl rfl)
theorem dX3_toldDate_13 : decode cX3_toldDate 13 = .ok (.invokevirtual 243, 3) := dk_182 0 243 (dk_at dksX3_toldDate_0 13 rfl rfl)
theorem dX3_toldDate_16 : decode cX3_toldDate 16 = .ok (.sipush 10000, 3) := dk_17 39 16 (dk_at dksX3_toldDate_0 16 rfl rfl)
theorem dX3_toldDate_19 : decode cX3_toldDate 19 = .ok (.aload_n 0, 1) := dk_42 (dk_at dksX3_toldDate_0 19 rfl rfl)
theorem dX3_toldDate_20 : decode cX3_toldDate 20 = .ok (.getfield 228, 3) := dk_180 0 228 (dk_at dksX3_toldDate_0 20 rfl rfl)
theorem dX3_toldDate_23 : decode cX3_toldDate 23 = .ok (.imul, 1) := dk_104 (dk_at dksX3_toldDate_0 23 rfl rfl)
theorem dX3_toldDate_24 : decode cX3_toldDate 24 = .ok (.bipush 100, 2) := dk_16 100 (dk_at dksX3_toldDate_1 0 rfl rfl)
theorem dX3_toldDate_26 : decode cX3_toldDate 26 = .ok (.aload_n 0, 1) := dk_42 (dk_at dksX3_toldDate_1 2 rfl rfl)
theorem dX3_toldDate_27 : decode cX3_toldDate 27 = .ok (.getfield 234, 3) := dk_180 0 234 (dk_at dksX3_toldDate_1 3 rfl rfl)
theorem dX3_toldDate_30 : decode cX3_toldDate 30 = .ok (.imul, 1) := dk_104 (dk_at dksX3_toldDate_1 6 rfl rfl)
theorem dX3_toldDate_31 : decode cX3_toldDate 31 = .ok (.iadd, 1) := dk_96 (dk_at dksX3_toldDate_1 7 rfl rfl)
theorem dX3_toldDate_32 : decode cX3_toldDate 32 = .ok (.aload_n 0, 1) := dk_42 (dk_at dksX3_toldDate_1 8 rfl rfl)
theorem dX3_toldDate_33 : decode cX3_toldDate 33 = .ok (.getfield 240, 3) := dk_180 0 240 (dk_at dksX3_toldDate_1 9 rfl rfl)
theorem dX3_toldDate_36 : decode cX3_toldDate 36 = .ok (.iadd, 1) := dk_96 (dk_at dksX3_toldDate_1 12 rfl rfl)
theorem dX3_toldDate_37 : decode cX3_toldDate 37 = .ok (.ireturn, 1) := dk_172 (dk_at dksX3_toldDate_1 13 rfl rfl)
abbrev cX3_finds : ByteArray := prog_10_method_98_code
def yX3_finds : MethodName := ⟨RX3, "finds", "(I)V"⟩
def dkwX3_finds_5 : List UInt8 := [167, 255, 217, 42, 28, 4, 96, 181, 0, 240, 177]
abbrev dktX3_finds_5 : List UInt8 := dkwX3_finds_5 ++ []
def dkwX3_finds_4 : List UInt8 := [42, 180, 0, 228, 42, 180, 0, 234, 184, 0, 237, 100, 61, 42, 89, 180, 0, 234, 4, 96, 181, 0, 234]
abbrev dktX3_finds_4 : List UInt8 := dkwX3_finds_4 ++ dktX3_finds_5
def dkwX3_finds_3 : List UInt8 := [181, 0, 231, 42, 4, 181, 0, 234, 28, 42, 180, 0, 228, 42, 180, 0, 234, 184, 0, 237, 161, 0, 30, 28]
abbrev dktX3_finds_3 : List UInt8 := dkwX3_finds_3 ++ dktX3_finds_4
def dkwX3_finds_2 : List UInt8 := [17, 1, 109, 100, 61, 42, 89, 180, 0, 228, 4, 96, 181, 0, 228, 167, 255, 201, 42, 28, 4, 96]
abbrev dktX3_finds_2 : List UInt8 := dkwX3_finds_2 ++ dktX3_finds_3
def dkwX3_finds_1 : List UInt8 := [17, 1, 109, 161, 0, 38, 28, 42, 180, 0, 228, 184, 0, 225, 153, 0, 9, 17, 1, 110, 167, 0, 6]
abbrev dktX3_finds_1 : List UInt8 := dkwX3_finds_1 ++ dktX3_finds_2
def dkwX3_finds_0 : List UInt8 := [27, 61, 42, 4, 181, 0, 228, 28, 42, 180, 0, 228, 184, 0, 225, 153, 0, 9, 17, 1, 110, 167, 0, 6]
abbrev dktX3_finds_0 : List UInt8 := dkwX3_finds_0 ++ dktX3_finds_1
theorem dksX3_finds_0 : cX3_finds.data.toList.drop 0 = dktX3_finds_0 := by decide +kernel
theorem dksX3_finds_1 : cX3_finds.data.toList.drop 24 = dktX3_finds_1 := dk_seg dksX3_finds_0 24 rfl rfl
theorem dksX3_finds_2 : cX3_finds.data.toList.drop 47 = dktX3_finds_2 := dk_seg dksX3_finds_1 23 rfl rfl
theorem dksX3_finds_3 : cX3_finds.data.toList.drop 69 = dktX3_finds_3 := dk_seg dksX3_finds_2 22 rfl rfl
theorem dksX3_finds_4 : cX3_finds.data.toList.drop 93 = dktX3_finds_4 := dk_seg dksX3_finds_3 24 rfl rfl
theorem dksX3_finds_5 : cX3_finds.data.toList.drop 116 = dktX3_finds_5 := dk_seg dksX3_finds_4 23 rfl rfl
theorem dX3_finds_0 : decode cX3_finds 0 = .ok (.iload_n 1, 1) := dk_27 (dk_at dksX3_finds_0 0 rfl rfl)
theorem dX3_finds_1 : decode cX3_finds 1 = .ok (.istore_n 2, 1) := dk_61 (dk_at dksX3_finds_0 1 rfl rfl)
theorem dX3_finds_2 : decode cX3_finds 2 = .ok (.aload_n 0, 1) := dk_42 (dk_at dksX3_finds_0 2 rfl rfl)
theorem dX3_finds_3 : decode cX3_finds 3 = .ok (.iconst 1, 1) := dk_4 (dk_at dksX3_finds_0 3 rfl rfl)
theorem dX3_finds_4 : decode cX3_finds 4 = .ok (.putfield 228, 3) := dk_181 0 228 (dk_at dksX3_finds_0 4 rfl rfl)
theorem dX3_finds_7 : decode cX3_finds 7 = .ok (.iload_n 2, 1) := dk_28 (dk_at dksX3_finds_0 7 rfl rfl)
theorem dX3_finds_8 : decode cX3_finds 8 = .ok (.aload_n 0, 1) := dk_42 (dk_at dksX3_finds_0 8 rfl rfl)
theorem dX3_finds_9 : decode cX3_finds 9 = .ok (.getfield 228, 3) := dk_180 0 228 (dk_at dksX3_finds_0 9 rfl rfl)
theorem dX3_finds_12 : decode cX3_finds 12 = .ok (.invokestatic 225, 3) := dk_184 0 225 (dk_at dksX3_finds_0 12 rfl rfl)
theorem dX3_finds_15 : decode cX3_finds 15 = .ok (.ifCond .eq 9, 3) := dk_153 0 9 (dk_at dksX3_finds_0 15 rfl rfl)
theorem dX3_finds_18 : decode cX3_finds 18 = .ok (.sipush 366, 3) := dk_17 1 110 (dk_at dksX3_finds_0 18 rfl rfl)
theorem dX3_finds_21 : decode cX3_finds 21 = .ok (.goto 6, 3) := dk_167 0 6 (dk_at dksX3_finds_0 21 rfl rfl)
theorem dX3_finds_24 : decode cX3_finds 24 = .ok (.sipush 365, 3) := dk_17 1 109 (dk_at dksX3_finds_1 0 rfl rfl)
theorem dX3_finds_27 : decode cX3_finds 27 = .ok (.if_icmp .lt 38, 3) := dk_161 0 38 (dk_at dksX3_finds_1 3 rfl rfl)
theorem dX3_finds_30 : decode cX3_finds 30 = .ok (.iload_n 2, 1) := dk_28 (dk_at dksX3_finds_1 6 rfl rfl)
theorem dX3_finds_31 : decode cX3_finds 31 = .ok (.aload_n 0, 1) := dk_42 (dk_at dksX3_finds_1 7 rfl rfl)
theorem dX3_finds_32 : decode cX3_finds 32 = .ok (.getfield 228, 3) := dk_180 0 228 (dk_at dksX3_finds_1 8 rfl rfl)
theorem dX3_finds_35 : decode cX3_finds 35 = .ok (.invokestatic 225, 3) := dk_184 0 225 (dk_at dksX3_finds_1 11 rfl rfl)
theorem dX3_finds_38 : decode cX3_finds 38 = .ok (.ifCond .eq 9, 3) := dk_153 0 9 (dk_at dksX3_finds_1 14 rfl rfl)
theorem dX3_finds_41 : decode cX3_finds 41 = .ok (.sipush 366, 3) := dk_17 1 110 (dk_at dksX3_finds_1 17 rfl rfl)
theorem dX3_finds_44 : decode cX3_finds 44 = .ok (.goto 6, 3) := dk_167 0 6 (dk_at dksX3_finds_1 20 rfl rfl)
theorem dX3_finds_47 : decode cX3_finds 47 = .ok (.sipush 365, 3) := dk_17 1 109 (dk_at dksX3_finds_2 0 rfl rfl)
theorem dX3_finds_50 : decode cX3_finds 50 = .ok (.isub, 1) := dk_100 (dk_at dksX3_finds_2 3 rfl rfl)
theorem dX3_finds_51 : decode cX3_finds 51 = .ok (.istore_n 2, 1) := dk_61 (dk_at dksX3_finds_2 4 rfl rfl)
theorem dX3_finds_52 : decode cX3_finds 52 = .ok (.aload_n 0, 1) := dk_42 (dk_at dksX3_finds_2 5 rfl rfl)
theorem dX3_finds_53 : decode cX3_finds 53 = .ok (.dup, 1) := dk_89 (dk_at dksX3_finds_2 6 rfl rfl)
theorem dX3_finds_54 : decode cX3_finds 54 = .ok (.getfield 228, 3) := dk_180 0 228 (dk_at dksX3_finds_2 7 rfl rfl)
theorem dX3_finds_57 : decode cX3_finds 57 = .ok (.iconst 1, 1) := dk_4 (dk_at dksX3_finds_2 10 rfl rfl)
theorem dX3_finds_58 : decode cX3_finds 58 = .ok (.iadd, 1) := dk_96 (dk_at dksX3_finds_2 11 rfl rfl)
theorem dX3_finds_59 : decode cX3_finds 59 = .ok (.putfield 228, 3) := dk_181 0 228 (dk_at dksX3_finds_2 12 rfl rfl)
theorem dX3_finds_62 : decode cX3_finds 62 = .ok (.goto (-55), 3) := dk_167 255 201 (dk_at dksX3_finds_2 15 rfl rfl)
theorem dX3_finds_65 : decode cX3_finds 65 = .ok (.aload_n 0, 1) := dk_42 (dk_at dksX3_finds_2 18 rfl rfl)
theorem dX3_finds_66 : decode cX3_finds 66 = .ok (.iload_n 2, 1) := dk_28 (dk_at dksX3_finds_2 19 rfl rfl)
theorem dX3_finds_67 : decode cX3_finds 67 = .ok (.iconst 1, 1) := dk_4 (dk_at dksX3_finds_2 20 rfl rfl)
theorem dX3_finds_68 : decode cX3_finds 68 = .ok (.iadd, 1) := dk_96 (dk_at dksX3_finds_2 21 rfl rfl)
theorem dX3_finds_69 : decode cX3_finds 69 = .ok (.putfield 231, 3) := dk_181 0 231 (dk_at dksX3_finds_3 0 rfl rfl)
theorem dX3_finds_72 : decode cX3_finds 72 = .ok (.aload_n 0, 1) := dk_42 (dk_at dksX3_finds_3 3 rfl rfl)
theorem dX3_finds_73 : decode cX3_finds 73 = .ok (.iconst 1, 1) := dk_4 (dk_at dksX3_finds_3 4 rfl rfl)
theorem dX3_finds_74 : decode cX3_finds 74 = .ok (.putfield 234, 3) := dk_181 0 234 (dk_at dksX3_finds_3 5 rfl rfl)
theorem dX3_finds_77 : decode cX3_finds 77 = .ok (.iload_n 2, 1) := dk_28 (dk_at dksX3_finds_3 8 rfl rfl)
theorem dX3_finds_78 : decode cX3_finds 78 = .ok (.aload_n 0, 1) := dk_42 (dk_at dksX3_finds_3 9 rfl rfl)
theorem dX3_finds_79 : decode cX3_finds 79 = .ok (.getfield 228, 3) := dk_180 0 228 (dk_at dksX3_finds_3 10 rfl rfl)
theorem dX3_finds_82 : decode cX3_finds 82 = .ok (.aload_n 0, 1) := dk_42 (dk_at dksX3_finds_3 13 rfl rfl)
theorem dX3_finds_83 : decode cX3_finds 83 = .ok (.getfield 234, 3) := dk_180 0 234 (dk_at dksX3_finds_3 14 rfl rfl)
theorem dX3_finds_86 : decode cX3_finds 86 = .ok (.invokestatic 237, 3) := dk_184 0 237 (dk_at dksX3_finds_3 17 rfl rfl)
theorem dX3_finds_89 : decode cX3_finds 89 = .ok (.if_icmp .lt 30, 3) := dk_161 0 30 (dk_at dksX3_finds_3 20 rfl rfl)
theorem dX3_finds_92 : decode cX3_finds 92 = .ok (.iload_n 2, 1) := dk_28 (dk_at dksX3_finds_3 23 rfl rfl)
theorem dX3_finds_93 : decode cX3_finds 93 = .ok (.aload_n 0, 1) := dk_42 (dk_at dksX3_finds_4 0 rfl rfl)
theorem dX3_finds_94 : decode cX3_finds 94 = .ok (.getfield 228, 3) := dk_180 0 228 (dk_at dksX3_finds_4 1 rfl rfl)
theorem dX3_finds_97 : decode cX3_finds 97 = .ok (.aload_n 0, 1) := dk_42 (dk_at dksX3_finds_4 4 rfl rfl)
theorem dX3_finds_98 : decode cX3_finds 98 = .ok (.getfield 234, 3) := dk_180 0 234 (dk_at dksX3_finds_4 5 rfl rfl)
theorem dX3_finds_101 : decode cX3_finds 101 = .ok (.invokestatic 237, 3) := dk_184 0 237 (dk_at dksX3_finds_4 8 rfl rfl)
theorem dX3_finds_104 : decode cX3_finds 104 = .ok (.isub, 1) := dk_100 (dk_at dksX3_finds_4 11 rfl rfl)
theorem dX3_finds_105 : decode cX3_finds 105 = .ok (.istore_n 2, 1) := dk_61 (dk_at dksX3_finds_4 12 rfl rfl)
theorem dX3_finds_106 : decode cX3_finds 106 = .ok (.aload_n 0, 1) := dk_42 (dk_at dksX3_finds_4 13 rfl rfl)
theorem dX3_finds_107 : decode cX3_finds 107 = .ok (.dup, 1) := dk_89 (dk_at dksX3_finds_4 14 rfl rfl)
theorem dX3_finds_108 : decode cX3_finds 108 = .ok (.getfield 234, 3) := dk_180 0 234 (dk_at dksX3_finds_4 15 rfl rfl)
theorem dX3_finds_111 : decode cX3_finds 111 = .ok (.iconst 1, 1) := dk_4 (dk_at dksX3_finds_4 18 rfl rfl)
theorem dX3_finds_112 : decode cX3_finds 112 = .ok (.iadd, 1) := dk_96 (dk_at dksX3_finds_4 19 rfl rfl)
theorem dX3_finds_113 : decode cX3_finds 113 = .ok (.putfield 234, 3) := dk_181 0 234 (dk_at dksX3_finds_4 20 rfl rfl)
theorem dX3_finds_116 : decode cX3_finds 116 = .ok (.goto (-39), 3) := dk_167 255 217 (dk_at dksX3_finds_5 0 rfl rfl)
theorem dX3_finds_119 : decode cX3_finds 119 = .ok (.aload_n 0, 1) := dk_42 (dk_at dksX3_finds_5 3 rfl rfl)
theorem dX3_finds_120 : decode cX3_finds 120 = .ok (.iload_n 2, 1) := dk_28 (dk_at dksX3_finds_5 4 rfl rfl)
theorem dX3_finds_121 : decode cX3_finds 121 = .ok (.iconst 1, 1) := dk_4 (dk_at dksX3_finds_5 5 rfl rfl)
theorem dX3_finds_122 : decode cX3_finds 122 = .ok (.iadd, 1) := dk_96 (dk_at dksX3_finds_5 6 rfl rfl)
theorem dX3_finds_123 : decode cX3_finds 123 = .ok (.putfield 240, 3) := dk_181 0 240 (dk_at dksX3_finds_5 7 rfl rfl)
theorem dX3_finds_126 : decode cX3_finds 126 = .ok (.return_, 1) := dk_177 (dk_at dksX3_finds_5 10 rfl rfl)
abbrev cX3_isLong : ByteArray := prog_10_method_96_code
def yX3_isLong : MethodName := ⟨RX3, "isLong", "(I)Z"⟩
def dkwX3_isLong_1 : List UInt8 := [167, 0, 4, 3, 172]
abbrev dktX3_isLong_1 : List UInt8 := dkwX3_isLong_1 ++ []
def dkwX3_isLong_0 : List UInt8 := [26, 7, 112, 154, 0, 22, 26, 16, 100, 112, 154, 0, 11, 26, 17, 1, 144, 112, 154, 0, 7, 4]
abbrev dktX3_isLong_0 : List UInt8 := dkwX3_isLong_0 ++ dktX3_isLong_1
theorem dksX3_isLong_0 : cX3_isLong.data.toList.drop 0 = dktX3_isLong_0 := by decide +kernel
theorem dksX3_isLong_1 : cX3_isLong.data.toList.drop 22 = dktX3_isLong_1 := dk_seg dksX3_isLong_0 22 rfl rfl
theorem dX3_isLong_0 : decode cX3_isLong 0 = .ok (.iload_n 0, 1) := dk_26 (dk_at dksX3_isLong_0 0 rfl rfl)
theorem dX3_isLong_1 : decode cX3_isLong 1 = .ok (.iconst 4, 1) := dk_7 (dk_at dksX3_isLong_0 1 rfl rfl)
theorem dX3_isLong_2 : decode cX3_isLong 2 = .ok (.irem, 1) := dk_112 (dk_at dksX3_isLong_0 2 rfl rfl)
theorem dX3_isLong_3 : decode cX3_isLong 3 = .ok (.ifCond .ne 22, 3) := dk_154 0 22 (dk_at dksX3_isLong_0 3 rfl rfl)
theorem dX3_isLong_6 : decode cX3_isLong 6 = .ok (.iload_n 0, 1) := dk_26 (dk_at dksX3_isLong_0 6 rfl rfl)
theorem dX3_isLong_7 : decode cX3_isLong 7 = .ok (.bipush 100, 2) := dk_16 100 (dk_at dksX3_isLong_0 7 rfl rfl)
theorem dX3_isLong_9 : decode cX3_isLong 9 = .ok (.irem, 1) := dk_112 (dk_at dksX3_isLong_0 9 rfl rfl)
theorem dX3_isLong_10 : decode cX3_isLong 10 = .ok (.ifCond .ne 11, 3) := dk_154 0 11 (dk_at dksX3_isLong_0 10 rfl rfl)
theorem dX3_isLong_13 : decode cX3_isLong 13 = .ok (.iload_n 0, 1) := dk_26 (dk_at dksX3_isLong_0 13 rfl rfl)
theorem dX3_isLong_14 : decode cX3_isLong 14 = .ok (.sipush 400, 3) := dk_17 1 144 (dk_at dksX3_isLong_0 14 rfl rfl)
theorem dX3_isLong_17 : decode cX3_isLong 17 = .ok (.irem, 1) := dk_112 (dk_at dksX3_isLong_0 17 rfl rfl)
theorem dX3_isLong_18 : decode cX3_isLong 18 = .ok (.ifCond .ne 7, 3) := dk_154 0 7 (dk_at dksX3_isLong_0 18 rfl rfl)
theorem dX3_isLong_21 : decode cX3_isLong 21 = .ok (.iconst 1, 1) := dk_4 (dk_at dksX3_isLong_0 21 rfl rfl)
theorem dX3_isLong_22 : decode cX3_isLong 22 = .ok (.goto 4, 3) := dk_167 0 4 (dk_at dksX3_isLong_1 0 rfl rfl)
theorem dX3_isLong_25 : decode cX3_isLong 25 = .ok (.iconst 0, 1) := dk_3 (dk_at dksX3_isLong_1 3 rfl rfl)
theorem dX3_isLong_26 : decode cX3_isLong 26 = .ok (.ireturn, 1) := dk_172 (dk_at dksX3_isLong_1 4 rfl rfl)
abbrev cX3_daysOf : ByteArray := prog_10_method_97_code
def yX3_daysOf : MethodName := ⟨RX3, "daysOf", "(II)I"⟩
def dkwX3_daysOf_2 : List UInt8 := [167, 0, 5, 16, 31, 172]
abbrev dktX3_daysOf_2 : List UInt8 := dkwX3_daysOf_2 ++ []
def dkwX3_daysOf_1 : List UInt8 := [159, 0, 21, 27, 16, 6, 159, 0, 15, 27, 16, 9, 159, 0, 9, 27, 16, 11, 160, 0, 8, 16, 30]
abbrev dktX3_daysOf_1 : List UInt8 := dkwX3_daysOf_1 ++ dktX3_daysOf_2
def dkwX3_daysOf_0 : List UInt8 := [27, 5, 160, 0, 20, 26, 184, 0, 225, 153, 0, 8, 16, 29, 167, 0, 38, 16, 28, 167, 0, 33, 27, 7]
abbrev dktX3_daysOf_0 : List UInt8 := dkwX3_daysOf_0 ++ dktX3_daysOf_1
theorem dksX3_daysOf_0 : cX3_daysOf.data.toList.drop 0 = dktX3_daysOf_0 := by decide +kernel
theorem dksX3_daysOf_1 : cX3_daysOf.data.toList.drop 24 = dktX3_daysOf_1 := dk_seg dksX3_daysOf_0 24 rfl rfl
theorem dksX3_daysOf_2 : cX3_daysOf.data.toList.drop 47 = dktX3_daysOf_2 := dk_seg dksX3_daysOf_1 23 rfl rfl
theorem dX3_daysOf_0 : decode cX3_daysOf 0 = .ok (.iload_n 1, 1) := dk_27 (dk_at dksX3_daysOf_0 0 rfl rfl)
theorem dX3_daysOf_1 : decode cX3_daysOf 1 = .ok (.iconst 2, 1) := dk_5 (dk_at dksX3_daysOf_0 1 rfl rfl)
theorem dX3_daysOf_2 : decode cX3_daysOf 2 = .ok (.if_icmp .ne 20, 3) := dk_160 0 20 (dk_at dksX3_daysOf_0 2 rfl rfl)
theorem dX3_daysOf_5 : decode cX3_daysOf 5 = .ok (.iload_n 0, 1) := dk_26 (dk_at dksX3_daysOf_0 5 rfl rfl)
theorem dX3_daysOf_6 : decode cX3_daysOf 6 = .ok (.invokestatic 225, 3) := dk_184 0 225 (dk_at dksX3_daysOf_0 6 rfl rfl)
theorem dX3_daysOf_9 : decode cX3_daysOf 9 = .ok (.ifCond .eq 8, 3) := dk_153 0 8 (dk_at dksX3_daysOf_0 9 rfl rfl)
theorem dX3_daysOf_12 : decode cX3_daysOf 12 = .ok (.bipush 29, 2) := dk_16 29 (dk_at dksX3_daysOf_0 12 rfl rfl)
theorem dX3_daysOf_14 : decode cX3_daysOf 14 = .ok (.goto 38, 3) := dk_167 0 38 (dk_at dksX3_daysOf_0 14 rfl rfl)
theorem dX3_daysOf_17 : decode cX3_daysOf 17 = .ok (.bipush 28, 2) := dk_16 28 (dk_at dksX3_daysOf_0 17 rfl rfl)
theorem dX3_daysOf_19 : decode cX3_daysOf 19 = .ok (.goto 33, 3) := dk_167 0 33 (dk_at dksX3_daysOf_0 19 rfl rfl)
theorem dX3_daysOf_22 : decode cX3_daysOf 22 = .ok (.iload_n 1, 1) := dk_27 (dk_at dksX3_daysOf_0 22 rfl rfl)
theorem dX3_daysOf_23 : decode cX3_daysOf 23 = .ok (.iconst 4, 1) := dk_7 (dk_at dksX3_daysOf_0 23 rfl rfl)
theorem dX3_daysOf_24 : decode cX3_daysOf 24 = .ok (.if_icmp .eq 21, 3) := dk_159 0 21 (dk_at dksX3_daysOf_1 0 rfl rfl)
theorem dX3_daysOf_27 : decode cX3_daysOf 27 = .ok (.iload_n 1, 1) := dk_27 (dk_at dksX3_daysOf_1 3 rfl rfl)
theorem dX3_daysOf_28 : decode cX3_daysOf 28 = .ok (.bipush 6, 2) := dk_16 6 (dk_at dksX3_daysOf_1 4 rfl rfl)
theorem dX3_daysOf_30 : decode cX3_daysOf 30 = .ok (.if_icmp .eq 15, 3) := dk_159 0 15 (dk_at dksX3_daysOf_1 6 rfl rfl)
theorem dX3_daysOf_33 : decode cX3_daysOf 33 = .ok (.iload_n 1, 1) := dk_27 (dk_at dksX3_daysOf_1 9 rfl rfl)
theorem dX3_daysOf_34 : decode cX3_daysOf 34 = .ok (.bipush 9, 2) := dk_16 9 (dk_at dksX3_daysOf_1 10 rfl rfl)
theorem dX3_daysOf_36 : decode cX3_daysOf 36 = .ok (.if_icmp .eq 9, 3) := dk_159 0 9 (dk_at dksX3_daysOf_1 12 rfl rfl)
theorem dX3_daysOf_39 : decode cX3_daysOf 39 = .ok (.iload_n 1, 1) := dk_27 (dk_at dksX3_daysOf_1 15 rfl rfl)
theorem dX3_daysOf_40 : decode cX3_daysOf 40 = .ok (.bipush 11, 2) := dk_16 11 (dk_at dksX3_daysOf_1 16 rfl rfl)
theorem dX3_daysOf_42 : decode cX3_daysOf 42 = .ok (.if_icmp .ne 8, 3) := dk_160 0 8 (dk_at dksX3_daysOf_1 18 rfl rfl)
theorem dX3_daysOf_45 : decode cX3_daysOf 45 = .ok (.bipush 30, 2) := dk_16 30 (dk_at dksX3_daysOf_1 21 rfl rfl)
theorem dX3_daysOf_47 : decode cX3_daysOf 47 = .ok (.goto 5, 3) := dk_167 0 5 (dk_at dksX3_daysOf_2 0 rfl rfl)
theorem dX3_daysOf_50 : decode cX3_daysOf 50 = .ok (.bipush 31, 2) := dk_16 31 (dk_at dksX3_daysOf_2 3 rfl rfl)
theorem dX3_daysOf_52 : decode cX3_daysOf 52 = .ok (.ireturn, 1) := dk_172 (dk_at dksX3_daysOf_2 5 rfl rfl)
abbrev cX3_dateByRule : ByteArray := prog_10_method_102_code
def yX3_dateByRule : MethodName := ⟨RX3, "dateByRule", "()I"⟩
theorem dX3_dateByRule_0 : decode cX3_dateByRule 0 = .ok (.aload_n 0, 1) := by decide +kernel
theorem dX3_dateByRule_1 : decode cX3_dateByRule 1 = .ok (.invokevirtual 247, 3) := by decide +kernel
theorem dX3_dateByRule_4 : decode cX3_dateByRule 4 = .ok (.ireturn, 1) := by decide +kernel
abbrev cX3_dayOf : ByteArray := prog_10_method_103_code
def yX3_dayOf : MethodName := ⟨RX3, "dayOf", "(III)I"⟩
def dkwX3_dayOf_5 : List UInt8 := [21, 4, 172]
abbrev dktX3_dayOf_5 : List UInt8 := dkwX3_dayOf_5 ++ []
def dkwX3_dayOf_4 : List UInt8 := [21, 5, 28, 162, 0, 20, 21, 4, 27, 21, 5, 184, 0, 237, 96, 54, 4, 132, 5, 1, 167, 255, 236]
abbrev dktX3_dayOf_4 : List UInt8 := dkwX3_dayOf_4 ++ dktX3_dayOf_5
def dkwX3_dayOf_3 : List UInt8 := [153, 0, 9, 17, 1, 110, 167, 0, 6, 17, 1, 109, 96, 54, 4, 132, 5, 1, 167, 255, 225, 4, 54, 5]
abbrev dktX3_dayOf_3 : List UInt8 := dkwX3_dayOf_3 ++ dktX3_dayOf_4
def dkwX3_dayOf_2 : List UInt8 := [172, 29, 4, 100, 54, 4, 4, 54, 5, 21, 5, 27, 162, 0, 31, 21, 4, 21, 5, 184, 0, 225]
abbrev dktX3_dayOf_2 : List UInt8 := dkwX3_dayOf_2 ++ dktX3_dayOf_3
def dkwX3_dayOf_1 : List UInt8 := [161, 0, 16, 29, 27, 28, 184, 0, 237, 163, 0, 7, 4, 167, 0, 4, 3, 182, 0, 154, 154, 0, 5, 3]
abbrev dktX3_dayOf_1 : List UInt8 := dkwX3_dayOf_1 ++ dktX3_dayOf_2
def dkwX3_dayOf_0 : List UInt8 := [42, 27, 4, 17, 10, 178, 184, 0, 58, 153, 0, 31, 28, 4, 16, 12, 184, 0, 58, 153, 0, 21, 29, 4]
abbrev dktX3_dayOf_0 : List UInt8 := dkwX3_dayOf_0 ++ dktX3_dayOf_1
theorem dksX3_dayOf_0 : cX3_dayOf.data.toList.drop 0 = dktX3_dayOf_0 := by decide +kernel
theorem dksX3_dayOf_1 : cX3_dayOf.data.toList.drop 24 = dktX3_dayOf_1 := dk_seg dksX3_dayOf_0 24 rfl rfl
theorem dksX3_dayOf_2 : cX3_dayOf.data.toList.drop 48 = dktX3_dayOf_2 := dk_seg dksX3_dayOf_1 24 rfl rfl
theorem dksX3_dayOf_3 : cX3_dayOf.data.toList.drop 70 = dktX3_dayOf_3 := dk_seg dksX3_dayOf_2 22 rfl rfl
theorem dksX3_dayOf_4 : cX3_dayOf.data.toList.drop 94 = dktX3_dayOf_4 := dk_seg dksX3_dayOf_3 24 rfl rfl
theorem dksX3_dayOf_5 : cX3_dayOf.data.toList.drop 117 = dktX3_dayOf_5 := dk_seg dksX3_dayOf_4 23 rfl rfl
theorem dX3_dayOf_0 : decode cX3_dayOf 0 = .ok (.aload_n 0, 1) := dk_42 (dk_at dksX3_dayOf_0 0 rfl rfl)
theorem dX3_dayOf_1 : decode cX3_dayOf 1 = .ok (.iload_n 1, 1) := dk_27 (dk_at dksX3_dayOf_0 1 rfl rfl)
theorem dX3_dayOf_2 : decode cX3_dayOf 2 = .ok (.iconst 1, 1) := dk_4 (dk_at dksX3_dayOf_0 2 rfl rfl)
theorem dX3_dayOf_3 : decode cX3_dayOf 3 = .ok (.sipush 2738, 3) := dk_17 10 178 (dk_at dksX3_dayOf_0 3 rfl rfl)
theorem dX3_dayOf_6 : decode cX3_dayOf 6 = .ok (.invokestatic 58, 3) := dk_184 0 58 (dk_at dksX3_dayOf_0 6 rfl rfl)
theorem dX3_dayOf_9 : decode cX3_dayOf 9 = .ok (.ifCond .eq 31, 3) := dk_153 0 31 (dk_at dksX3_dayOf_0 9 rfl rfl)
theorem dX3_dayOf_12 : decode cX3_dayOf 12 = .ok (.iload_n 2, 1) := dk_28 (dk_at dksX3_dayOf_0 12 rfl rfl)
theorem dX3_dayOf_13 : decode cX3_dayOf 13 = .ok (.iconst 1, 1) := dk_4 (dk_at dksX3_dayOf_0 13 rfl rfl)
theorem dX3_dayOf_14 : decode cX3_dayOf 14 = .ok (.bipush 12, 2) := dk_16 12 (dk_at dksX3_dayOf_0 14 rfl rfl)
theorem dX3_dayOf_16 : decode cX3_dayOf 16 = .ok (.invokestatic 58, 3) := dk_184 0 58 (dk_at dksX3_dayOf_0 16 rfl rfl)
theorem dX3_dayOf_19 : decode cX3_dayOf 19 = .ok (.ifCond .eq 21, 3) := dk_153 0 21 (dk_at dksX3_dayOf_0 19 rfl rfl)
theorem dX3_dayOf_22 : decode cX3_dayOf 22 = .ok (.iload_n 3, 1) := dk_29 (dk_at dksX3_dayOf_0 22 rfl rfl)
theorem dX3_dayOf_23 : decode cX3_dayOf 23 = .ok (.iconst 1, 1) := dk_4 (dk_at dksX3_dayOf_0 23 rfl rfl)
theorem dX3_dayOf_24 : decode cX3_dayOf 24 = .ok (.if_icmp .lt 16, 3) := dk_161 0 16 (dk_at dksX3_dayOf_1 0 rfl rfl)
theorem dX3_dayOf_27 : decode cX3_dayOf 27 = .ok (.iload_n 3, 1) := dk_29 (dk_at dksX3_dayOf_1 3 rfl rfl)
theorem dX3_dayOf_28 : decode cX3_dayOf 28 = .ok (.iload_n 1, 1) := dk_27 (dk_at dksX3_dayOf_1 4 rfl rfl)
theorem dX3_dayOf_29 : decode cX3_dayOf 29 = .ok (.iload_n 2, 1) := dk_28 (dk_at dksX3_dayOf_1 5 rfl rfl)
theorem dX3_dayOf_30 : decode cX3_dayOf 30 = .ok (.invokestatic 237, 3) := dk_184 0 237 (dk_at dksX3_dayOf_1 6 rfl rfl)
theorem dX3_dayOf_33 : decode cX3_dayOf 33 = .ok (.if_icmp .gt 7, 3) := dk_163 0 7 (dk_at dksX3_dayOf_1 9 rfl rfl)
theorem dX3_dayOf_36 : decode cX3_dayOf 36 = .ok (.iconst 1, 1) := dk_4 (dk_at dksX3_dayOf_1 12 rfl rfl)
theorem dX3_dayOf_37 : decode cX3_dayOf 37 = .ok (.goto 4, 3) := dk_167 0 4 (dk_at dksX3_dayOf_1 13 rfl rfl)
theorem dX3_dayOf_40 : decode cX3_dayOf 40 = .ok (.iconst 0, 1) := dk_3 (dk_at dksX3_dayOf_1 16 rfl rfl)
theorem dX3_dayOf_41 : decode cX3_dayOf 41 = .ok (.invokevirtual 154, 3) := dk_182 0 154 (dk_at dksX3_dayOf_1 17 rfl rfl)
theorem dX3_dayOf_44 : decode cX3_dayOf 44 = .ok (.ifCond .ne 5, 3) := dk_154 0 5 (dk_at dksX3_dayOf_1 20 rfl rfl)
theorem dX3_dayOf_47 : decode cX3_dayOf 47 = .ok (.iconst 0, 1) := dk_3 (dk_at dksX3_dayOf_1 23 rfl rfl)
theorem dX3_dayOf_48 : decode cX3_dayOf 48 = .ok (.ireturn, 1) := dk_172 (dk_at dksX3_dayOf_2 0 rfl rfl)
theorem dX3_dayOf_49 : decode cX3_dayOf 49 = .ok (.iload_n 3, 1) := dk_29 (dk_at dksX3_dayOf_2 1 rfl rfl)
theorem dX3_dayOf_50 : decode cX3_dayOf 50 = .ok (.iconst 1, 1) := dk_4 (dk_at dksX3_dayOf_2 2 rfl rfl)
theorem dX3_dayOf_51 : decode cX3_dayOf 51 = .ok (.isub, 1) := dk_100 (dk_at dksX3_dayOf_2 3 rfl rfl)
theorem dX3_dayOf_52 : decode cX3_dayOf 52 = .ok (.istore 4, 2) := dk_54 4 (dk_at dksX3_dayOf_2 4 rfl rfl)
theorem dX3_dayOf_54 : decode cX3_dayOf 54 = .ok (.iconst 1, 1) := dk_4 (dk_at dksX3_dayOf_2 6 rfl rfl)
theorem dX3_dayOf_55 : decode cX3_dayOf 55 = .ok (.istore 5, 2) := dk_54 5 (dk_at dksX3_dayOf_2 7 rfl rfl)
theorem dX3_dayOf_57 : decode cX3_dayOf 57 = .ok (.iload 5, 2) := dk_21 5 (dk_at dksX3_dayOf_2 9 rfl rfl)
theorem dX3_dayOf_59 : decode cX3_dayOf 59 = .ok (.iload_n 1, 1) := dk_27 (dk_at dksX3_dayOf_2 11 rfl rfl)
theorem dX3_dayOf_60 : decode cX3_dayOf 60 = .ok (.if_icmp .ge 31, 3) := dk_162 0 31 (dk_at dksX3_dayOf_2 12 rfl rfl)
theorem dX3_dayOf_63 : decode cX3_dayOf 63 = .ok (.iload 4, 2) := dk_21 4 (dk_at dksX3_dayOf_2 15 rfl rfl)
theorem dX3_dayOf_65 : decode cX3_dayOf 65 = .ok (.iload 5, 2) := dk_21 5 (dk_at dksX3_dayOf_2 17 rfl rfl)
theorem dX3_dayOf_67 : decode cX3_dayOf 67 = .ok (.invokestatic 225, 3) := dk_184 0 225 (dk_at dksX3_dayOf_2 19 rfl rfl)
theorem dX3_dayOf_70 : decode cX3_dayOf 70 = .ok (.ifCond .eq 9, 3) := dk_153 0 9 (dk_at dksX3_dayOf_3 0 rfl rfl)
theorem dX3_dayOf_73 : decode cX3_dayOf 73 = .ok (.sipush 366, 3) := dk_17 1 110 (dk_at dksX3_dayOf_3 3 rfl rfl)
theorem dX3_dayOf_76 : decode cX3_dayOf 76 = .ok (.goto 6, 3) := dk_167 0 6 (dk_at dksX3_dayOf_3 6 rfl rfl)
theorem dX3_dayOf_79 : decode cX3_dayOf 79 = .ok (.sipush 365, 3) := dk_17 1 109 (dk_at dksX3_dayOf_3 9 rfl rfl)
theorem dX3_dayOf_82 : decode cX3_dayOf 82 = .ok (.iadd, 1) := dk_96 (dk_at dksX3_dayOf_3 12 rfl rfl)
theorem dX3_dayOf_83 : decode cX3_dayOf 83 = .ok (.istore 4, 2) := dk_54 4 (dk_at dksX3_dayOf_3 13 rfl rfl)
theorem dX3_dayOf_85 : decode cX3_dayOf 85 = .ok (.iinc 5 1, 3) := dk_132 5 1 (dk_at dksX3_dayOf_3 15 rfl rfl)
theorem dX3_dayOf_88 : decode cX3_dayOf 88 = .ok (.goto (-31), 3) := dk_167 255 225 (dk_at dksX3_dayOf_3 18 rfl rfl)
theorem dX3_dayOf_91 : decode cX3_dayOf 91 = .ok (.iconst 1, 1) := dk_4 (dk_at dksX3_dayOf_3 21 rfl rfl)
theorem dX3_dayOf_92 : decode cX3_dayOf 92 = .ok (.istore 5, 2) := dk_54 5 (dk_at dksX3_dayOf_3 22 rfl rfl)
theorem dX3_dayOf_94 : decode cX3_dayOf 94 = .ok (.iload 5, 2) := dk_21 5 (dk_at dksX3_dayOf_4 0 rfl rfl)
theorem dX3_dayOf_96 : decode cX3_dayOf 96 = .ok (.iload_n 2, 1) := dk_28 (dk_at dksX3_dayOf_4 2 rfl rfl)
theorem dX3_dayOf_97 : decode cX3_dayOf 97 = .ok (.if_icmp .ge 20, 3) := dk_162 0 20 (dk_at dksX3_dayOf_4 3 rfl rfl)
theorem dX3_dayOf_100 : decode cX3_dayOf 100 = .ok (.iload 4, 2) := dk_21 4 (dk_at dksX3_dayOf_4 6 rfl rfl)
theorem dX3_dayOf_102 : decode cX3_dayOf 102 = .ok (.iload_n 1, 1) := dk_27 (dk_at dksX3_dayOf_4 8 rfl rfl)
theorem dX3_dayOf_103 : decode cX3_dayOf 103 = .ok (.iload 5, 2) := dk_21 5 (dk_at dksX3_dayOf_4 9 rfl rfl)
theorem dX3_dayOf_105 : decode cX3_dayOf 105 = .ok (.invokestatic 237, 3) := dk_184 0 237 (dk_at dksX3_dayOf_4 11 rfl rfl)
theorem dX3_dayOf_108 : decode cX3_dayOf 108 = .ok (.iadd, 1) := dk_96 (dk_at dksX3_dayOf_4 14 rfl rfl)
theorem dX3_dayOf_109 : decode cX3_dayOf 109 = .ok (.istore 4, 2) := dk_54 4 (dk_at dksX3_dayOf_4 15 rfl rfl)
theorem dX3_dayOf_111 : decode cX3_dayOf 111 = .ok (.iinc 5 1, 3) := dk_132 5 1 (dk_at dksX3_dayOf_4 17 rfl rfl)
theorem dX3_dayOf_114 : decode cX3_dayOf 114 = .ok (.goto (-20), 3) := dk_167 255 236 (dk_at dksX3_dayOf_4 20 rfl rfl)
theorem dX3_dayOf_117 : decode cX3_dayOf 117 = .ok (.iload 4, 2) := dk_21 4 (dk_at dksX3_dayOf_5 0 rfl rfl)
theorem dX3_dayOf_119 : decode cX3_dayOf 119 = .ok (.ireturn, 1) := dk_172 (dk_at dksX3_dayOf_5 2 rfl rfl)
abbrev cX3_weekday : ByteArray := prog_10_method_104_code
def yX3_weekday : MethodName := ⟨RX3, "weekday", "()I"⟩
def dkwX3_weekday_0 : List UInt8 := [42, 3, 181, 0, 38, 42, 180, 0, 7, 16, 111, 46, 16, 7, 112, 172]
abbrev dktX3_weekday_0 : List UInt8 := dkwX3_weekday_0 ++ []
theorem dksX3_weekday_0 : cX3_weekday.data.toList.drop 0 = dktX3_weekday_0 := by decide +kernel
theorem dX3_weekday_0 : decode cX3_weekday 0 = .ok (.aload_n 0, 1) := dk_42 (dk_at dksX3_weekday_0 0 rfl rfl)
theorem dX3_weekday_1 : decode cX3_weekday 1 = .ok (.iconst 0, 1) := dk_3 (dk_at dksX3_weekday_0 1 rfl rfl)
theorem dX3_weekday_2 : decode cX3_weekday 2 = .ok (.putfield 38, 3) := dk_181 0 38 (dk_at dksX3_weekday_0 2 rfl rfl)
theorem dX3_weekday_5 : decode cX3_weekday 5 = .ok (.aload_n 0, 1) := dk_42 (dk_at dksX3_weekday_0 5 rfl rfl)
theorem dX3_weekday_6 : decode cX3_weekday 6 = .ok (.getfield 7, 3) := dk_180 0 7 (dk_at dksX3_weekday_0 6 rfl rfl)
theorem dX3_weekday_9 : decode cX3_weekday 9 = .ok (.bipush 111, 2) := dk_16 111 (dk_at dksX3_weekday_0 9 rfl rfl)
theorem dX3_weekday_11 : decode cX3_weekday 11 = .ok (.iaload, 1) := dk_46 (dk_at dksX3_weekday_0 11 rfl rfl)
theorem dX3_weekday_12 : decode cX3_weekday 12 = .ok (.bipush 7, 2) := dk_16 7 (dk_at dksX3_weekday_0 12 rfl rfl)
theorem dX3_weekday_14 : decode cX3_weekday 14 = .ok (.irem, 1) := dk_112 (dk_at dksX3_weekday_0 14 rfl rfl)
theorem dX3_weekday_15 : decode cX3_weekday 15 = .ok (.ireturn, 1) := dk_172 (dk_at dksX3_weekday_0 15 rfl rfl)
abbrev cX3_daysUntil : ByteArray := prog_10_method_105_code
def yX3_daysUntil : MethodName := ⟨RX3, "daysUntil", "(II)I"⟩
def dkwX3_daysUntil_4 : List UInt8 := [182, 0, 243, 167, 255, 224, 29, 172]
abbrev dktX3_daysUntil_4 : List UInt8 := dkwX3_daysUntil_4 ++ []
def dkwX3_daysUntil_3 : List UInt8 := [160, 0, 11, 42, 180, 0, 240, 28, 159, 0, 22, 132, 3, 1, 42, 42, 180, 0, 7, 16, 111, 46, 29, 96]
abbrev dktX3_daysUntil_3 : List UInt8 := dkwX3_daysUntil_3 ++ dktX3_daysUntil_4
def dkwX3_daysUntil_2 : List UInt8 := [182, 0, 51, 172, 4, 62, 42, 42, 180, 0, 7, 16, 111, 46, 4, 96, 182, 0, 243, 42, 180, 0, 234, 27]
abbrev dktX3_daysUntil_2 : List UInt8 := dkwX3_daysUntil_2 ++ dktX3_daysUntil_3
def dkwX3_daysUntil_1 : List UInt8 := [167, 0, 4, 3, 182, 0, 154, 154, 0, 5, 3, 172, 28, 7, 27, 184, 0, 237, 164, 0, 9, 42, 5]
abbrev dktX3_daysUntil_1 : List UInt8 := dkwX3_daysUntil_1 ++ dktX3_daysUntil_2
def dkwX3_daysUntil_0 : List UInt8 := [42, 27, 4, 16, 12, 184, 0, 58, 153, 0, 17, 28, 4, 16, 31, 184, 0, 58, 153, 0, 7, 4]
abbrev dktX3_daysUntil_0 : List UInt8 := dkwX3_daysUntil_0 ++ dktX3_daysUntil_1
theorem dksX3_daysUntil_0 : cX3_daysUntil.data.toList.drop 0 = dktX3_daysUntil_0 := by decide +kernel
theorem dksX3_daysUntil_1 : cX3_daysUntil.data.toList.drop 22 = dktX3_daysUntil_1 := dk_seg dksX3_daysUntil_0 22 rfl rfl
theorem dksX3_daysUntil_2 : cX3_daysUntil.data.toList.drop 45 = dktX3_daysUntil_2 := dk_seg dksX3_daysUntil_1 23 rfl rfl
theorem dksX3_daysUntil_3 : cX3_daysUntil.data.toList.drop 69 = dktX3_daysUntil_3 := dk_seg dksX3_daysUntil_2 24 rfl rfl
theorem dksX3_daysUntil_4 : cX3_daysUntil.data.toList.drop 93 = dktX3_daysUntil_4 := dk_seg dksX3_daysUntil_3 24 rfl rfl
theorem dX3_daysUntil_0 : decode cX3_daysUntil 0 = .ok (.aload_n 0, 1) := dk_42 (dk_at dksX3_daysUntil_0 0 rfl rfl)
theorem dX3_daysUntil_1 : decode cX3_daysUntil 1 = .ok (.iload_n 1, 1) := dk_27 (dk_at dksX3_daysUntil_0 1 rfl rfl)
theorem dX3_daysUntil_2 : decode cX3_daysUntil 2 = .ok (.iconst 1, 1) := dk_4 (dk_at dksX3_daysUntil_0 2 rfl rfl)
theorem dX3_daysUntil_3 : decode cX3_daysUntil 3 = .ok (.bipush 12, 2) := dk_16 12 (dk_at dksX3_daysUntil_0 3 rfl rfl)
theorem dX3_daysUntil_5 : decode cX3_daysUntil 5 = .ok (.invokestatic 58, 3) := dk_184 0 58 (dk_at dksX3_daysUntil_0 5 rfl rfl)
theorem dX3_daysUntil_8 : decode cX3_daysUntil 8 = .ok (.ifCond .eq 17, 3) := dk_153 0 17 (dk_at dksX3_daysUntil_0 8 rfl rfl)
theorem dX3_daysUntil_11 : decode cX3_daysUntil 11 = .ok (.iload_n 2, 1) := dk_28 (dk_at dksX3_daysUntil_0 11 rfl rfl)
theorem dX3_daysUntil_12 : decode cX3_daysUntil 12 = .ok (.iconst 1, 1) := dk_4 (dk_at dksX3_daysUntil_0 12 rfl rfl)
theorem dX3_daysUntil_13 : decode cX3_daysUntil 13 = .ok (.bipush 31, 2) := dk_16 31 (dk_at dksX3_daysUntil_0 13 rfl rfl)
theorem dX3_daysUntil_15 : decode cX3_daysUntil 15 = .ok (.invokestatic 58, 3) := dk_184 0 58 (dk_at dksX3_daysUntil_0 15 rfl rfl)
theorem dX3_daysUntil_18 : decode cX3_daysUntil 18 = .ok (.ifCond .eq 7, 3) := dk_153 0 7 (dk_at dksX3_daysUntil_0 18 rfl rfl)
theorem dX3_daysUntil_21 : decode cX3_daysUntil 21 = .ok (.iconst 1, 1) := dk_4 (dk_at dksX3_daysUntil_0 21 rfl rfl)
theorem dX3_daysUntil_22 : decode cX3_daysUntil 22 = .ok (.goto 4, 3) := dk_167 0 4 (dk_at dksX3_daysUntil_1 0 rfl rfl)
theorem dX3_daysUntil_25 : decode cX3_daysUntil 25 = .ok (.iconst 0, 1) := dk_3 (dk_at dksX3_daysUntil_1 3 rfl rfl)
theorem dX3_daysUntil_26 : decode cX3_daysUntil 26 = .ok (.invokevirtual 154, 3) := dk_182 0 154 (dk_at dksX3_daysUntil_1 4 rfl rfl)
theorem dX3_daysUntil_29 : decode cX3_daysUntil 29 = .ok (.ifCond .ne 5, 3) := dk_154 0 5 (dk_at dksX3_daysUntil_1 7 rfl rfl)
theorem dX3_daysUntil_32 : decode cX3_daysUntil 32 = .ok (.iconst 0, 1) := dk_3 (dk_at dksX3_daysUntil_1 10 rfl rfl)
theorem dX3_daysUntil_33 : decode cX3_daysUntil 33 = .ok (.ireturn, 1) := dk_172 (dk_at dksX3_daysUntil_1 11 rfl rfl)
theorem dX3_daysUntil_34 : decode cX3_daysUntil 34 = .ok (.iload_n 2, 1) := dk_28 (dk_at dksX3_daysUntil_1 12 rfl rfl)
theorem dX3_daysUntil_35 : decode cX3_daysUntil 35 = .ok (.iconst 4, 1) := dk_7 (dk_at dksX3_daysUntil_1 13 rfl rfl)
theorem dX3_daysUntil_36 : decode cX3_daysUntil 36 = .ok (.iload_n 1, 1) := dk_27 (dk_at dksX3_daysUntil_1 14 rfl rfl)
theorem dX3_daysUntil_37 : decode cX3_daysUntil 37 = .ok (.invokestatic 237, 3) := dk_184 0 237 (dk_at dksX3_daysUntil_1 15 rfl rfl)
theorem dX3_daysUntil_40 : decode cX3_daysUntil 40 = .ok (.if_icmp .le 9, 3) := dk_164 0 9 (dk_at dksX3_daysUntil_1 18 rfl rfl)
theorem dX3_daysUntil_43 : decode cX3_daysUntil 43 = .ok (.aload_n 0, 1) := dk_42 (dk_at dksX3_daysUntil_1 21 rfl rfl)
theorem dX3_daysUntil_44 : decode cX3_daysUntil 44 = .ok (.iconst 2, 1) := dk_5 (dk_at dksX3_daysUntil_1 22 rfl rfl)
theorem dX3_daysUntil_45 : decode cX3_daysUntil 45 = .ok (.invokevirtual 51, 3) := dk_182 0 51 (dk_at dksX3_daysUntil_2 0 rfl rfl)
theorem dX3_daysUntil_48 : decode cX3_daysUntil 48 = .ok (.ireturn, 1) := dk_172 (dk_at dksX3_daysUntil_2 3 rfl rfl)
theorem dX3_daysUntil_49 : decode cX3_daysUntil 49 = .ok (.iconst 1, 1) := dk_4 (dk_at dksX3_daysUntil_2 4 rfl rfl)
theorem dX3_daysUntil_50 : decode cX3_daysUntil 50 = .ok (.istore_n 3, 1) := dk_62 (dk_at dksX3_daysUntil_2 5 rfl rfl)
theorem dX3_daysUntil_51 : decode cX3_daysUntil 51 = .ok (.aload_n 0, 1) := dk_42 (dk_at dksX3_daysUntil_2 6 rfl rfl)
theorem dX3_daysUntil_52 : decode cX3_daysUntil 52 = .ok (.aload_n 0, 1) := dk_42 (dk_at dksX3_daysUntil_2 7 rfl rfl)
theorem dX3_daysUntil_53 : decode cX3_daysUntil 53 = .ok (.getfield 7, 3) := dk_180 0 7 (dk_at dksX3_daysUntil_2 8 rfl rfl)
theorem dX3_daysUntil_56 : decode cX3_daysUntil 56 = .ok (.bipush 111, 2) := dk_16 111 (dk_at dksX3_daysUntil_2 11 rfl rfl)
theorem dX3_daysUntil_58 : decode cX3_daysUntil 58 = .ok (.iaload, 1) := dk_46 (dk_at dksX3_daysUntil_2 13 rfl rfl)
theorem dX3_daysUntil_59 : decode cX3_daysUntil 59 = .ok (.iconst 1, 1) := dk_4 (dk_at dksX3_daysUntil_2 14 rfl rfl)
theorem dX3_daysUntil_60 : decode cX3_daysUntil 60 = .ok (.iadd, 1) := dk_96 (dk_at dksX3_daysUntil_2 15 rfl rfl)
theorem dX3_daysUntil_61 : decode cX3_daysUntil 61 = .ok (.invokevirtual 243, 3) := dk_182 0 243 (dk_at dksX3_daysUntil_2 16 rfl rfl)
theorem dX3_daysUntil_64 : decode cX3_daysUntil 64 = .ok (.aload_n 0, 1) := dk_42 (dk_at dksX3_daysUntil_2 19 rfl rfl)
theorem dX3_daysUntil_65 : decode cX3_daysUntil 65 = .ok (.getfield 234, 3) := dk_180 0 234 (dk_at dksX3_daysUntil_2 20 rfl rfl)
theorem dX3_daysUntil_68 : decode cX3_daysUntil 68 = .ok (.iload_n 1, 1) := dk_27 (dk_at dksX3_daysUntil_2 23 rfl rfl)
theorem dX3_daysUntil_69 : decode cX3_daysUntil 69 = .ok (.if_icmp .ne 11, 3) := dk_160 0 11 (dk_at dksX3_daysUntil_3 0 rfl rfl)
theorem dX3_daysUntil_72 : decode cX3_daysUntil 72 = .ok (.aload_n 0, 1) := dk_42 (dk_at dksX3_daysUntil_3 3 rfl rfl)
theorem dX3_daysUntil_73 : decode cX3_daysUntil 73 = .ok (.getfield 240, 3) := dk_180 0 240 (dk_at dksX3_daysUntil_3 4 rfl rfl)
theorem dX3_daysUntil_76 : decode cX3_daysUntil 76 = .ok (.iload_n 2, 1) := dk_28 (dk_at dksX3_daysUntil_3 7 rfl rfl)
theorem dX3_daysUntil_77 : decode cX3_daysUntil 77 = .ok (.if_icmp .eq 22, 3) := dk_159 0 22 (dk_at dksX3_daysUntil_3 8 rfl rfl)
theorem dX3_daysUntil_80 : decode cX3_daysUntil 80 = .ok (.iinc 3 1, 3) := dk_132 3 1 (dk_at dksX3_daysUntil_3 11 rfl rfl)
theorem dX3_daysUntil_83 : decode cX3_daysUntil 83 = .ok (.aload_n 0, 1) := dk_42 (dk_at dksX3_daysUntil_3 14 rfl rfl)
theorem dX3_daysUntil_84 : decode cX3_daysUntil 84 = .ok (.aload_n 0, 1) := dk_42 (dk_at dksX3_daysUntil_3 15 rfl rfl)
theorem dX3_daysUntil_85 : decode cX3_daysUntil 85 = .ok (.getfield 7, 3) := dk_180 0 7 (dk_at dksX3_daysUntil_3 16 rfl rfl)
theorem dX3_daysUntil_88 : decode cX3_daysUntil 88 = .ok (.bipush 111, 2) := dk_16 111 (dk_at dksX3_daysUntil_3 19 rfl rfl)
theorem dX3_daysUntil_90 : decode cX3_daysUntil 90 = .ok (.iaload, 1) := dk_46 (dk_at dksX3_daysUntil_3 21 rfl rfl)
theorem dX3_daysUntil_91 : decode cX3_daysUntil 91 = .ok (.iload_n 3, 1) := dk_29 (dk_at dksX3_daysUntil_3 22 rfl rfl)
theorem dX3_daysUntil_92 : decode cX3_daysUntil 92 = .ok (.iadd, 1) := dk_96 (dk_at dksX3_daysUntil_3 23 rfl rfl)
theorem dX3_daysUntil_93 : decode cX3_daysUntil 93 = .ok (.invokevirtual 243, 3) := dk_182 0 243 (dk_at dksX3_daysUntil_4 0 rfl rfl)
theorem dX3_daysUntil_96 : decode cX3_daysUntil 96 = .ok (.goto (-32), 3) := dk_167 255 224 (dk_at dksX3_daysUntil_4 3 rfl rfl)
theorem dX3_daysUntil_99 : decode cX3_daysUntil 99 = .ok (.iload_n 3, 1) := dk_29 (dk_at dksX3_daysUntil_4 6 rfl rfl)
theorem dX3_daysUntil_100 : decode cX3_daysUntil 100 = .ok (.ireturn, 1) := dk_172 (dk_at dksX3_daysUntil_4 7 rfl rfl)
abbrev cX3_dayOfYear : ByteArray := prog_10_method_106_code
def yX3_dayOfYear : MethodName := ⟨RX3, "dayOfYear", "()I"⟩
def dkwX3_dayOfYear_0 : List UInt8 := [42, 3, 181, 0, 38, 42, 42, 180, 0, 7, 16, 111, 46, 182, 0, 243, 42, 180, 0, 231, 172]
abbrev dktX3_dayOfYear_0 : List UInt8 := dkwX3_dayOfYear_0 ++ []
theorem dksX3_dayOfYear_0 : cX3_dayOfYear.data.toList.drop 0 = dktX3_dayOfYear_0 := by decide +kernel
theorem dX3_dayOfYear_0 : decode cX3_dayOfYear 0 = .ok (.aload_n 0, 1) := dk_42 (dk_at dksX3_dayOfYear_0 0 rfl rfl)
theorem dX3_dayOfYear_1 : decode cX3_dayOfYear 1 = .ok (.iconst 0, 1) := dk_3 (dk_at dksX3_dayOfYear_0 1 rfl rfl)
theorem dX3_dayOfYear_2 : decode cX3_dayOfYear 2 = .ok (.putfield 38, 3) := dk_181 0 38 (dk_at dksX3_dayOfYear_0 2 rfl rfl)
theorem dX3_dayOfYear_5 : decode cX3_dayOfYear 5 = .ok (.aload_n 0, 1) := dk_42 (dk_at dksX3_dayOfYear_0 5 rfl rfl)
theorem dX3_dayOfYear_6 : decode cX3_dayOfYear 6 = .ok (.aload_n 0, 1) := dk_42 (dk_at dksX3_dayOfYear_0 6 rfl rfl)
theorem dX3_dayOfYear_7 : decode cX3_dayOfYear 7 = .ok (.getfield 7, 3) := dk_180 0 7 (dk_at dksX3_dayOfYear_0 7 rfl rfl)
theorem dX3_dayOfYear_10 : decode cX3_dayOfYear 10 = .ok (.bipush 111, 2) := dk_16 111 (dk_at dksX3_dayOfYear_0 10 rfl rfl)
theorem dX3_dayOfYear_12 : decode cX3_dayOfYear 12 = .ok (.iaload, 1) := dk_46 (dk_at dksX3_dayOfYear_0 12 rfl rfl)
theorem dX3_dayOfYear_13 : decode cX3_dayOfYear 13 = .ok (.invokevirtual 243, 3) := dk_182 0 243 (dk_at dksX3_dayOfYear_0 13 rfl rfl)
theorem dX3_dayOfYear_16 : decode cX3_dayOfYear 16 = .ok (.aload_n 0, 1) := dk_42 (dk_at dksX3_dayOfYear_0 16 rfl rfl)
theorem dX3_dayOfYear_17 : decode cX3_dayOfYear 17 = .ok (.getfield 231, 3) := dk_180 0 231 (dk_at dksX3_dayOfYear_0 17 rfl rfl)
theorem dX3_dayOfYear_20 : decode cX3_dayOfYear 20 = .ok (.ireturn, 1) := dk_172 (dk_at dksX3_dayOfYear_0 20 rfl rfl)
abbrev cX3_periodOf : ByteArray := prog_10_method_107_code
def yX3_periodOf : MethodName := ⟨RX3, "periodOf", "(I)I"⟩
def dkwX3_periodOf_1 : List UInt8 := [158, 0, 15, 42, 180, 0, 7, 16, 96, 27, 96, 46, 167, 0, 8, 42, 5, 182, 0, 51, 172]
abbrev dktX3_periodOf_1 : List UInt8 := dkwX3_periodOf_1 ++ []
def dkwX3_periodOf_0 : List UInt8 := [42, 42, 27, 182, 0, 137, 182, 0, 154, 154, 0, 5, 3, 172, 42, 180, 0, 7, 16, 96, 27, 96, 46]
abbrev dktX3_periodOf_0 : List UInt8 := dkwX3_periodOf_0 ++ dktX3_periodOf_1
theorem dksX3_periodOf_0 : cX3_periodOf.data.toList.drop 0 = dktX3_periodOf_0 := by decide +kernel
theorem dksX3_periodOf_1 : cX3_periodOf.data.toList.drop 23 = dktX3_periodOf_1 := dk_seg dksX3_periodOf_0 23 rfl rfl
theorem dX3_periodOf_0 : decode cX3_periodOf 0 = .ok (.aload_n 0, 1) := dk_42 (dk_at dksX3_periodOf_0 0 rfl rfl)
theorem dX3_periodOf_1 : decode cX3_periodOf 1 = .ok (.aload_n 0, 1) := dk_42 (dk_at dksX3_periodOf_0 1 rfl rfl)
theorem dX3_periodOf_2 : decode cX3_periodOf 2 = .ok (.iload_n 1, 1) := dk_27 (dk_at dksX3_periodOf_0 2 rfl rfl)
theorem dX3_periodOf_3 : decode cX3_periodOf 3 = .ok (.invokevirtual 137, 3) := dk_182 0 137 (dk_at dksX3_periodOf_0 3 rfl rfl)
theorem dX3_periodOf_6 : decode cX3_periodOf 6 = .ok (.invokevirtual 154, 3) := dk_182 0 154 (dk_at dksX3_periodOf_0 6 rfl rfl)
theorem dX3_periodOf_9 : decode cX3_periodOf 9 = .ok (.ifCond .ne 5, 3) := dk_154 0 5 (dk_at dksX3_periodOf_0 9 rfl rfl)
theorem dX3_periodOf_12 : decode cX3_periodOf 12 = .ok (.iconst 0, 1) := dk_3 (dk_at dksX3_periodOf_0 12 rfl rfl)
theorem dX3_periodOf_13 : decode cX3_periodOf 13 = .ok (.ireturn, 1) := dk_172 (dk_at dksX3_periodOf_0 13 rfl rfl)
theorem dX3_periodOf_14 : decode cX3_periodOf 14 = .ok (.aload_n 0, 1) := dk_42 (dk_at dksX3_periodOf_0 14 rfl rfl)
theorem dX3_periodOf_15 : decode cX3_periodOf 15 = .ok (.getfield 7, 3) := dk_180 0 7 (dk_at dksX3_periodOf_0 15 rfl rfl)
theorem dX3_periodOf_18 : decode cX3_periodOf 18 = .ok (.bipush 96, 2) := dk_16 96 (dk_at dksX3_periodOf_0 18 rfl rfl)
theorem dX3_periodOf_20 : decode cX3_periodOf 20 = .ok (.iload_n 1, 1) := dk_27 (dk_at dksX3_periodOf_0 20 rfl rfl)
theorem dX3_periodOf_21 : decode cX3_periodOf 21 = .ok (.iadd, 1) := dk_96 (dk_at dksX3_periodOf_0 21 rfl rfl)
theorem dX3_periodOf_22 : decode cX3_periodOf 22 = .ok (.iaload, 1) := dk_46 (dk_at dksX3_periodOf_0 22 rfl rfl)
theorem dX3_periodOf_23 : decode cX3_periodOf 23 = .ok (.ifCond .le 15, 3) := dk_158 0 15 (dk_at dksX3_periodOf_1 0 rfl rfl)
theorem dX3_periodOf_26 : decode cX3_periodOf 26 = .ok (.aload_n 0, 1) := dk_42 (dk_at dksX3_periodOf_1 3 rfl rfl)
theorem dX3_periodOf_27 : decode cX3_periodOf 27 = .ok (.getfield 7, 3) := dk_180 0 7 (dk_at dksX3_periodOf_1 4 rfl rfl)
theorem dX3_periodOf_30 : decode cX3_periodOf 30 = .ok (.bipush 96, 2) := dk_16 96 (dk_at dksX3_periodOf_1 7 rfl rfl)
theorem dX3_periodOf_32 : decode cX3_periodOf 32 = .ok (.iload_n 1, 1) := dk_27 (dk_at dksX3_periodOf_1 9 rfl rfl)
theorem dX3_periodOf_33 : decode cX3_periodOf 33 = .ok (.iadd, 1) := dk_96 (dk_at dksX3_periodOf_1 10 rfl rfl)
theorem dX3_periodOf_34 : decode cX3_periodOf 34 = .ok (.iaload, 1) := dk_46 (dk_at dksX3_periodOf_1 11 rfl rfl)
theorem dX3_periodOf_35 : decode cX3_periodOf 35 = .ok (.goto 8, 3) := dk_167 0 8 (dk_at dksX3_periodOf_1 12 rfl rfl)
theorem dX3_periodOf_38 : decode cX3_periodOf 38 = .ok (.aload_n 0, 1) := dk_42 (dk_at dksX3_periodOf_1 15 rfl rfl)
theorem dX3_periodOf_39 : decode cX3_periodOf 39 = .ok (.iconst 2, 1) := dk_5 (dk_at dksX3_periodOf_1 16 rfl rfl)
theorem dX3_periodOf_40 : decode cX3_periodOf 40 = .ok (.invokevirtual 51, 3) := dk_182 0 51 (dk_at dksX3_periodOf_1 17 rfl rfl)
theorem dX3_periodOf_43 : decode cX3_periodOf 43 = .ok (.ireturn, 1) := dk_172 (dk_at dksX3_periodOf_1 20 rfl rfl)
abbrev cX3_errorBits : ByteArray := prog_10_method_108_code
def yX3_errorBits : MethodName := ⟨RX3, "errorBits", "(I)J"⟩
def dkwX3_errorBits_3 : List UInt8 := [180, 0, 7, 16, 111, 46, 135, 107, 184, 0, 252, 173]
abbrev dktX3_errorBits_3 : List UInt8 := dkwX3_errorBits_3 ++ []
def dkwX3_errorBits_2 : List UInt8 := [182, 0, 162, 138, 42, 180, 0, 32, 29, 47, 138, 111, 20, 0, 250, 28, 135, 111, 103, 57, 4, 24, 4, 42]
abbrev dktX3_errorBits_2 : List UInt8 := dkwX3_errorBits_2 ++ dktX3_errorBits_3
def dkwX3_errorBits_1 : List UInt8 := [154, 0, 10, 42, 5, 182, 0, 51, 133, 173, 42, 180, 0, 7, 16, 84, 27, 96, 46, 62, 42, 29]
abbrev dktX3_errorBits_1 : List UInt8 := dkwX3_errorBits_1 ++ dktX3_errorBits_2
def dkwX3_errorBits_0 : List UInt8 := [42, 27, 4, 182, 0, 180, 154, 0, 5, 9, 173, 42, 180, 0, 7, 16, 96, 27, 96, 46, 61, 28]
abbrev dktX3_errorBits_0 : List UInt8 := dkwX3_errorBits_0 ++ dktX3_errorBits_1
theorem dksX3_errorBits_0 : cX3_errorBits.data.toList.drop 0 = dktX3_errorBits_0 := by decide +kernel
theorem dksX3_errorBits_1 : cX3_errorBits.data.toList.drop 22 = dktX3_errorBits_1 := dk_seg dksX3_errorBits_0 22 rfl rfl
theorem dksX3_errorBits_2 : cX3_errorBits.data.toList.drop 44 = dktX3_errorBits_2 := dk_seg dksX3_errorBits_1 22 rfl rfl
theorem dksX3_errorBits_3 : cX3_errorBits.data.toList.drop 68 = dktX3_errorBits_3 := dk_seg dksX3_errorBits_2 24 rfl rfl
theorem dX3_errorBits_0 : decode cX3_errorBits 0 = .ok (.aload_n 0, 1) := dk_42 (dk_at dksX3_errorBits_0 0 rfl rfl)
theorem dX3_errorBits_1 : decode cX3_errorBits 1 = .ok (.iload_n 1, 1) := dk_27 (dk_at dksX3_errorBits_0 1 rfl rfl)
theorem dX3_errorBits_2 : decode cX3_errorBits 2 = .ok (.iconst 1, 1) := dk_4 (dk_at dksX3_errorBits_0 2 rfl rfl)
theorem dX3_errorBits_3 : decode cX3_errorBits 3 = .ok (.invokevirtual 180, 3) := dk_182 0 180 (dk_at dksX3_errorBits_0 3 rfl rfl)
theorem dX3_errorBits_6 : decode cX3_errorBits 6 = .ok (.ifCond .ne 5, 3) := dk_154 0 5 (dk_at dksX3_errorBits_0 6 rfl rfl)
theorem dX3_errorBits_9 : decode cX3_errorBits 9 = .ok (.lconst 0, 1) := dk_9 (dk_at dksX3_errorBits_0 9 rfl rfl)
theorem dX3_errorBits_10 : decode cX3_errorBits 10 = .ok (.lreturn, 1) := dk_173 (dk_at dksX3_errorBits_0 10 rfl rfl)
theorem dX3_errorBits_11 : decode cX3_errorBits 11 = .ok (.aload_n 0, 1) := dk_42 (dk_at dksX3_errorBits_0 11 rfl rfl)
theorem dX3_errorBits_12 : decode cX3_errorBits 12 = .ok (.getfield 7, 3) := dk_180 0 7 (dk_at dksX3_errorBits_0 12 rfl rfl)
theorem dX3_errorBits_15 : decode cX3_errorBits 15 = .ok (.bipush 96, 2) := dk_16 96 (dk_at dksX3_errorBits_0 15 rfl rfl)
theorem dX3_errorBits_17 : decode cX3_errorBits 17 = .ok (.iload_n 1, 1) := dk_27 (dk_at dksX3_errorBits_0 17 rfl rfl)
theorem dX3_errorBits_18 : decode cX3_errorBits 18 = .ok (.iadd, 1) := dk_96 (dk_at dksX3_errorBits_0 18 rfl rfl)
theorem dX3_errorBits_19 : decode cX3_errorBits 19 = .ok (.iaload, 1) := dk_46 (dk_at dksX3_errorBits_0 19 rfl rfl)
theorem dX3_errorBits_20 : decode cX3_errorBits 20 = .ok (.istore_n 2, 1) := dk_61 (dk_at dksX3_errorBits_0 20 rfl rfl)
theorem dX3_errorBits_21 : decode cX3_errorBits 21 = .ok (.iload_n 2, 1) := dk_28 (dk_at dksX3_errorBits_0 21 rfl rfl)
theorem dX3_errorBits_22 : decode cX3_errorBits 22 = .ok (.ifCond .ne 10, 3) := dk_154 0 10 (dk_at dksX3_errorBits_1 0 rfl rfl)
theorem dX3_errorBits_25 : decode cX3_errorBits 25 = .ok (.aload_n 0, 1) := dk_42 (dk_at dksX3_errorBits_1 3 rfl rfl)
theorem dX3_errorBits_26 : decode cX3_errorBits 26 = .ok (.iconst 2, 1) := dk_5 (dk_at dksX3_errorBits_1 4 rfl rfl)
theorem dX3_errorBits_27 : decode cX3_errorBits 27 = .ok (.invokevirtual 51, 3) := dk_182 0 51 (dk_at dksX3_errorBits_1 5 rfl rfl)
theorem dX3_errorBits_30 : decode cX3_errorBits 30 = .ok (.i2l, 1) := dk_133 (dk_at dksX3_errorBits_1 8 rfl rfl)
theorem dX3_errorBits_31 : decode cX3_errorBits 31 = .ok (.lreturn, 1) := dk_173 (dk_at dksX3_errorBits_1 9 rfl rfl)
theorem dX3_errorBits_32 : decode cX3_errorBits 32 = .ok (.aload_n 0, 1) := dk_42 (dk_at dksX3_errorBits_1 10 rfl rfl)
theorem dX3_errorBits_33 : decode cX3_errorBits 33 = .ok (.getfield 7, 3) := dk_180 0 7 (dk_at dksX3_errorBits_1 11 rfl rfl)
theorem dX3_errorBits_36 : decode cX3_errorBits 36 = .ok (.bipush 84, 2) := dk_16 84 (dk_at dksX3_errorBits_1 14 rfl rfl)
theorem dX3_errorBits_38 : decode cX3_errorBits 38 = .ok (.iload_n 1, 1) := dk_27 (dk_at dksX3_errorBits_1 16 rfl rfl)
theorem dX3_errorBits_39 : decode cX3_errorBits 39 = .ok (.iadd, 1) := dk_96 (dk_at dksX3_errorBits_1 17 rfl rfl)
theorem dX3_errorBits_40 : decode cX3_errorBits 40 = .ok (.iaload, 1) := dk_46 (dk_at dksX3_errorBits_1 18 rfl rfl)
theorem dX3_errorBits_41 : decode cX3_errorBits 41 = .ok (.istore_n 3, 1) := dk_62 (dk_at dksX3_errorBits_1 19 rfl rfl)
theorem dX3_errorBits_42 : decode cX3_errorBits 42 = .ok (.aload_n 0, 1) := dk_42 (dk_at dksX3_errorBits_1 20 rfl rfl)
theorem dX3_errorBits_43 : decode cX3_errorBits 43 = .ok (.iload_n 3, 1) := dk_29 (dk_at dksX3_errorBits_1 21 rfl rfl)
theorem dX3_errorBits_44 : decode cX3_errorBits 44 = .ok (.invokevirtual 162, 3) := dk_182 0 162 (dk_at dksX3_errorBits_2 0 rfl rfl)
theorem dX3_errorBits_47 : decode cX3_errorBits 47 = .ok (.l2d, 1) := dk_138 (dk_at dksX3_errorBits_2 3 rfl rfl)
theorem dX3_errorBits_48 : decode cX3_errorBits 48 = .ok (.aload_n 0, 1) := dk_42 (dk_at dksX3_errorBits_2 4 rfl rfl)
theorem dX3_errorBits_49 : decode cX3_errorBits 49 = .ok (.getfield 32, 3) := dk_180 0 32 (dk_at dksX3_errorBits_2 5 rfl rfl)
theorem dX3_errorBits_52 : decode cX3_errorBits 52 = .ok (.iload_n 3, 1) := dk_29 (dk_at dksX3_errorBits_2 8 rfl rfl)
theorem dX3_errorBits_53 : decode cX3_errorBits 53 = .ok (.laload, 1) := dk_47 (dk_at dksX3_errorBits_2 9 rfl rfl)
theorem dX3_errorBits_54 : decode cX3_errorBits 54 = .ok (.l2d, 1) := dk_138 (dk_at dksX3_errorBits_2 10 rfl rfl)
theorem dX3_errorBits_55 : decode cX3_errorBits 55 = .ok (.ddiv, 1) := dk_111 (dk_at dksX3_errorBits_2 11 rfl rfl)
theorem dX3_errorBits_56 : decode cX3_errorBits 56 = .ok (.ldc2_w 250, 3) := dk_20 0 250 (dk_at dksX3_errorBits_2 12 rfl rfl)
theorem dX3_errorBits_59 : decode cX3_errorBits 59 = .ok (.iload_n 2, 1) := dk_28 (dk_at dksX3_errorBits_2 15 rfl rfl)
theorem dX3_errorBits_60 : decode cX3_errorBits 60 = .ok (.i2d, 1) := dk_135 (dk_at dksX3_errorBits_2 16 rfl rfl)
theorem dX3_errorBits_61 : decode cX3_errorBits 61 = .ok (.ddiv, 1) := dk_111 (dk_at dksX3_errorBits_2 17 rfl rfl)
theorem dX3_errorBits_62 : decode cX3_errorBits 62 = .ok (.dsub, 1) := dk_103 (dk_at dksX3_errorBits_2 18 rfl rfl)
theorem dX3_errorBits_63 : decode cX3_errorBits 63 = .ok (.dstore 4, 2) := dk_57 4 (dk_at dksX3_errorBits_2 19 rfl rfl)
theorem dX3_errorBits_65 : decode cX3_errorBits 65 = .ok (.dload 4, 2) := dk_24 4 (dk_at dksX3_errorBits_2 21 rfl rfl)
theorem dX3_errorBits_67 : decode cX3_errorBits 67 = .ok (.aload_n 0, 1) := dk_42 (dk_at dksX3_errorBits_2 23 rfl rfl)
theorem dX3_errorBits_68 : decode cX3_errorBits 68 = .ok (.getfield 7, 3) := dk_180 0 7 (dk_at dksX3_errorBits_3 0 rfl rfl)
theorem dX3_errorBits_71 : decode cX3_errorBits 71 = .ok (.bipush 111, 2) := dk_16 111 (dk_at dksX3_errorBits_3 3 rfl rfl)
theorem dX3_errorBits_73 : decode cX3_errorBits 73 = .ok (.iaload, 1) := dk_46 (dk_at dksX3_errorBits_3 5 rfl rfl)
theorem dX3_errorBits_74 : decode cX3_errorBits 74 = .ok (.i2d, 1) := dk_135 (dk_at dksX3_errorBits_3 6 rfl rfl)
theorem dX3_errorBits_75 : decode cX3_errorBits 75 = .ok (.dmul, 1) := dk_107 (dk_at dksX3_errorBits_3 7 rfl rfl)
theorem dX3_errorBits_76 : decode cX3_errorBits 76 = .ok (.invokestatic 252, 3) := dk_184 0 252 (dk_at dksX3_errorBits_3 8 rfl rfl)
theorem dX3_errorBits_79 : decode cX3_errorBits 79 = .ok (.lreturn, 1) := dk_173 (dk_at dksX3_errorBits_3 11 rfl rfl)
abbrev cX3_bestPair : ByteArray := prog_10_method_109_code
def yX3_bestPair : MethodName := ⟨RX3, "bestPair", "(II)I"⟩
def dkwX3_bestPair_9 : List UInt8 := [172]
abbrev dktX3_bestPair_9 : List UInt8 := dkwX3_bestPair_9 ++ []
def dkwX3_bestPair_8 : List UInt8 := [21, 4, 54, 4, 132, 6, 1, 167, 255, 119, 132, 5, 1, 167, 255, 102, 17, 3, 232, 29, 104, 21, 4, 96]
abbrev dktX3_bestPair_8 : List UInt8 := dkwX3_bestPair_8 ++ dktX3_bestPair_9
def dkwX3_bestPair_7 : List UInt8 := [54, 11, 21, 11, 153, 0, 8, 21, 5, 167, 0, 4, 29, 62, 21, 11, 153, 0, 8, 21, 6, 167, 0, 5]
abbrev dktX3_bestPair_7 : List UInt8 := dkwX3_bestPair_7 ++ dktX3_bestPair_8
def dkwX3_bestPair_6 : List UInt8 := [154, 0, 23, 21, 10, 155, 0, 14, 21, 10, 154, 0, 13, 21, 5, 29, 162, 0, 7, 4, 167, 0, 4, 3]
abbrev dktX3_bestPair_6 : List UInt8 := dkwX3_bestPair_6 ++ dktX3_bestPair_7
def dkwX3_bestPair_5 : List UInt8 := [100, 54, 9, 21, 5, 21, 6, 96, 29, 100, 21, 4, 100, 54, 10, 21, 9, 155, 0, 24, 21, 9]
abbrev dktX3_bestPair_5 : List UInt8 := dkwX3_bestPair_5 ++ dktX3_bestPair_6
def dkwX3_bestPair_4 : List UInt8 := [167, 0, 5, 21, 7, 21, 4, 104, 21, 8, 156, 0, 9, 21, 8, 116, 167, 0, 5, 21, 8, 21, 6, 104]
abbrev dktX3_bestPair_4 : List UInt8 := dkwX3_bestPair_4 ++ dktX3_bestPair_5
def dkwX3_bestPair_3 : List UInt8 := [21, 6, 104, 100, 54, 7, 29, 28, 104, 27, 21, 4, 104, 100, 54, 8, 21, 7, 156, 0, 9, 21, 7, 116]
abbrev dktX3_bestPair_3 : List UInt8 := dkwX3_bestPair_3 ++ dktX3_bestPair_4
def dkwX3_bestPair_2 : List UInt8 := [21, 5, 16, 120, 163, 0, 153, 16, 8, 54, 6, 21, 6, 16, 120, 163, 0, 136, 21, 5, 28, 104, 27]
abbrev dktX3_bestPair_2 : List UInt8 := dkwX3_bestPair_2 ++ dktX3_bestPair_3
def dkwX3_bestPair_1 : List UInt8 := [167, 0, 4, 3, 182, 0, 154, 154, 0, 5, 3, 172, 16, 8, 62, 16, 8, 54, 4, 16, 8, 54, 5]
abbrev dktX3_bestPair_1 : List UInt8 := dkwX3_bestPair_1 ++ dktX3_bestPair_2
def dkwX3_bestPair_0 : List UInt8 := [42, 27, 4, 17, 0, 200, 184, 0, 58, 153, 0, 18, 28, 4, 17, 0, 200, 184, 0, 58, 153, 0, 7, 4]
abbrev dktX3_bestPair_0 : List UInt8 := dkwX3_bestPair_0 ++ dktX3_bestPair_1
theorem dksX3_bestPair_0 : cX3_bestPair.data.toList.drop 0 = dktX3_bestPair_0 := by decide +kernel
theorem dksX3_bestPair_1 : cX3_bestPair.data.toList.drop 24 = dktX3_bestPair_1 := dk_seg dksX3_bestPair_0 24 rfl rfl
theorem dksX3_bestPair_2 : cX3_bestPair.data.toList.drop 47 = dktX3_bestPair_2 := dk_seg dksX3_bestPair_1 23 rfl rfl
theorem dksX3_bestPair_3 : cX3_bestPair.data.toList.drop 70 = dktX3_bestPair_3 := dk_seg dksX3_bestPair_2 23 rfl rfl
theorem dksX3_bestPair_4 : cX3_bestPair.data.toList.drop 94 = dktX3_bestPair_4 := dk_seg dksX3_bestPair_3 24 rfl rfl
theorem dksX3_bestPair_5 : cX3_bestPair.data.toList.drop 118 = dktX3_bestPair_5 := dk_seg dksX3_bestPair_4 24 rfl rfl
theorem dksX3_bestPair_6 : cX3_bestPair.data.toList.drop 140 = dktX3_bestPair_6 := dk_seg dksX3_bestPair_5 22 rfl rfl
theorem dksX3_bestPair_7 : cX3_bestPair.data.toList.drop 164 = dktX3_bestPair_7 := dk_seg dksX3_bestPair_6 24 rfl rfl
theorem dksX3_bestPair_8 : cX3_bestPair.data.toList.drop 188 = dktX3_bestPair_8 := dk_seg dksX3_bestPair_7 24 rfl rfl
theorem dksX3_bestPair_9 : cX3_bestPair.data.toList.drop 212 = dktX3_bestPair_9 := dk_seg dksX3_bestPair_8 24 rfl rfl
theorem dX3_bestPair_0 : decode cX3_bestPair 0 = .ok (.aload_n 0, 1) := dk_42 (dk_at dksX3_bestPair_0 0 rfl rfl)
theorem dX3_bestPair_1 : decode cX3_bestPair 1 = .ok (.iload_n 1, 1) := dk_27 (dk_at dksX3_bestPair_0 1 rfl rfl)
theorem dX3_bestPair_2 : decode cX3_bestPair 2 = .ok (.iconst 1, 1) := dk_4 (dk_at dksX3_bestPair_0 2 rfl rfl)
theorem dX3_bestPair_3 : decode cX3_bestPair 3 = .ok (.sipush 200, 3) := dk_17 0 200 (dk_at dksX3_bestPair_0 3 rfl rfl)
theorem dX3_bestPair_6 : decode cX3_bestPair 6 = .ok (.invokestatic 58, 3) := dk_184 0 58 (dk_at dksX3_bestPair_0 6 rfl rfl)
theorem dX3_bestPair_9 : decode cX3_bestPair 9 = .ok (.ifCond .eq 18, 3) := dk_153 0 18 (dk_at dksX3_bestPair_0 9 rfl rfl)
theorem dX3_bestPair_12 : decode cX3_bestPair 12 = .ok (.iload_n 2, 1) := dk_28 (dk_at dksX3_bestPair_0 12 rfl rfl)
theorem dX3_bestPair_13 : decode cX3_bestPair 13 = .ok (.iconst 1, 1) := dk_4 (dk_at dksX3_bestPair_0 13 rfl rfl)
theorem dX3_bestPair_14 : decode cX3_bestPair 14 = .ok (.sipush 200, 3) := dk_17 0 200 (dk_at dksX3_bestPair_0 14 rfl rfl)
theorem dX3_bestPair_17 : decode cX3_bestPair 17 = .ok (.invokestatic 58, 3) := dk_184 0 58 (dk_at dksX3_bestPair_0 17 rfl rfl)
theorem dX3_bestPair_20 : decode cX3_bestPair 20 = .ok (.ifCond .eq 7, 3) := dk_153 0 7 (dk_at dksX3_bestPair_0 20 rfl rfl)
theorem dX3_bestPair_23 : decode cX3_bestPair 23 = .ok (.iconst 1, 1) := dk_4 (dk_at dksX3_bestPair_0 23 rfl rfl)
theorem dX3_bestPair_24 : decode cX3_bestPair 24 = .ok (.goto 4, 3) := dk_167 0 4 (dk_at dksX3_bestPair_1 0 rfl rfl)
theorem dX3_bestPair_27 : decode cX3_bestPair 27 = .ok (.iconst 0, 1) := dk_3 (dk_at dksX3_bestPair_1 3 rfl rfl)
theorem dX3_bestPair_28 : decode cX3_bestPair 28 = .ok (.invokevirtual 154, 3) := dk_182 0 154 (dk_at dksX3_bestPair_1 4 rfl rfl)
theorem dX3_bestPair_31 : decode cX3_bestPair 31 = .ok (.ifCond .ne 5, 3) := dk_154 0 5 (dk_at dksX3_bestPair_1 7 rfl rfl)
theorem dX3_bestPair_34 : decode cX3_bestPair 34 = .ok (.iconst 0, 1) := dk_3 (dk_at dksX3_bestPair_1 10 rfl rfl)
theorem dX3_bestPair_35 : decode cX3_bestPair 35 = .ok (.ireturn, 1) := dk_172 (dk_at dksX3_bestPair_1 11 rfl rfl)
theorem dX3_bestPair_36 : decode cX3_bestPair 36 = .ok (.bipush 8, 2) := dk_16 8 (dk_at dksX3_bestPair_1 12 rfl rfl)
theorem dX3_bestPair_38 : decode cX3_bestPair 38 = .ok (.istore_n 3, 1) := dk_62 (dk_at dksX3_bestPair_1 14 rfl rfl)
theorem dX3_bestPair_39 : decode cX3_bestPair 39 = .ok (.bipush 8, 2) := dk_16 8 (dk_at dksX3_bestPair_1 15 rfl rfl)
theorem dX3_bestPair_41 : decode cX3_bestPair 41 = .ok (.istore 4, 2) := dk_54 4 (dk_at dksX3_bestPair_1 17 rfl rfl)
theorem dX3_bestPair_43 : decode cX3_bestPair 43 = .ok (.bipush 8, 2) := dk_16 8 (dk_at dksX3_bestPair_1 19 rfl rfl)
theorem dX3_bestPair_45 : decode cX3_bestPair 45 = .ok (.istore 5, 2) := dk_54 5 (dk_at dksX3_bestPair_1 21 rfl rfl)
theorem dX3_bestPair_47 : decode cX3_bestPair 47 = .ok (.iload 5, 2) := dk_21 5 (dk_at dksX3_bestPair_2 0 rfl rfl)
theorem dX3_bestPair_49 : decode cX3_bestPair 49 = .ok (.bipush 120, 2) := dk_16 120 (dk_at dksX3_bestPair_2 2 rfl rfl)
theorem dX3_bestPair_51 : decode cX3_bestPair 51 = .ok (.if_icmp .gt 153, 3) := dk_163 0 153 (dk_at dksX3_bestPair_2 4 rfl rfl)
theorem dX3_bestPair_54 : decode cX3_bestPair 54 = .ok (.bipush 8, 2) := dk_16 8 (dk_at dksX3_bestPair_2 7 rfl rfl)
theorem dX3_bestPair_56 : decode cX3_bestPair 56 = .ok (.istore 6, 2) := dk_54 6 (dk_at dksX3_bestPair_2 9 rfl rfl)
theorem dX3_bestPair_58 : decode cX3_bestPair 58 = .ok (.iload 6, 2) := dk_21 6 (dk_at dksX3_bestPair_2 11 rfl rfl)
theorem dX3_bestPair_60 : decode cX3_bestPair 60 = .ok (.bipush 120, 2) := dk_16 120 (dk_at dksX3_bestPair_2 13 rfl rfl)
theorem dX3_bestPair_62 : decode cX3_bestPair 62 = .ok (.if_icmp .gt 136, 3) := dk_163 0 136 (dk_at dksX3_bestPair_2 15 rfl rfl)
theorem dX3_bestPair_65 : decode cX3_bestPair 65 = .ok (.iload 5, 2) := dk_21 5 (dk_at dksX3_bestPair_2 18 rfl rfl)
theorem dX3_bestPair_67 : decode cX3_bestPair 67 = .ok (.iload_n 2, 1) := dk_28 (dk_at dksX3_bestPair_2 20 rfl rfl)
theorem dX3_bestPair_68 : decode cX3_bestPair 68 = .ok (.imul, 1) := dk_104 (dk_at dksX3_bestPair_2 21 rfl rfl)
theorem dX3_bestPair_69 : decode cX3_bestPair 69 = .ok (.iload_n 1, 1) := dk_27 (dk_at dksX3_bestPair_2 22 rfl rfl)
theorem dX3_bestPair_70 : decode cX3_bestPair 70 = .ok (.iload 6, 2) := dk_21 6 (dk_at dksX3_bestPair_3 0 rfl rfl)
theorem dX3_bestPair_72 : decode cX3_bestPair 72 = .ok (.imul, 1) := dk_104 (dk_at dksX3_bestPair_3 2 rfl rfl)
theorem dX3_bestPair_73 : decode cX3_bestPair 73 = .ok (.isub, 1) := dk_100 (dk_at dksX3_bestPair_3 3 rfl rfl)
theorem dX3_bestPair_74 : decode cX3_bestPair 74 = .ok (.istore 7, 2) := dk_54 7 (dk_at dksX3_bestPair_3 4 rfl rfl)
theorem dX3_bestPair_76 : decode cX3_bestPair 76 = .ok (.iload_n 3, 1) := dk_29 (dk_at dksX3_bestPair_3 6 rfl rfl)
theorem dX3_bestPair_77 : decode cX3_bestPair 77 = .ok (.iload_n 2, 1) := dk_28 (dk_at dksX3_bestPair_3 7 rfl rfl)
theorem dX3_bestPair_78 : decode cX3_bestPair 78 = .ok (.imul, 1) := dk_104 (dk_at dksX3_bestPair_3 8 rfl rfl)
theorem dX3_bestPair_79 : decode cX3_bestPair 79 = .ok (.iload_n 1, 1) := dk_27 (dk_at dksX3_bestPair_3 9 rfl rfl)
theorem dX3_bestPair_80 : decode cX3_bestPair 80 = .ok (.iload 4, 2) := dk_21 4 (dk_at dksX3_bestPair_3 10 rfl rfl)
theorem dX3_bestPair_82 : decode cX3_bestPair 82 = .ok (.imul, 1) := dk_104 (dk_at dksX3_bestPair_3 12 rfl rfl)
theorem dX3_bestPair_83 : decode cX3_bestPair 83 = .ok (.isub, 1) := dk_100 (dk_at dksX3_bestPair_3 13 rfl rfl)
theorem dX3_bestPair_84 : decode cX3_bestPair 84 = .ok (.istore 8, 2) := dk_54 8 (dk_at dksX3_bestPair_3 14 rfl rfl)
theorem dX3_bestPair_86 : decode cX3_bestPair 86 = .ok (.iload 7, 2) := dk_21 7 (dk_at dksX3_bestPair_3 16 rfl rfl)
theorem dX3_bestPair_88 : decode cX3_bestPair 88 = .ok (.ifCond .ge 9, 3) := dk_156 0 9 (dk_at dksX3_bestPair_3 18 rfl rfl)
theorem dX3_bestPair_91 : decode cX3_bestPair 91 = .ok (.iload 7, 2) := dk_21 7 (dk_at dksX3_bestPair_3 21 rfl rfl)
theorem dX3_bestPair_93 : decode cX3_bestPair 93 = .ok (.ineg, 1) := dk_116 (dk_at dksX3_bestPair_3 23 rfl rfl)
theorem dX3_bestPair_94 : decode cX3_bestPair 94 = .ok (.goto 5, 3) := dk_167 0 5 (dk_at dksX3_bestPair_4 0 rfl rfl)
theorem dX3_bestPair_97 : decode cX3_bestPair 97 = .ok (.iload 7, 2) := dk_21 7 (dk_at dksX3_bestPair_4 3 rfl rfl)
theorem dX3_bestPair_99 : decode cX3_bestPair 99 = .ok (.iload 4, 2) := dk_21 4 (dk_at dksX3_bestPair_4 5 rfl rfl)
theorem dX3_bestPair_101 : decode cX3_bestPair 101 = .ok (.imul, 1) := dk_104 (dk_at dksX3_bestPair_4 7 rfl rfl)
theorem dX3_bestPair_102 : decode cX3_bestPair 102 = .ok (.iload 8, 2) := dk_21 8 (dk_at dksX3_bestPair_4 8 rfl rfl)
theorem dX3_bestPair_104 : decode cX3_bestPair 104 = .ok (.ifCond .ge 9, 3) := dk_156 0 9 (dk_at dksX3_bestPair_4 10 rfl rfl)
theorem dX3_bestPair_107 : decode cX3_bestPair 107 = .ok (.iload 8, 2) := dk_21 8 (dk_at dksX3_bestPair_4 13 rfl rfl)
theorem dX3_bestPair_109 : decode cX3_bestPair 109 = .ok (.ineg, 1) := dk_116 (dk_at dksX3_bestPair_4 15 rfl rfl)
theorem dX3_bestPair_110 : decode cX3_bestPair 110 = .ok (.goto 5, 3) := dk_167 0 5 (dk_at dksX3_bestPair_4 16 rfl rfl)
theorem dX3_bestPair_113 : decode cX3_bestPair 113 = .ok (.iload 8, 2) := dk_21 8 (dk_at dksX3_bestPair_4 19 rfl rfl)
theorem dX3_bestPair_115 : decode cX3_bestPair 115 = .ok (.iload 6, 2) := dk_21 6 (dk_at dksX3_bestPair_4 21 rfl rfl)
theorem dX3_bestPair_117 : decode cX3_bestPair 117 = .ok (.imul, 1) := dk_104 (dk_at dksX3_bestPair_4 23 rfl rfl)
theorem dX3_bestPair_118 : decode cX3_bestPair 118 = .ok (.isub, 1) := dk_100 (dk_at dksX3_bestPair_5 0 rfl rfl)
theorem dX3_bestPair_119 : decode cX3_bestPair 119 = .ok (.istore 9, 2) := dk_54 9 (dk_at dksX3_bestPair_5 1 rfl rfl)
theorem dX3_bestPair_121 : decode cX3_bestPair 121 = .ok (.iload 5, 2) := dk_21 5 (dk_at dksX3_bestPair_5 3 rfl rfl)
theorem dX3_bestPair_123 : decode cX3_bestPair 123 = .ok (.iload 6, 2) := dk_21 6 (dk_at dksX3_bestPair_5 5 rfl rfl)
theorem dX3_bestPair_125 : decode cX3_bestPair 125 = .ok (.iadd, 1) := dk_96 (dk_at dksX3_bestPair_5 7 rfl rfl)
theorem dX3_bestPair_126 : decode cX3_bestPair 126 = .ok (.iload_n 3, 1) := dk_29 (dk_at dksX3_bestPair_5 8 rfl rfl)
theorem dX3_bestPair_127 : decode cX3_bestPair 127 = .ok (.isub, 1) := dk_100 (dk_at dksX3_bestPair_5 9 rfl rfl)
theorem dX3_bestPair_128 : decode cX3_bestPair 128 = .ok (.iload 4, 2) := dk_21 4 (dk_at dksX3_bestPair_5 10 rfl rfl)
theorem dX3_bestPair_130 : decode cX3_bestPair 130 = .ok (.isub, 1) := dk_100 (dk_at dksX3_bestPair_5 12 rfl rfl)
theorem dX3_bestPair_131 : decode cX3_bestPair 131 = .ok (.istore 10, 2) := dk_54 10 (dk_at dksX3_bestPair_5 13 rfl rfl)
theorem dX3_bestPair_133 : decode cX3_bestPair 133 = .ok (.iload 9, 2) := dk_21 9 (dk_at dksX3_bestPair_5 15 rfl rfl)
theorem dX3_bestPair_135 : decode cX3_bestPair 135 = .ok (.ifCond .lt 24, 3) := dk_155 0 24 (dk_at dksX3_bestPair_5 17 rfl rfl)
theorem dX3_bestPair_138 : decode cX3_bestPair 138 = .ok (.iload 9, 2) := dk_21 9 (dk_at dksX3_bestPair_5 20 rfl rfl)
theorem dX3_bestPair_140 : decode cX3_bestPair 140 = .ok (.ifCond .ne 23, 3) := dk_154 0 23 (dk_at dksX3_bestPair_6 0 rfl rfl)
theorem dX3_bestPair_143 : decode cX3_bestPair 143 = .ok (.iload 10, 2) := dk_21 10 (dk_at dksX3_bestPair_6 3 rfl rfl)
theorem dX3_bestPair_145 : decode cX3_bestPair 145 = .ok (.ifCond .lt 14, 3) := dk_155 0 14 (dk_at dksX3_bestPair_6 5 rfl rfl)
theorem dX3_bestPair_148 : decode cX3_bestPair 148 = .ok (.iload 10, 2) := dk_21 10 (dk_at dksX3_bestPair_6 8 rfl rfl)
theorem dX3_bestPair_150 : decode cX3_bestPair 150 = .ok (.ifCond .ne 13, 3) := dk_154 0 13 (dk_at dksX3_bestPair_6 10 rfl rfl)
theorem dX3_bestPair_153 : decode cX3_bestPair 153 = .ok (.iload 5, 2) := dk_21 5 (dk_at dksX3_bestPair_6 13 rfl rfl)
theorem dX3_bestPair_155 : decode cX3_bestPair 155 = .ok (.iload_n 3, 1) := dk_29 (dk_at dksX3_bestPair_6 15 rfl rfl)
theorem dX3_bestPair_156 : decode cX3_bestPair 156 = .ok (.if_icmp .ge 7, 3) := dk_162 0 7 (dk_at dksX3_bestPair_6 16 rfl rfl)
theorem dX3_bestPair_159 : decode cX3_bestPair 159 = .ok (.iconst 1, 1) := dk_4 (dk_at dksX3_bestPair_6 19 rfl rfl)
theorem dX3_bestPair_160 : decode cX3_bestPair 160 = .ok (.goto 4, 3) := dk_167 0 4 (dk_at dksX3_bestPair_6 20 rfl rfl)
theorem dX3_bestPair_163 : decode cX3_bestPair 163 = .ok (.iconst 0, 1) := dk_3 (dk_at dksX3_bestPair_6 23 rfl rfl)
theorem dX3_bestPair_164 : decode cX3_bestPair 164 = .ok (.istore 11, 2) := dk_54 11 (dk_at dksX3_bestPair_7 0 rfl rfl)
theorem dX3_bestPair_166 : decode cX3_bestPair 166 = .ok (.iload 11, 2) := dk_21 11 (dk_at dksX3_bestPair_7 2 rfl rfl)
theorem dX3_bestPair_168 : decode cX3_bestPair 168 = .ok (.ifCond .eq 8, 3) := dk_153 0 8 (dk_at dksX3_bestPair_7 4 rfl rfl)
theorem dX3_bestPair_171 : decode cX3_bestPair 171 = .ok (.iload 5, 2) := dk_21 5 (dk_at dksX3_bestPair_7 7 rfl rfl)
theorem dX3_bestPair_173 : decode cX3_bestPair 173 = .ok (.goto 4, 3) := dk_167 0 4 (dk_at dksX3_bestPair_7 9 rfl rfl)
theorem dX3_bestPair_176 : decode cX3_bestPair 176 = .ok (.iload_n 3, 1) := dk_29 (dk_at dksX3_bestPair_7 12 rfl rfl)
theorem dX3_bestPair_177 : decode cX3_bestPair 177 = .ok (.istore_n 3, 1) := dk_62 (dk_at dksX3_bestPair_7 13 rfl rfl)
theorem dX3_bestPair_178 : decode cX3_bestPair 178 = .ok (.iload 11, 2) := dk_21 11 (dk_at dksX3_bestPair_7 14 rfl rfl)
theorem dX3_bestPair_180 : decode cX3_bestPair 180 = .ok (.ifCond .eq 8, 3) := dk_153 0 8 (dk_at dksX3_bestPair_7 16 rfl rfl)
theorem dX3_bestPair_183 : decode cX3_bestPair 183 = .ok (.iload 6, 2) := dk_21 6 (dk_at dksX3_bestPair_7 19 rfl rfl)
theorem dX3_bestPair_185 : decode cX3_bestPair 185 = .ok (.goto 5, 3) := dk_167 0 5 (dk_at dksX3_bestPair_7 21 rfl rfl)
theorem dX3_bestPair_188 : decode cX3_bestPair 188 = .ok (.iload 4, 2) := dk_21 4 (dk_at dksX3_bestPair_8 0 rfl rfl)
theorem dX3_bestPair_190 : decode cX3_bestPair 190 = .ok (.istore 4, 2) := dk_54 4 (dk_at dksX3_bestPair_8 2 rfl rfl)
theorem dX3_bestPair_192 : decode cX3_bestPair 192 = .ok (.iinc 6 1, 3) := dk_132 6 1 (dk_at dksX3_bestPair_8 4 rfl rfl)
theorem dX3_bestPair_195 : decode cX3_bestPair 195 = .ok (.goto (-137), 3) := dk_167 255 119 (dk_at dksX3_bestPair_8 7 rfl rfl)
theorem dX3_bestPair_198 : decode cX3_bestPair 198 = .ok (.iinc 5 1, 3) := dk_132 5 1 (dk_at dksX3_bestPair_8 10 rfl rfl)
theorem dX3_bestPair_201 : decode cX3_bestPair 201 = .ok (.goto (-154), 3) := dk_167 255 102 (dk_at dksX3_bestPair_8 13 rfl rfl)
theorem dX3_bestPair_204 : decode cX3_bestPair 204 = .ok (.sipush 1000, 3) := dk_17 3 232 (dk_at dksX3_bestPair_8 16 rfl rfl)
theorem dX3_bestPair_207 : decode cX3_bestPair 207 = .ok (.iload_n 3, 1) := dk_29 (dk_at dksX3_bestPair_8 19 rfl rfl)
theorem dX3_bestPair_208 : decode cX3_bestPair 208 = .ok (.imul, 1) := dk_104 (dk_at dksX3_bestPair_8 20 rfl rfl)
theorem dX3_bestPair_209 : decode cX3_bestPair 209 = .ok (.iload 4, 2) := dk_21 4 (dk_at dksX3_bestPair_8 21 rfl rfl)
theorem dX3_bestPair_211 : decode cX3_bestPair 211 = .ok (.iadd, 1) := dk_96 (dk_at dksX3_bestPair_8 23 rfl rfl)
theorem dX3_bestPair_212 : decode cX3_bestPair 212 = .ok (.ireturn, 1) := dk_172 (dk_at dksX3_bestPair_9 0 rfl rfl)
abbrev cX3_degrees : ByteArray := prog_10_method_110_code
def yX3_degrees : MethodName := ⟨RX3, "degrees", "(I)F"⟩
def dkwX3_degrees_1 : List UInt8 := [19, 1, 2, 110, 167, 0, 4, 11, 174]
abbrev dktX3_degrees_1 : List UInt8 := dkwX3_degrees_1 ++ []
def dkwX3_degrees_0 : List UInt8 := [42, 27, 4, 182, 0, 180, 153, 0, 23, 42, 27, 42, 180, 0, 7, 16, 111, 46, 182, 0, 183, 134]
abbrev dktX3_degrees_0 : List UInt8 := dkwX3_degrees_0 ++ dktX3_degrees_1
theorem dksX3_degrees_0 : cX3_degrees.data.toList.drop 0 = dktX3_degrees_0 := by decide +kernel
theorem dksX3_degrees_1 : cX3_degrees.data.toList.drop 22 = dktX3_degrees_1 := dk_seg dksX3_degrees_0 22 rfl rfl
theorem dX3_degrees_0 : decode cX3_degrees 0 = .ok (.aload_n 0, 1) := dk_42 (dk_at dksX3_degrees_0 0 rfl rfl)
theorem dX3_degrees_1 : decode cX3_degrees 1 = .ok (.iload_n 1, 1) := dk_27 (dk_at dksX3_degrees_0 1 rfl rfl)
theorem dX3_degrees_2 : decode cX3_degrees 2 = .ok (.iconst 1, 1) := dk_4 (dk_at dksX3_degrees_0 2 rfl rfl)
theorem dX3_degrees_3 : decode cX3_degrees 3 = .ok (.invokevirtual 180, 3) := dk_182 0 180 (dk_at dksX3_degrees_0 3 rfl rfl)
theorem dX3_degrees_6 : decode cX3_degrees 6 = .ok (.ifCond .eq 23, 3) := dk_153 0 23 (dk_at dksX3_degrees_0 6 rfl rfl)
theorem dX3_degrees_9 : decode cX3_degrees 9 = .ok (.aload_n 0, 1) := dk_42 (dk_at dksX3_degrees_0 9 rfl rfl)
theorem dX3_degrees_10 : decode cX3_degrees 10 = .ok (.iload_n 1, 1) := dk_27 (dk_at dksX3_degrees_0 10 rfl rfl)
theorem dX3_degrees_11 : decode cX3_degrees 11 = .ok (.aload_n 0, 1) := dk_42 (dk_at dksX3_degrees_0 11 rfl rfl)
theorem dX3_degrees_12 : decode cX3_degrees 12 = .ok (.getfield 7, 3) := dk_180 0 7 (dk_at dksX3_degrees_0 12 rfl rfl)
theorem dX3_degrees_15 : decode cX3_degrees 15 = .ok (.bipush 111, 2) := dk_16 111 (dk_at dksX3_degrees_0 15 rfl rfl)
theorem dX3_degrees_17 : decode cX3_degrees 17 = .ok (.iaload, 1) := dk_46 (dk_at dksX3_degrees_0 17 rfl rfl)
theorem dX3_degrees_18 : decode cX3_degrees 18 = .ok (.invokevirtual 183, 3) := dk_182 0 183 (dk_at dksX3_degrees_0 18 rfl rfl)
theorem dX3_degrees_21 : decode cX3_degrees 21 = .ok (.i2f, 1) := dk_134 (dk_at dksX3_degrees_0 21 rfl rfl)
theorem dX3_degrees_22 : decode cX3_degrees 22 = .ok (.ldc_w 258, 3) := dk_19 1 2 (dk_at dksX3_degrees_1 0 rfl rfl)
theorem dX3_degrees_25 : decode cX3_degrees 25 = .ok (.fdiv, 1) := dk_110 (dk_at dksX3_degrees_1 3 rfl rfl)
theorem dX3_degrees_26 : decode cX3_degrees 26 = .ok (.goto 4, 3) := dk_167 0 4 (dk_at dksX3_degrees_1 4 rfl rfl)
theorem dX3_degrees_29 : decode cX3_degrees 29 = .ok (.fconst 0, 1) := dk_11 (dk_at dksX3_degrees_1 7 rfl rfl)
theorem dX3_degrees_30 : decode cX3_degrees 30 = .ok (.freturn, 1) := dk_174 (dk_at dksX3_degrees_1 8 rfl rfl)
abbrev cX3_degreeBits : ByteArray := prog_10_method_111_code
def yX3_degreeBits : MethodName := ⟨RX3, "degreeBits", "(I)I"⟩
def dkwX3_degreeBits_1 : List UInt8 := [19, 1, 2, 110, 184, 1, 3, 167, 0, 4, 3, 172]
abbrev dktX3_degreeBits_1 : List UInt8 := dkwX3_degreeBits_1 ++ []
def dkwX3_degreeBits_0 : List UInt8 := [42, 27, 4, 182, 0, 180, 153, 0, 26, 42, 27, 42, 180, 0, 7, 16, 111, 46, 182, 0, 183, 134]
abbrev dktX3_degreeBits_0 : List UInt8 := dkwX3_degreeBits_0 ++ dktX3_degreeBits_1
theorem dksX3_degreeBits_0 : cX3_degreeBits.data.toList.drop 0 = dktX3_degreeBits_0 := by decide +kernel
theorem dksX3_degreeBits_1 : cX3_degreeBits.data.toList.drop 22 = dktX3_degreeBits_1 := dk_seg dksX3_degreeBits_0 22 rfl rfl
theorem dX3_degreeBits_0 : decode cX3_degreeBits 0 = .ok (.aload_n 0, 1) := dk_42 (dk_at dksX3_degreeBits_0 0 rfl rfl)
theorem dX3_degreeBits_1 : decode cX3_degreeBits 1 = .ok (.iload_n 1, 1) := dk_27 (dk_at dksX3_degreeBits_0 1 rfl rfl)
theorem dX3_degreeBits_2 : decode cX3_degreeBits 2 = .ok (.iconst 1, 1) := dk_4 (dk_at dksX3_degreeBits_0 2 rfl rfl)
theorem dX3_degreeBits_3 : decode cX3_degreeBits 3 = .ok (.invokevirtual 180, 3) := dk_182 0 180 (dk_at dksX3_degreeBits_0 3 rfl rfl)
theorem dX3_degreeBits_6 : decode cX3_degreeBits 6 = .ok (.ifCond .eq 26, 3) := dk_153 0 26 (dk_at dksX3_degreeBits_0 6 rfl rfl)
theorem dX3_degreeBits_9 : decode cX3_degreeBits 9 = .ok (.aload_n 0, 1) := dk_42 (dk_at dksX3_degreeBits_0 9 rfl rfl)
theorem dX3_degreeBits_10 : decode cX3_degreeBits 10 = .ok (.iload_n 1, 1) := dk_27 (dk_at dksX3_degreeBits_0 10 rfl rfl)
theorem dX3_degreeBits_11 : decode cX3_degreeBits 11 = .ok (.aload_n 0, 1) := dk_42 (dk_at dksX3_degreeBits_0 11 rfl rfl)
theorem dX3_degreeBits_12 : decode cX3_degreeBits 12 = .ok (.getfield 7, 3) := dk_180 0 7 (dk_at dksX3_degreeBits_0 12 rfl rfl)
theorem dX3_degreeBits_15 : decode cX3_degreeBits 15 = .ok (.bipush 111, 2) := dk_16 111 (dk_at dksX3_degreeBits_0 15 rfl rfl)
theorem dX3_degreeBits_17 : decode cX3_degreeBits 17 = .ok (.iaload, 1) := dk_46 (dk_at dksX3_degreeBits_0 17 rfl rfl)
theorem dX3_degreeBits_18 : decode cX3_degreeBits 18 = .ok (.invokevirtual 183, 3) := dk_182 0 183 (dk_at dksX3_degreeBits_0 18 rfl rfl)
theorem dX3_degreeBits_21 : decode cX3_degreeBits 21 = .ok (.i2f, 1) := dk_134 (dk_at dksX3_degreeBits_0 21 rfl rfl)
theorem dX3_degreeBits_22 : decode cX3_degreeBits 22 = .ok (.ldc_w 258, 3) := dk_19 1 2 (dk_at dksX3_degreeBits_1 0 rfl rfl)
theorem dX3_degreeBits_25 : decode cX3_degreeBits 25 = .ok (.fdiv, 1) := dk_110 (dk_at dksX3_degreeBits_1 3 rfl rfl)
theorem dX3_degreeBits_26 : decode cX3_degreeBits 26 = .ok (.invokestatic 259, 3) := dk_184 1 3 (dk_at dksX3_degreeBits_1 4 rfl rfl)
theorem dX3_degreeBits_29 : decode cX3_degreeBits 29 = .ok (.goto 4, 3) := dk_167 0 4 (dk_at dksX3_degreeBits_1 7 rfl rfl)
theorem dX3_degreeBits_32 : decode cX3_degreeBits 32 = .ok (.iconst 0, 1) := dk_3 (dk_at dksX3_degreeBits_1 10 rfl rfl)
theorem dX3_degreeBits_33 : decode cX3_degreeBits 33 = .ok (.ireturn, 1) := dk_172 (dk_at dksX3_degreeBits_1 11 rfl rfl)
abbrev cX3_bestTrain : ByteArray := prog_10_method_112_code
def yX3_bestTrain : MethodName := ⟨RX3, "bestTrain", "(I)I"⟩
def dkwX3_bestTrain_13 : List UInt8 := [153, 0, 8, 22, 15, 167, 0, 5, 22, 7, 55, 7, 132, 9, 1, 167, 254, 249, 21, 4, 172]
abbrev dktX3_bestTrain_13 : List UInt8 := dkwX3_bestTrain_13 ++ []
def dkwX3_bestTrain_12 : List UInt8 := [96, 167, 0, 5, 21, 4, 54, 4, 21, 19, 153, 0, 8, 22, 17, 167, 0, 5, 22, 5, 55, 5, 21, 19]
abbrev dktX3_bestTrain_12 : List UInt8 := dkwX3_bestTrain_12 ++ dktX3_bestTrain_13
def dkwX3_bestTrain_11 : List UInt8 := [21, 19, 153, 0, 26, 21, 10, 16, 24, 104, 21, 11, 96, 16, 24, 104, 21, 12, 96, 16, 24, 104, 21, 13]
abbrev dktX3_bestTrain_11 : List UInt8 := dkwX3_bestTrain_11 ++ dktX3_bestTrain_12
def dkwX3_bestTrain_10 : List UInt8 := [159, 0, 17, 22, 17, 22, 7, 105, 22, 5, 22, 15, 105, 148, 156, 0, 7, 4, 167, 0, 4, 3, 54, 19]
abbrev dktX3_bestTrain_10 : List UInt8 := dkwX3_bestTrain_10 ++ dktX3_bestTrain_11
def dkwX3_bestTrain_9 : List UInt8 := [55, 17, 22, 17, 9, 148, 156, 0, 9, 22, 17, 117, 167, 0, 5, 22, 17, 55, 17, 21, 4, 2]
abbrev dktX3_bestTrain_9 : List UInt8 := dkwX3_bestTrain_9 ++ dktX3_bestTrain_10
def dkwX3_bestTrain_8 : List UInt8 := [46, 133, 42, 180, 0, 7, 5, 21, 12, 96, 46, 133, 105, 29, 133, 105, 20, 1, 9, 22, 15, 105, 101]
abbrev dktX3_bestTrain_8 : List UInt8 := dkwX3_bestTrain_8 ++ dktX3_bestTrain_9
def dkwX3_bestTrain_7 : List UInt8 := [96, 46, 133, 42, 180, 0, 7, 5, 21, 13, 96, 46, 133, 105, 55, 15, 42, 180, 0, 7, 5, 21, 10, 96]
abbrev dktX3_bestTrain_7 : List UInt8 := dkwX3_bestTrain_7 ++ dktX3_bestTrain_8
def dkwX3_bestTrain_6 : List UInt8 := [21, 13, 159, 0, 7, 4, 167, 0, 4, 3, 54, 14, 21, 14, 153, 0, 163, 42, 180, 0, 7, 5, 21, 11]
abbrev dktX3_bestTrain_6 : List UInt8 := dkwX3_bestTrain_6 ++ dktX3_bestTrain_7
def dkwX3_bestTrain_5 : List UInt8 := [21, 10, 21, 13, 159, 0, 28, 21, 11, 21, 12, 159, 0, 21, 21, 11, 21, 13, 159, 0, 14, 21, 12]
abbrev dktX3_bestTrain_5 : List UInt8 := dkwX3_bestTrain_5 ++ dktX3_bestTrain_6
def dkwX3_bestTrain_4 : List UInt8 := [28, 112, 54, 12, 21, 9, 28, 112, 54, 13, 21, 10, 21, 11, 159, 0, 42, 21, 10, 21, 12, 159, 0, 35]
abbrev dktX3_bestTrain_4 : List UInt8 := dkwX3_bestTrain_4 ++ dktX3_bestTrain_5
def dkwX3_bestTrain_3 : List UInt8 := [21, 9, 28, 28, 104, 28, 104, 108, 54, 10, 21, 9, 28, 28, 104, 108, 28, 112, 54, 11, 21, 9, 28, 108]
abbrev dktX3_bestTrain_3 : List UInt8 := dkwX3_bestTrain_3 ++ dktX3_bestTrain_4
def dkwX3_bestTrain_2 : List UInt8 := [2, 54, 4, 9, 55, 5, 10, 55, 7, 3, 54, 9, 21, 9, 28, 28, 104, 28, 104, 28, 104, 162, 1, 1]
abbrev dktX3_bestTrain_2 : List UInt8 := dkwX3_bestTrain_2 ++ dktX3_bestTrain_3
def dkwX3_bestTrain_1 : List UInt8 := [180, 0, 7, 16, 96, 27, 96, 46, 62, 29, 153, 0, 8, 28, 7, 162, 0, 9, 42, 5, 182, 0, 51, 172]
abbrev dktX3_bestTrain_1 : List UInt8 := dkwX3_bestTrain_1 ++ dktX3_bestTrain_2
def dkwX3_bestTrain_0 : List UInt8 := [42, 42, 27, 182, 0, 137, 182, 0, 154, 154, 0, 5, 3, 172, 42, 180, 0, 7, 4, 46, 61, 42]
abbrev dktX3_bestTrain_0 : List UInt8 := dkwX3_bestTrain_0 ++ dktX3_bestTrain_1
theorem dksX3_bestTrain_0 : cX3_bestTrain.data.toList.drop 0 = dktX3_bestTrain_0 := by decide +kernel
theorem dksX3_bestTrain_1 : cX3_bestTrain.data.toList.drop 22 = dktX3_bestTrain_1 := dk_seg dksX3_bestTrain_0 22 rfl rfl
theorem dksX3_bestTrain_2 : cX3_bestTrain.data.toList.drop 46 = dktX3_bestTrain_2 := dk_seg dksX3_bestTrain_1 24 rfl rfl
theorem dksX3_bestTrain_3 : cX3_bestTrain.data.toList.drop 70 = dktX3_bestTrain_3 := dk_seg dksX3_bestTrain_2 24 rfl rfl
theorem dksX3_bestTrain_4 : cX3_bestTrain.data.toList.drop 94 = dktX3_bestTrain_4 := dk_seg dksX3_bestTrain_3 24 rfl rfl
theorem dksX3_bestTrain_5 : cX3_bestTrain.data.toList.drop 118 = dktX3_bestTrain_5 := dk_seg dksX3_bestTrain_4 24 rfl rfl
theorem dksX3_bestTrain_6 : cX3_bestTrain.data.toList.drop 141 = dktX3_bestTrain_6 := dk_seg dksX3_bestTrain_5 23 rfl rfl
theorem dksX3_bestTrain_7 : cX3_bestTrain.data.toList.drop 165 = dktX3_bestTrain_7 := dk_seg dksX3_bestTrain_6 24 rfl rfl
theorem dksX3_bestTrain_8 : cX3_bestTrain.data.toList.drop 189 = dktX3_bestTrain_8 := dk_seg dksX3_bestTrain_7 24 rfl rfl
theorem dksX3_bestTrain_9 : cX3_bestTrain.data.toList.drop 212 = dktX3_bestTrain_9 := dk_seg dksX3_bestTrain_8 23 rfl rfl
theorem dksX3_bestTrain_10 : cX3_bestTrain.data.toList.drop 234 = dktX3_bestTrain_10 := dk_seg dksX3_bestTrain_9 22 rfl rfl
theorem dksX3_bestTrain_11 : cX3_bestTrain.data.toList.drop 258 = dktX3_bestTrain_11 := dk_seg dksX3_bestTrain_10 24 rfl rfl
theorem dksX3_bestTrain_12 : cX3_bestTrain.data.toList.drop 282 = dktX3_bestTrain_12 := dk_seg dksX3_bestTrain_11 24 rfl rfl
theorem dksX3_bestTrain_13 : cX3_bestTrain.data.toList.drop 306 = dktX3_bestTrain_13 := dk_seg dksX3_bestTrain_12 24 rfl rfl
theorem dX3_bestTrain_0 : decode cX3_bestTrain 0 = .ok (.aload_n 0, 1) := dk_42 (dk_at dksX3_bestTrain_0 0 rfl rfl)
theorem dX3_bestTrain_1 : decode cX3_bestTrain 1 = .ok (.aload_n 0, 1) := dk_42 (dk_at dksX3_bestTrain_0 1 rfl rfl)
theorem dX3_bestTrain_2 : decode cX3_bestTrain 2 = .ok (.iload_n 1, 1) := dk_27 (dk_at dksX3_bestTrain_0 2 rfl rfl)
theorem dX3_bestTrain_3 : decode cX3_bestTrain 3 = .ok (.invokevirtual 137, 3) := dk_182 0 137 (dk_at dksX3_bestTrain_0 3 rfl rfl)
theorem dX3_bestTrain_6 : decode cX3_bestTrain 6 = .ok (.invokevirtual 154, 3) := dk_182 0 154 (dk_at dksX3_bestTrain_0 6 rfl rfl)
theorem dX3_bestTrain_9 : decode cX3_bestTrain 9 = .ok (.ifCond .ne 5, 3) := dk_154 0 5 (dk_at dksX3_bestTrain_0 9 rfl rfl)
theorem dX3_bestTrain_12 : decode cX3_bestTrain 12 = .ok (.iconst 0, 1) := dk_3 (dk_at dksX3_bestTrain_0 12 rfl rfl)
theorem dX3_bestTrain_13 : decode cX3_bestTrain 13 = .ok (.ireturn, 1) := dk_172 (dk_at dksX3_bestTrain_0 13 rfl rfl)
theorem dX3_bestTrain_14 : decode cX3_bestTrain 14 = .ok (.aload_n 0, 1) := dk_42 (dk_at dksX3_bestTrain_0 14 rfl rfl)
theorem dX3_bestTrain_15 : decode cX3_bestTrain 15 = .ok (.getfield 7, 3) := dk_180 0 7 (dk_at dksX3_bestTrain_0 15 rfl rfl)
theorem dX3_bestTrain_18 : decode cX3_bestTrain 18 = .ok (.iconst 1, 1) := dk_4 (dk_at dksX3_bestTrain_0 18 rfl rfl)
theorem dX3_bestTrain_19 : decode cX3_bestTrain 19 = .ok (.iaload, 1) := dk_46 (dk_at dksX3_bestTrain_0 19 rfl rfl)
theorem dX3_bestTrain_20 : decode cX3_bestTrain 20 = .ok (.istore_n 2, 1) := dk_61 (dk_at dksX3_bestTrain_0 20 rfl rfl)
theorem dX3_bestTrain_21 : decode cX3_bestTrain 21 = .ok (.aload_n 0, 1) := dk_42 (dk_at dksX3_bestTrain_0 21 rfl rfl)
theorem dX3_bestTrain_22 : decode cX3_bestTrain 22 = .ok (.getfield 7, 3) := dk_180 0 7 (dk_at dksX3_bestTrain_1 0 rfl rfl)
theorem dX3_bestTrain_25 : decode cX3_bestTrain 25 = .ok (.bipush 96, 2) := dk_16 96 (dk_at dksX3_bestTrain_1 3 rfl rfl)
theorem dX3_bestTrain_27 : decode cX3_bestTrain 27 = .ok (.iload_n 1, 1) := dk_27 (dk_at dksX3_bestTrain_1 5 rfl rfl)
theorem dX3_bestTrain_28 : decode cX3_bestTrain 28 = .ok (.iadd, 1) := dk_96 (dk_at dksX3_bestTrain_1 6 rfl rfl)
theorem dX3_bestTrain_29 : decode cX3_bestTrain 29 = .ok (.iaload, 1) := dk_46 (dk_at dksX3_bestTrain_1 7 rfl rfl)
theorem dX3_bestTrain_30 : decode cX3_bestTrain 30 = .ok (.istore_n 3, 1) := dk_62 (dk_at dksX3_bestTrain_1 8 rfl rfl)
theorem dX3_bestTrain_31 : decode cX3_bestTrain 31 = .ok (.iload_n 3, 1) := dk_29 (dk_at dksX3_bestTrain_1 9 rfl rfl)
theorem dX3_bestTrain_32 : decode cX3_bestTrain 32 = .ok (.ifCond .eq 8, 3) := dk_153 0 8 (dk_at dksX3_bestTrain_1 10 rfl rfl)
theorem dX3_bestTrain_35 : decode cX3_bestTrain 35 = .ok (.iload_n 2, 1) := dk_28 (dk_at dksX3_bestTrain_1 13 rfl rfl)
theorem dX3_bestTrain_36 : decode cX3_bestTrain 36 = .ok (.iconst 4, 1) := dk_7 (dk_at dksX3_bestTrain_1 14 rfl rfl)
theorem dX3_bestTrain_37 : decode cX3_bestTrain 37 = .ok (.if_icmp .ge 9, 3) := dk_162 0 9 (dk_at dksX3_bestTrain_1 15 rfl rfl)
theorem dX3_bestTrain_40 : decode cX3_bestTrain 40 = .ok (.aload_n 0, 1) := dk_42 (dk_at dksX3_bestTrain_1 18 rfl rfl)
theorem dX3_bestTrain_41 : decode cX3_bestTrain 41 = .ok (.iconst 2, 1) := dk_5 (dk_at dksX3_bestTrain_1 19 rfl rfl)
theorem dX3_bestTrain_42 : decode cX3_bestTrain 42 = .ok (.invokevirtual 51, 3) := dk_182 0 51 (dk_at dksX3_bestTrain_1 20 rfl rfl)
theorem dX3_bestTrain_45 : decode cX3_bestTrain 45 = .ok (.ireturn, 1) := dk_172 (dk_at dksX3_bestTrain_1 23 rfl rfl)
theorem dX3_bestTrain_46 : decode cX3_bestTrain 46 = .ok (.iconst (-1), 1) := dk_2 (dk_at dksX3_bestTrain_2 0 rfl rfl)
theorem dX3_bestTrain_47 : decode cX3_bestTrain 47 = .ok (.istore 4, 2) := dk_54 4 (dk_at dksX3_bestTrain_2 1 rfl rfl)
theorem dX3_bestTrain_49 : decode cX3_bestTrain 49 = .ok (.lconst 0, 1) := dk_9 (dk_at dksX3_bestTrain_2 3 rfl rfl)
theorem dX3_bestTrain_50 : decode cX3_bestTrain 50 = .ok (.lstore 5, 2) := dk_55 5 (dk_at dksX3_bestTrain_2 4 rfl rfl)
theorem dX3_bestTrain_52 : decode cX3_bestTrain 52 = .ok (.lconst 1, 1) := dk_10 (dk_at dksX3_bestTrain_2 6 rfl rfl)
theorem dX3_bestTrain_53 : decode cX3_bestTrain 53 = .ok (.lstore 7, 2) := dk_55 7 (dk_at dksX3_bestTrain_2 7 rfl rfl)
theorem dX3_bestTrain_55 : decode cX3_bestTrain 55 = .ok (.iconst 0, 1) := dk_3 (dk_at dksX3_bestTrain_2 9 rfl rfl)
theorem dX3_bestTrain_56 : decode cX3_bestTrain 56 = .ok (.istore 9, 2) := dk_54 9 (dk_at dksX3_bestTrain_2 10 rfl rfl)
theorem dX3_bestTrain_58 : decode cX3_bestTrain 58 = .ok (.iload 9, 2) := dk_21 9 (dk_at dksX3_bestTrain_2 12 rfl rfl)
theorem dX3_bestTrain_60 : decode cX3_bestTrain 60 = .ok (.iload_n 2, 1) := dk_28 (dk_at dksX3_bestTrain_2 14 rfl rfl)
theorem dX3_bestTrain_61 : decode cX3_bestTrain 61 = .ok (.iload_n 2, 1) := dk_28 (dk_at dksX3_bestTrain_2 15 rfl rfl)
theorem dX3_bestTrain_62 : decode cX3_bestTrain 62 = .ok (.imul, 1) := dk_104 (dk_at dksX3_bestTrain_2 16 rfl rfl)
theorem dX3_bestTrain_63 : decode cX3_bestTrain 63 = .ok (.iload_n 2, 1) := dk_28 (dk_at dksX3_bestTrain_2 17 rfl rfl)
theorem dX3_bestTrain_64 : decode cX3_bestTrain 64 = .ok (.imul, 1) := dk_104 (dk_at dksX3_bestTrain_2 18 rfl rfl)
theorem dX3_bestTrain_65 : decode cX3_bestTrain 65 = .ok (.iload_n 2, 1) := dk_28 (dk_at dksX3_bestTrain_2 19 rfl rfl)
theorem dX3_bestTrain_66 : decode cX3_bestTrain 66 = .ok (.imul, 1) := dk_104 (dk_at dksX3_bestTrain_2 20 rfl rfl)
theorem dX3_bestTrain_67 : decode cX3_bestTrain 67 = .ok (.if_icmp .ge 257, 3) := dk_162 1 1 (dk_at dksX3_bestTrain_2 21 rfl rfl)
theorem dX3_bestTrain_70 : decode cX3_bestTrain 70 = .ok (.iload 9, 2) := dk_21 9 (dk_at dksX3_bestTrain_3 0 rfl rfl)
theorem dX3_bestTrain_72 : decode cX3_bestTrain 72 = .ok (.iload_n 2, 1) := dk_28 (dk_at dksX3_bestTrain_3 2 rfl rfl)
theorem dX3_bestTrain_73 : decode cX3_bestTrain 73 = .ok (.iload_n 2, 1) := dk_28 (dk_at dksX3_bestTrain_3 3 rfl rfl)
theorem dX3_bestTrain_74 : decode cX3_bestTrain 74 = .ok (.imul, 1) := dk_104 (dk_at dksX3_bestTrain_3 4 rfl rfl)
theorem dX3_bestTrain_75 : decode cX3_bestTrain 75 = .ok (.iload_n 2, 1) := dk_28 (dk_at dksX3_bestTrain_3 5 rfl rfl)
theorem dX3_bestTrain_76 : decode cX3_bestTrain 76 = .ok (.imul, 1) := dk_104 (dk_at dksX3_bestTrain_3 6 rfl rfl)
theorem dX3_bestTrain_77 : decode cX3_bestTrain 77 = .ok (.idiv, 1) := dk_108 (dk_at dksX3_bestTrain_3 7 rfl rfl)
theorem dX3_bestTrain_78 : decode cX3_bestTrain 78 = .ok (.istore 10, 2) := dk_54 10 (dk_at dksX3_bestTrain_3 8 rfl rfl)
theorem dX3_bestTrain_80 : decode cX3_bestTrain 80 = .ok (.iload 9, 2) := dk_21 9 (dk_at dksX3_bestTrain_3 10 rfl rfl)
theorem dX3_bestTrain_82 : decode cX3_bestTrain 82 = .ok (.iload_n 2, 1) := dk_28 (dk_at dksX3_bestTrain_3 12 rfl rfl)
theorem dX3_bestTrain_83 : decode cX3_bestTrain 83 = .ok (.iload_n 2, 1) := dk_28 (dk_at dksX3_bestTrain_3 13 rfl rfl)
theorem dX3_bestTrain_84 : decode cX3_bestTrain 84 = .ok (.imul, 1) := dk_104 (dk_at dksX3_bestTrain_3 14 rfl rfl)
theorem dX3_bestTrain_85 : decode cX3_bestTrain 85 = .ok (.idiv, 1) := dk_108 (dk_at dksX3_bestTrain_3 15 rfl rfl)
theorem dX3_bestTrain_86 : decode cX3_bestTrain 86 = .ok (.iload_n 2, 1) := dk_28 (dk_at dksX3_bestTrain_3 16 rfl rfl)
theorem dX3_bestTrain_87 : decode cX3_bestTrain 87 = .ok (.irem, 1) := dk_112 (dk_at dksX3_bestTrain_3 17 rfl rfl)
theorem dX3_bestTrain_88 : decode cX3_bestTrain 88 = .ok (.istore 11, 2) := dk_54 11 (dk_at dksX3_bestTrain_3 18 rfl rfl)
theorem dX3_bestTrain_90 : decode cX3_bestTrain 90 = .ok (.iload 9, 2) := dk_21 9 (dk_at dksX3_bestTrain_3 20 rfl rfl)
theorem dX3_bestTrain_92 : decode cX3_bestTrain 92 = .ok (.iload_n 2, 1) := dk_28 (dk_at dksX3_bestTrain_3 22 rfl rfl)
theorem dX3_bestTrain_93 : decode cX3_bestTrain 93 = .ok (.idiv, 1) := dk_108 (dk_at dksX3_bestTrain_3 23 rfl rfl)
theorem dX3_bestTrain_94 : decode cX3_bestTrain 94 = .ok (.iload_n 2, 1) := dk_28 (dk_at dksX3_bestTrain_4 0 rfl rfl)
theorem dX3_bestTrain_95 : decode cX3_bestTrain 95 = .ok (.irem, 1) := dk_112 (dk_at dksX3_bestTrain_4 1 rfl rfl)
theorem dX3_bestTrain_96 : decode cX3_bestTrain 96 = .ok (.istore 12, 2) := dk_54 12 (dk_at dksX3_bestTrain_4 2 rfl rfl)
theorem dX3_bestTrain_98 : decode cX3_bestTrain 98 = .ok (.iload 9, 2) := dk_21 9 (dk_at dksX3_bestTrain_4 4 rfl rfl)
theorem dX3_bestTrain_100 : decode cX3_bestTrain 100 = .ok (.iload_n 2, 1) := dk_28 (dk_at dksX3_bestTrain_4 6 rfl rfl)
theorem dX3_bestTrain_101 : decode cX3_bestTrain 101 = .ok (.irem, 1) := dk_112 (dk_at dksX3_bestTrain_4 7 rfl rfl)
theorem dX3_bestTrain_102 : decode cX3_bestTrain 102 = .ok (.istore 13, 2) := dk_54 13 (dk_at dksX3_bestTrain_4 8 rfl rfl)
theorem dX3_bestTrain_104 : decode cX3_bestTrain 104 = .ok (.iload 10, 2) := dk_21 10 (dk_at dksX3_bestTrain_4 10 rfl rfl)
theorem dX3_bestTrain_106 : decode cX3_bestTrain 106 = .ok (.iload 11, 2) := dk_21 11 (dk_at dksX3_bestTrain_4 12 rfl rfl)
theorem dX3_bestTrain_108 : decode cX3_bestTrain 108 = .ok (.if_icmp .eq 42, 3) := dk_159 0 42 (dk_at dksX3_bestTrain_4 14 rfl rfl)
theorem dX3_bestTrain_111 : decode cX3_bestTrain 111 = .ok (.iload 10, 2) := dk_21 10 (dk_at dksX3_bestTrain_4 17 rfl rfl)
theorem dX3_bestTrain_113 : decode cX3_bestTrain 113 = .ok (.iload 12, 2) := dk_21 12 (dk_at dksX3_bestTrain_4 19 rfl rfl)
theorem dX3_bestTrain_115 : decode cX3_bestTrain 115 = .ok (.if_icmp .eq 35, 3) := dk_159 0 35 (dk_at dksX3_bestTrain_4 21 rfl rfl)
theorem dX3_bestTrain_118 : decode cX3_bestTrain 118 = .ok (.iload 10, 2) := dk_21 10 (dk_at dksX3_bestTrain_5 0 rfl rfl)
theorem dX3_bestTrain_120 : decode cX3_bestTrain 120 = .ok (.iload 13, 2) := dk_21 13 (dk_at dksX3_bestTrain_5 2 rfl rfl)
theorem dX3_bestTrain_122 : decode cX3_bestTrain 122 = .ok (.if_icmp .eq 28, 3) := dk_159 0 28 (dk_at dksX3_bestTrain_5 4 rfl rfl)
theorem dX3_bestTrain_125 : decode cX3_bestTrain 125 = .ok (.iload 11, 2) := dk_21 11 (dk_at dksX3_bestTrain_5 7 rfl rfl)
theorem dX3_bestTrain_127 : decode cX3_bestTrain 127 = .ok (.iload 12, 2) := dk_21 12 (dk_at dksX3_bestTrain_5 9 rfl rfl)
theorem dX3_bestTrain_129 : decode cX3_bestTrain 129 = .ok (.if_icmp .eq 21, 3) := dk_159 0 21 (dk_at dksX3_bestTrain_5 11 rfl rfl)
theorem dX3_bestTrain_132 : decode cX3_bestTrain 132 = .ok (.iload 11, 2) := dk_21 11 (dk_at dksX3_bestTrain_5 14 rfl rfl)
theorem dX3_bestTrain_134 : decode cX3_bestTrain 134 = .ok (.iload 13, 2) := dk_21 13 (dk_at dksX3_bestTrain_5 16 rfl rfl)
theorem dX3_bestTrain_136 : decode cX3_bestTrain 136 = .ok (.if_icmp .eq 14, 3) := dk_159 0 14 (dk_at dksX3_bestTrain_5 18 rfl rfl)
theorem dX3_bestTrain_139 : decode cX3_bestTrain 139 = .ok (.iload 12, 2) := dk_21 12 (dk_at dksX3_bestTrain_5 21 rfl rfl)
theorem dX3_bestTrain_141 : decode cX3_bestTrain 141 = .ok (.iload 13, 2) := dk_21 13 (dk_at dksX3_bestTrain_6 0 rfl rfl)
theorem dX3_bestTrain_143 : decode cX3_bestTrain 143 = .ok (.if_icmp .eq 7, 3) := dk_159 0 7 (dk_at dksX3_bestTrain_6 2 rfl rfl)
theorem dX3_bestTrain_146 : decode cX3_bestTrain 146 = .ok (.iconst 1, 1) := dk_4 (dk_at dksX3_bestTrain_6 5 rfl rfl)
theorem dX3_bestTrain_147 : decode cX3_bestTrain 147 = .ok (.goto 4, 3) := dk_167 0 4 (dk_at dksX3_bestTrain_6 6 rfl rfl)
theorem dX3_bestTrain_150 : decode cX3_bestTrain 150 = .ok (.iconst 0, 1) := dk_3 (dk_at dksX3_bestTrain_6 9 rfl rfl)
theorem dX3_bestTrain_151 : decode cX3_bestTrain 151 = .ok (.istore 14, 2) := dk_54 14 (dk_at dksX3_bestTrain_6 10 rfl rfl)
theorem dX3_bestTrain_153 : decode cX3_bestTrain 153 = .ok (.iload 14, 2) := dk_21 14 (dk_at dksX3_bestTrain_6 12 rfl rfl)
theorem dX3_bestTrain_155 : decode cX3_bestTrain 155 = .ok (.ifCond .eq 163, 3) := dk_153 0 163 (dk_at dksX3_bestTrain_6 14 rfl rfl)
theorem dX3_bestTrain_158 : decode cX3_bestTrain 158 = .ok (.aload_n 0, 1) := dk_42 (dk_at dksX3_bestTrain_6 17 rfl rfl)
theorem dX3_bestTrain_159 : decode cX3_bestTrain 159 = .ok (.getfield 7, 3) := dk_180 0 7 (dk_at dksX3_bestTrain_6 18 rfl rfl)
theorem dX3_bestTrain_162 : decode cX3_bestTrain 162 = .ok (.iconst 2, 1) := dk_5 (dk_at dksX3_bestTrain_6 21 rfl rfl)
theorem dX3_bestTrain_163 : decode cX3_bestTrain 163 = .ok (.iload 11, 2) := dk_21 11 (dk_at dksX3_bestTrain_6 22 rfl rfl)
theorem dX3_bestTrain_165 : decode cX3_bestTrain 165 = .ok (.iadd, 1) := dk_96 (dk_at dksX3_bestTrain_7 0 rfl rfl)
theorem dX3_bestTrain_166 : decode cX3_bestTrain 166 = .ok (.iaload, 1) := dk_46 (dk_at dksX3_bestTrain_7 1 rfl rfl)
theorem dX3_bestTrain_167 : decode cX3_bestTrain 167 = .ok (.i2l, 1) := dk_133 (dk_at dksX3_bestTrain_7 2 rfl rfl)
theorem dX3_bestTrain_168 : decode cX3_bestTrain 168 = .ok (.aload_n 0, 1) := dk_42 (dk_at dksX3_bestTrain_7 3 rfl rfl)
theorem dX3_bestTrain_169 : decode cX3_bestTrain 169 = .ok (.getfield 7, 3) := dk_180 0 7 (dk_at dksX3_bestTrain_7 4 rfl rfl)
theorem dX3_bestTrain_172 : decode cX3_bestTrain 172 = .ok (.iconst 2, 1) := dk_5 (dk_at dksX3_bestTrain_7 7 rfl rfl)
theorem dX3_bestTrain_173 : decode cX3_bestTrain 173 = .ok (.iload 13, 2) := dk_21 13 (dk_at dksX3_bestTrain_7 8 rfl rfl)
theorem dX3_bestTrain_175 : decode cX3_bestTrain 175 = .ok (.iadd, 1) := dk_96 (dk_at dksX3_bestTrain_7 10 rfl rfl)
theorem dX3_bestTrain_176 : decode cX3_bestTrain 176 = .ok (.iaload, 1) := dk_46 (dk_at dksX3_bestTrain_7 11 rfl rfl)
theorem dX3_bestTrain_177 : decode cX3_bestTrain 177 = .ok (.i2l, 1) := dk_133 (dk_at dksX3_bestTrain_7 12 rfl rfl)
theorem dX3_bestTrain_178 : decode cX3_bestTrain 178 = .ok (.lmul, 1) := dk_105 (dk_at dksX3_bestTrain_7 13 rfl rfl)
theorem dX3_bestTrain_179 : decode cX3_bestTrain 179 = .ok (.lstore 15, 2) := dk_55 15 (dk_at dksX3_bestTrain_7 14 rfl rfl)
theorem dX3_bestTrain_181 : decode cX3_bestTrain 181 = .ok (.aload_n 0, 1) := dk_42 (dk_at dksX3_bestTrain_7 16 rfl rfl)
theorem dX3_bestTrain_182 : decode cX3_bestTrain 182 = .ok (.getfield 7, 3) := dk_180 0 7 (dk_at dksX3_bestTrain_7 17 rfl rfl)
theorem dX3_bestTrain_185 : decode cX3_bestTrain 185 = .ok (.iconst 2, 1) := dk_5 (dk_at dksX3_bestTrain_7 20 rfl rfl)
theorem dX3_bestTrain_186 : decode cX3_bestTrain 186 = .ok (.iload 10, 2) := dk_21 10 (dk_at dksX3_bestTrain_7 21 rfl rfl)
theorem dX3_bestTrain_188 : decode cX3_bestTrain 188 = .ok (.iadd, 1) := dk_96 (dk_at dksX3_bestTrain_7 23 rfl rfl)
theorem dX3_bestTrain_189 : decode cX3_bestTrain 189 = .ok (.iaload, 1) := dk_46 (dk_at dksX3_bestTrain_8 0 rfl rfl)
theorem dX3_bestTrain_190 : decode cX3_bestTrain 190 = .ok (.i2l, 1) := dk_133 (dk_at dksX3_bestTrain_8 1 rfl rfl)
theorem dX3_bestTrain_191 : decode cX3_bestTrain 191 = .ok (.aload_n 0, 1) := dk_42 (dk_at dksX3_bestTrain_8 2 rfl rfl)
theorem dX3_bestTrain_192 : decode cX3_bestTrain 192 = .ok (.getfield 7, 3) := dk_180 0 7 (dk_at dksX3_bestTrain_8 3 rfl rfl)
theorem dX3_bestTrain_195 : decode cX3_bestTrain 195 = .ok (.iconst 2, 1) := dk_5 (dk_at dksX3_bestTrain_8 6 rfl rfl)
theorem dX3_bestTrain_196 : decode cX3_bestTrain 196 = .ok (.iload 12, 2) := dk_21 12 (dk_at dksX3_bestTrain_8 7 rfl rfl)
theorem dX3_bestTrain_198 : decode cX3_bestTrain 198 = .ok (.iadd, 1) := dk_96 (dk_at dksX3_bestTrain_8 9 rfl rfl)
theorem dX3_bestTrain_199 : decode cX3_bestTrain 199 = .ok (.iaload, 1) := dk_46 (dk_at dksX3_bestTrain_8 10 rfl rfl)
theorem dX3_bestTrain_200 : decode cX3_bestTrain 200 = .ok (.i2l, 1) := dk_133 (dk_at dksX3_bestTrain_8 11 rfl rfl)
theorem dX3_bestTrain_201 : decode cX3_bestTrain 201 = .ok (.lmul, 1) := dk_105 (dk_at dksX3_bestTrain_8 12 rfl rfl)
theorem dX3_bestTrain_202 : decode cX3_bestTrain 202 = .ok (.iload_n 3, 1) := dk_29 (dk_at dksX3_bestTrain_8 13 rfl rfl)
theorem dX3_bestTrain_203 : decode cX3_bestTrain 203 = .ok (.i2l, 1) := dk_133 (dk_at dksX3_bestTrain_8 14 rfl rfl)
theorem dX3_bestTrain_204 : decode cX3_bestTrain 204 = .ok (.lmul, 1) := dk_105 (dk_at dksX3_bestTrain_8 15 rfl rfl)
theorem dX3_bestTrain_205 : decode cX3_bestTrain 205 = .ok (.ldc2_w 265, 3) := dk_20 1 9 (dk_at dksX3_bestTrain_8 16 rfl rfl)
theorem dX3_bestTrain_208 : decode cX3_bestTrain 208 = .ok (.lload 15, 2) := dk_22 15 (dk_at dksX3_bestTrain_8 19 rfl rfl)
theorem dX3_bestTrain_210 : decode cX3_bestTrain 210 = .ok (.lmul, 1) := dk_105 (dk_at dksX3_bestTrain_8 21 rfl rfl)
theorem dX3_bestTrain_211 : decode cX3_bestTrain 211 = .ok (.lsub, 1) := dk_101 (dk_at dksX3_bestTrain_8 22 rfl rfl)
theorem dX3_bestTrain_212 : decode cX3_bestTrain 212 = .ok (.lstore 17, 2) := dk_55 17 (dk_at dksX3_bestTrain_9 0 rfl rfl)
theorem dX3_bestTrain_214 : decode cX3_bestTrain 214 = .ok (.lload 17, 2) := dk_22 17 (dk_at dksX3_bestTrain_9 2 rfl rfl)
theorem dX3_bestTrain_216 : decode cX3_bestTrain 216 = .ok (.lconst 0, 1) := dk_9 (dk_at dksX3_bestTrain_9 4 rfl rfl)
theorem dX3_bestTrain_217 : decode cX3_bestTrain 217 = .ok (.lcmp, 1) := dk_148 (dk_at dksX3_bestTrain_9 5 rfl rfl)
theorem dX3_bestTrain_218 : decode cX3_bestTrain 218 = .ok (.ifCond .ge 9, 3) := dk_156 0 9 (dk_at dksX3_bestTrain_9 6 rfl rfl)
theorem dX3_bestTrain_221 : decode cX3_bestTrain 221 = .ok (.lload 17, 2) := dk_22 17 (dk_at dksX3_bestTrain_9 9 rfl rfl)
theorem dX3_bestTrain_223 : decode cX3_bestTrain 223 = .ok (.lneg, 1) := dk_117 (dk_at dksX3_bestTrain_9 11 rfl rfl)
theorem dX3_bestTrain_224 : decode cX3_bestTrain 224 = .ok (.goto 5, 3) := dk_167 0 5 (dk_at dksX3_bestTrain_9 12 rfl rfl)
theorem dX3_bestTrain_227 : decode cX3_bestTrain 227 = .ok (.lload 17, 2) := dk_22 17 (dk_at dksX3_bestTrain_9 15 rfl rfl)
theorem dX3_bestTrain_229 : decode cX3_bestTrain 229 = .ok (.lstore 17, 2) := dk_55 17 (dk_at dksX3_bestTrain_9 17 rfl rfl)
theorem dX3_bestTrain_231 : decode cX3_bestTrain 231 = .ok (.iload 4, 2) := dk_21 4 (dk_at dksX3_bestTrain_9 19 rfl rfl)
theorem dX3_bestTrain_233 : decode cX3_bestTrain 233 = .ok (.iconst (-1), 1) := dk_2 (dk_at dksX3_bestTrain_9 21 rfl rfl)
theorem dX3_bestTrain_234 : decode cX3_bestTrain 234 = .ok (.if_icmp .eq 17, 3) := dk_159 0 17 (dk_at dksX3_bestTrain_10 0 rfl rfl)
theorem dX3_bestTrain_237 : decode cX3_bestTrain 237 = .ok (.lload 17, 2) := dk_22 17 (dk_at dksX3_bestTrain_10 3 rfl rfl)
theorem dX3_bestTrain_239 : decode cX3_bestTrain 239 = .ok (.lload 7, 2) := dk_22 7 (dk_at dksX3_bestTrain_10 5 rfl rfl)
theorem dX3_bestTrain_241 : decode cX3_bestTrain 241 = .ok (.lmul, 1) := dk_105 (dk_at dksX3_bestTrain_10 7 rfl rfl)
theorem dX3_bestTrain_242 : decode cX3_bestTrain 242 = .ok (.lload 5, 2) := dk_22 5 (dk_at dksX3_bestTrain_10 8 rfl rfl)
theorem dX3_bestTrain_244 : decode cX3_bestTrain 244 = .ok (.lload 15, 2) := dk_22 15 (dk_at dksX3_bestTrain_10 10 rfl rfl)
theorem dX3_bestTrain_246 : decode cX3_bestTrain 246 = .ok (.lmul, 1) := dk_105 (dk_at dksX3_bestTrain_10 12 rfl rfl)
theorem dX3_bestTrain_247 : decode cX3_bestTrain 247 = .ok (.lcmp, 1) := dk_148 (dk_at dksX3_bestTrain_10 13 rfl rfl)
theorem dX3_bestTrain_248 : decode cX3_bestTrain 248 = .ok (.ifCond .ge 7, 3) := dk_156 0 7 (dk_at dksX3_bestTrain_10 14 rfl rfl)
theorem dX3_bestTrain_251 : decode cX3_bestTrain 251 = .ok (.iconst 1, 1) := dk_4 (dk_at dksX3_bestTrain_10 17 rfl rfl)
theorem dX3_bestTrain_252 : decode cX3_bestTrain 252 = .ok (.goto 4, 3) := dk_167 0 4 (dk_at dksX3_bestTrain_10 18 rfl rfl)
theorem dX3_bestTrain_255 : decode cX3_bestTrain 255 = .ok (.iconst 0, 1) := dk_3 (dk_at dksX3_bestTrain_10 21 rfl rfl)
theorem dX3_bestTrain_256 : decode cX3_bestTrain 256 = .ok (.istore 19, 2) := dk_54 19 (dk_at dksX3_bestTrain_10 22 rfl rfl)
theorem dX3_bestTrain_258 : decode cX3_bestTrain 258 = .ok (.iload 19, 2) := dk_21 19 (dk_at dksX3_bestTrain_11 0 rfl rfl)
theorem dX3_bestTrain_260 : decode cX3_bestTrain 260 = .ok (.ifCond .eq 26, 3) := dk_153 0 26 (dk_at dksX3_bestTrain_11 2 rfl rfl)
theorem dX3_bestTrain_263 : decode cX3_bestTrain 263 = .ok (.iload 10, 2) := dk_21 10 (dk_at dksX3_bestTrain_11 5 rfl rfl)
theorem dX3_bestTrain_265 : decode cX3_bestTrain 265 = .ok (.bipush 24, 2) := dk_16 24 (dk_at dksX3_bestTrain_11 7 rfl rfl)
theorem dX3_bestTrain_267 : decode cX3_bestTrain 267 = .ok (.imul, 1) := dk_104 (dk_at dksX3_bestTrain_11 9 rfl rfl)
theorem dX3_bestTrain_268 : decode cX3_bestTrain 268 = .ok (.iload 11, 2) := dk_21 11 (dk_at dksX3_bestTrain_11 10 rfl rfl)
theorem dX3_bestTrain_270 : decode cX3_bestTrain 270 = .ok (.iadd, 1) := dk_96 (dk_at dksX3_bestTrain_11 12 rfl rfl)
theorem dX3_bestTrain_271 : decode cX3_bestTrain 271 = .ok (.bipush 24, 2) := dk_16 24 (dk_at dksX3_bestTrain_11 13 rfl rfl)
theorem dX3_bestTrain_273 : decode cX3_bestTrain 273 = .ok (.imul, 1) := dk_104 (dk_at dksX3_bestTrain_11 15 rfl rfl)
theorem dX3_bestTrain_274 : decode cX3_bestTrain 274 = .ok (.iload 12, 2) := dk_21 12 (dk_at dksX3_bestTrain_11 16 rfl rfl)
theorem dX3_bestTrain_276 : decode cX3_bestTrain 276 = .ok (.iadd, 1) := dk_96 (dk_at dksX3_bestTrain_11 18 rfl rfl)
theorem dX3_bestTrain_277 : decode cX3_bestTrain 277 = .ok (.bipush 24, 2) := dk_16 24 (dk_at dksX3_bestTrain_11 19 rfl rfl)
theorem dX3_bestTrain_279 : decode cX3_bestTrain 279 = .ok (.imul, 1) := dk_104 (dk_at dksX3_bestTrain_11 21 rfl rfl)
theorem dX3_bestTrain_280 : decode cX3_bestTrain 280 = .ok (.iload 13, 2) := dk_21 13 (dk_at dksX3_bestTrain_11 22 rfl rfl)
theorem dX3_bestTrain_282 : decode cX3_bestTrain 282 = .ok (.iadd, 1) := dk_96 (dk_at dksX3_bestTrain_12 0 rfl rfl)
theorem dX3_bestTrain_283 : decode cX3_bestTrain 283 = .ok (.goto 5, 3) := dk_167 0 5 (dk_at dksX3_bestTrain_12 1 rfl rfl)
theorem dX3_bestTrain_286 : decode cX3_bestTrain 286 = .ok (.iload 4, 2) := dk_21 4 (dk_at dksX3_bestTrain_12 4 rfl rfl)
theorem dX3_bestTrain_288 : decode cX3_bestTrain 288 = .ok (.istore 4, 2) := dk_54 4 (dk_at dksX3_bestTrain_12 6 rfl rfl)
theorem dX3_bestTrain_290 : decode cX3_bestTrain 290 = .ok (.iload 19, 2) := dk_21 19 (dk_at dksX3_bestTrain_12 8 rfl rfl)
theorem dX3_bestTrain_292 : decode cX3_bestTrain 292 = .ok (.ifCond .eq 8, 3) := dk_153 0 8 (dk_at dksX3_bestTrain_12 10 rfl rfl)
theorem dX3_bestTrain_295 : decode cX3_bestTrain 295 = .ok (.lload 17, 2) := dk_22 17 (dk_at dksX3_bestTrain_12 13 rfl rfl)
theorem dX3_bestTrain_297 : decode cX3_bestTrain 297 = .ok (.goto 5, 3) := dk_167 0 5 (dk_at dksX3_bestTrain_12 15 rfl rfl)
theorem dX3_bestTrain_300 : decode cX3_bestTrain 300 = .ok (.lload 5, 2) := dk_22 5 (dk_at dksX3_bestTrain_12 18 rfl rfl)
theorem dX3_bestTrain_302 : decode cX3_bestTrain 302 = .ok (.lstore 5, 2) := dk_55 5 (dk_at dksX3_bestTrain_12 20 rfl rfl)
theorem dX3_bestTrain_304 : decode cX3_bestTrain 304 = .ok (.iload 19, 2) := dk_21 19 (dk_at dksX3_bestTrain_12 22 rfl rfl)
theorem dX3_bestTrain_306 : decode cX3_bestTrain 306 = .ok (.ifCond .eq 8, 3) := dk_153 0 8 (dk_at dksX3_bestTrain_13 0 rfl rfl)
theorem dX3_bestTrain_309 : decode cX3_bestTrain 309 = .ok (.lload 15, 2) := dk_22 15 (dk_at dksX3_bestTrain_13 3 rfl rfl)
theorem dX3_bestTrain_311 : decode cX3_bestTrain 311 = .ok (.goto 5, 3) := dk_167 0 5 (dk_at dksX3_bestTrain_13 5 rfl rfl)
theorem dX3_bestTrain_314 : decode cX3_bestTrain 314 = .ok (.lload 7, 2) := dk_22 7 (dk_at dksX3_bestTrain_13 8 rfl rfl)
theorem dX3_bestTrain_316 : decode cX3_bestTrain 316 = .ok (.lstore 7, 2) := dk_55 7 (dk_at dksX3_bestTrain_13 10 rfl rfl)
theorem dX3_bestTrain_318 : decode cX3_bestTrain 318 = .ok (.iinc 9 1, 3) := dk_132 9 1 (dk_at dksX3_bestTrain_13 12 rfl rfl)
theorem dX3_bestTrain_321 : decode cX3_bestTrain 321 = .ok (.goto (-263), 3) := dk_167 254 249 (dk_at dksX3_bestTrain_13 15 rfl rfl)
theorem dX3_bestTrain_324 : decode cX3_bestTrain 324 = .ok (.iload 4, 2) := dk_21 4 (dk_at dksX3_bestTrain_13 18 rfl rfl)
theorem dX3_bestTrain_326 : decode cX3_bestTrain 326 = .ok (.ireturn, 1) := dk_172 (dk_at dksX3_bestTrain_13 20 rfl rfl)
abbrev cX3_passed : ByteArray := prog_10_method_113_code
def yX3_passed : MethodName := ⟨RX3, "passed", "()I"⟩
def dkwX3_passed_0 : List UInt8 := [42, 16, 112, 182, 0, 151, 172]
abbrev dktX3_passed_0 : List UInt8 := dkwX3_passed_0 ++ []
theorem dksX3_passed_0 : cX3_passed.data.toList.drop 0 = dktX3_passed_0 := by decide +kernel
theorem dX3_passed_0 : decode cX3_passed 0 = .ok (.aload_n 0, 1) := dk_42 (dk_at dksX3_passed_0 0 rfl rfl)
theorem dX3_passed_1 : decode cX3_passed 1 = .ok (.bipush 112, 2) := dk_16 112 (dk_at dksX3_passed_0 1 rfl rfl)
theorem dX3_passed_3 : decode cX3_passed 3 = .ok (.invokevirtual 151, 3) := dk_182 0 151 (dk_at dksX3_passed_0 3 rfl rfl)
theorem dX3_passed_6 : decode cX3_passed 6 = .ok (.ireturn, 1) := dk_172 (dk_at dksX3_passed_0 6 rfl rfl)
abbrev cX3_driven : ByteArray := prog_10_method_114_code
def yX3_driven : MethodName := ⟨RX3, "driven", "()I"⟩
def dkwX3_driven_0 : List UInt8 := [42, 3, 181, 0, 38, 42, 182, 0, 105, 172]
abbrev dktX3_driven_0 : List UInt8 := dkwX3_driven_0 ++ []
theorem dksX3_driven_0 : cX3_driven.data.toList.drop 0 = dktX3_driven_0 := by decide +kernel
theorem dX3_driven_0 : decode cX3_driven 0 = .ok (.aload_n 0, 1) := dk_42 (dk_at dksX3_driven_0 0 rfl rfl)
theorem dX3_driven_1 : decode cX3_driven 1 = .ok (.iconst 0, 1) := dk_3 (dk_at dksX3_driven_0 1 rfl rfl)
theorem dX3_driven_2 : decode cX3_driven 2 = .ok (.putfield 38, 3) := dk_181 0 38 (dk_at dksX3_driven_0 2 rfl rfl)
theorem dX3_driven_5 : decode cX3_driven 5 = .ok (.aload_n 0, 1) := dk_42 (dk_at dksX3_driven_0 5 rfl rfl)
theorem dX3_driven_6 : decode cX3_driven 6 = .ok (.invokevirtual 105, 3) := dk_182 0 105 (dk_at dksX3_driven_0 6 rfl rfl)
theorem dX3_driven_9 : decode cX3_driven 9 = .ok (.ireturn, 1) := dk_172 (dk_at dksX3_driven_0 9 rfl rfl)
abbrev cX3_allTeeth : ByteArray := prog_10_method_115_code
def yX3_allTeeth : MethodName := ⟨RX3, "allTeeth", "()I"⟩
def dkwX3_allTeeth_1 : List UInt8 := [5, 28, 96, 46, 96, 60, 132, 2, 1, 167, 255, 232, 27, 172]
abbrev dktX3_allTeeth_1 : List UInt8 := dkwX3_allTeeth_1 ++ []
def dkwX3_allTeeth_0 : List UInt8 := [42, 3, 181, 0, 38, 3, 60, 3, 61, 28, 42, 180, 0, 7, 4, 46, 162, 0, 20, 27, 42, 180, 0, 7]
abbrev dktX3_allTeeth_0 : List UInt8 := dkwX3_allTeeth_0 ++ dktX3_allTeeth_1
theorem dksX3_allTeeth_0 : cX3_allTeeth.data.toList.drop 0 = dktX3_allTeeth_0 := by decide +kernel
theorem dksX3_allTeeth_1 : cX3_allTeeth.data.toList.drop 24 = dktX3_allTeeth_1 := dk_seg dksX3_allTeeth_0 24 rfl rfl
theorem dX3_allTeeth_0 : decode cX3_allTeeth 0 = .ok (.aload_n 0, 1) := dk_42 (dk_at dksX3_allTeeth_0 0 rfl rfl)
theorem dX3_allTeeth_1 : decode cX3_allTeeth 1 = .ok (.iconst 0, 1) := dk_3 (dk_at dksX3_allTeeth_0 1 rfl rfl)
theorem dX3_allTeeth_2 : decode cX3_allTeeth 2 = .ok (.putfield 38, 3) := dk_181 0 38 (dk_at dksX3_allTeeth_0 2 rfl rfl)
theorem dX3_allTeeth_5 : decode cX3_allTeeth 5 = .ok (.iconst 0, 1) := dk_3 (dk_at dksX3_allTeeth_0 5 rfl rfl)
theorem dX3_allTeeth_6 : decode cX3_allTeeth 6 = .ok (.istore_n 1, 1) := dk_60 (dk_at dksX3_allTeeth_0 6 rfl rfl)
theorem dX3_allTeeth_7 : decode cX3_allTeeth 7 = .ok (.iconst 0, 1) := dk_3 (dk_at dksX3_allTeeth_0 7 rfl rfl)
theorem dX3_allTeeth_8 : decode cX3_allTeeth 8 = .ok (.istore_n 2, 1) := dk_61 (dk_at dksX3_allTeeth_0 8 rfl rfl)
theorem dX3_allTeeth_9 : decode cX3_allTeeth 9 = .ok (.iload_n 2, 1) := dk_28 (dk_at dksX3_allTeeth_0 9 rfl rfl)
theorem dX3_allTeeth_10 : decode cX3_allTeeth 10 = .ok (.aload_n 0, 1) := dk_42 (dk_at dksX3_allTeeth_0 10 rfl rfl)
theorem dX3_allTeeth_11 : decode cX3_allTeeth 11 = .ok (.getfield 7, 3) := dk_180 0 7 (dk_at dksX3_allTeeth_0 11 rfl rfl)
theorem dX3_allTeeth_14 : decode cX3_allTeeth 14 = .ok (.iconst 1, 1) := dk_4 (dk_at dksX3_allTeeth_0 14 rfl rfl)
theorem dX3_allTeeth_15 : decode cX3_allTeeth 15 = .ok (.iaload, 1) := dk_46 (dk_at dksX3_allTeeth_0 15 rfl rfl)
theorem dX3_allTeeth_16 : decode cX3_allTeeth 16 = .ok (.if_icmp .ge 20, 3) := dk_162 0 20 (dk_at dksX3_allTeeth_0 16 rfl rfl)
theorem dX3_allTeeth_19 : decode cX3_allTeeth 19 = .ok (.iload_n 1, 1) := dk_27 (dk_at dksX3_allTeeth_0 19 rfl rfl)
theorem dX3_allTeeth_20 : decode cX3_allTeeth 20 = .ok (.aload_n 0, 1) := dk_42 (dk_at dksX3_allTeeth_0 20 rfl rfl)
theorem dX3_allTeeth_21 : decode cX3_allTeeth 21 = .ok (.getfield 7, 3) := dk_180 0 7 (dk_at dksX3_allTeeth_0 21 rfl rfl)
theorem dX3_allTeeth_24 : decode cX3_allTeeth 24 = .ok (.iconst 2, 1) := dk_5 (dk_at dksX3_allTeeth_1 0 rfl rfl)
theorem dX3_allTeeth_25 : decode cX3_allTeeth 25 = .ok (.iload_n 2, 1) := dk_28 (dk_at dksX3_allTeeth_1 1 rfl rfl)
theorem dX3_allTeeth_26 : decode cX3_allTeeth 26 = .ok (.iadd, 1) := dk_96 (dk_at dksX3_allTeeth_1 2 rfl rfl)
theorem dX3_allTeeth_27 : decode cX3_allTeeth 27 = .ok (.iaload, 1) := dk_46 (dk_at dksX3_allTeeth_1 3 rfl rfl)
theorem dX3_allTeeth_28 : decode cX3_allTeeth 28 = .ok (.iadd, 1) := dk_96 (dk_at dksX3_allTeeth_1 4 rfl rfl)
theorem dX3_allTeeth_29 : decode cX3_allTeeth 29 = .ok (.istore_n 1, 1) := dk_60 (dk_at dksX3_allTeeth_1 5 rfl rfl)
theorem dX3_allTeeth_30 : decode cX3_allTeeth 30 = .ok (.iinc 2 1, 3) := dk_132 2 1 (dk_at dksX3_allTeeth_1 6 rfl rfl)
theorem dX3_allTeeth_33 : decode cX3_allTeeth 33 = .ok (.goto (-24), 3) := dk_167 255 232 (dk_at dksX3_allTeeth_1 9 rfl rfl)
theorem dX3_allTeeth_36 : decode cX3_allTeeth 36 = .ok (.iload_n 1, 1) := dk_27 (dk_at dksX3_allTeeth_1 12 rfl rfl)
theorem dX3_allTeeth_37 : decode cX3_allTeeth 37 = .ok (.ireturn, 1) := dk_172 (dk_at dksX3_allTeeth_1 13 rfl rfl)
abbrev cX3_states : ByteArray := prog_10_method_116_code
def yX3_states : MethodName := ⟨RX3, "states", "()I"⟩
def dkwX3_states_0 : List UInt8 := [42, 3, 181, 0, 38, 42, 180, 0, 46, 172]
abbrev dktX3_states_0 : List UInt8 := dkwX3_states_0 ++ []
theorem dksX3_states_0 : cX3_states.data.toList.drop 0 = dktX3_states_0 := by decide +kernel
theorem dX3_states_0 : decode cX3_states 0 = .ok (.aload_n 0, 1) := dk_42 (dk_at dksX3_states_0 0 rfl rfl)
theorem dX3_states_1 : decode cX3_states 1 = .ok (.iconst 0, 1) := dk_3 (dk_at dksX3_states_0 1 rfl rfl)
theorem dX3_states_2 : decode cX3_states 2 = .ok (.putfield 38, 3) := dk_181 0 38 (dk_at dksX3_states_0 2 rfl rfl)
theorem dX3_states_5 : decode cX3_states 5 = .ok (.aload_n 0, 1) := dk_42 (dk_at dksX3_states_0 5 rfl rfl)
theorem dX3_states_6 : decode cX3_states 6 = .ok (.getfield 46, 3) := dk_180 0 46 (dk_at dksX3_states_0 6 rfl rfl)
theorem dX3_states_9 : decode cX3_states 9 = .ok (.ireturn, 1) := dk_172 (dk_at dksX3_states_0 9 rfl rfl)
abbrev cX3_type : ByteArray := prog_10_method_117_code
def yX3_type : MethodName := ⟨RX3, "type", "(I)I"⟩
def dkwX3_type_2 : List UInt8 := [42, 89, 180, 1, 11, 4, 96, 181, 1, 11, 42, 180, 1, 11, 172]
abbrev dktX3_type_2 : List UInt8 := dkwX3_type_2 ++ []
def dkwX3_type_1 : List UInt8 := [180, 1, 11, 16, 60, 160, 0, 9, 42, 5, 182, 0, 51, 172, 42, 180, 0, 22, 42, 180, 1, 11, 27, 79]
abbrev dktX3_type_1 : List UInt8 := dkwX3_type_1 ++ dktX3_type_2
def dkwX3_type_0 : List UInt8 := [42, 3, 181, 0, 38, 27, 16, 32, 16, 126, 184, 0, 58, 154, 0, 9, 42, 4, 182, 0, 51, 172, 42]
abbrev dktX3_type_0 : List UInt8 := dkwX3_type_0 ++ dktX3_type_1
theorem dksX3_type_0 : cX3_type.data.toList.drop 0 = dktX3_type_0 := by decide +kernel
theorem dksX3_type_1 : cX3_type.data.toList.drop 23 = dktX3_type_1 := dk_seg dksX3_type_0 23 rfl rfl
theorem dksX3_type_2 : cX3_type.data.toList.drop 47 = dktX3_type_2 := dk_seg dksX3_type_1 24 rfl rfl
theorem dX3_type_0 : decode cX3_type 0 = .ok (.aload_n 0, 1) := dk_42 (dk_at dksX3_type_0 0 rfl rfl)
theorem dX3_type_1 : decode cX3_type 1 = .ok (.iconst 0, 1) := dk_3 (dk_at dksX3_type_0 1 rfl rfl)
theorem dX3_type_2 : decode cX3_type 2 = .ok (.putfield 38, 3) := dk_181 0 38 (dk_at dksX3_type_0 2 rfl rfl)
theorem dX3_type_5 : decode cX3_type 5 = .ok (.iload_n 1, 1) := dk_27 (dk_at dksX3_type_0 5 rfl rfl)
theorem dX3_type_6 : decode cX3_type 6 = .ok (.bipush 32, 2) := dk_16 32 (dk_at dksX3_type_0 6 rfl rfl)
theorem dX3_type_8 : decode cX3_type 8 = .ok (.bipush 126, 2) := dk_16 126 (dk_at dksX3_type_0 8 rfl rfl)
theorem dX3_type_10 : decode cX3_type 10 = .ok (.invokestatic 58, 3) := dk_184 0 58 (dk_at dksX3_type_0 10 rfl rfl)
theorem dX3_type_13 : decode cX3_type 13 = .ok (.ifCond .ne 9, 3) := dk_154 0 9 (dk_at dksX3_type_0 13 rfl rfl)
theorem dX3_type_16 : decode cX3_type 16 = .ok (.aload_n 0, 1) := dk_42 (dk_at dksX3_type_0 16 rfl rfl)
theorem dX3_type_17 : decode cX3_type 17 = .ok (.iconst 1, 1) := dk_4 (dk_at dksX3_type_0 17 rfl rfl)
theorem dX3_type_18 : decode cX3_type 18 = .ok (.invokevirtual 51, 3) := dk_182 0 51 (dk_at dksX3_type_0 18 rfl rfl)
theorem dX3_type_21 : decode cX3_type 21 = .ok (.ireturn, 1) := dk_172 (dk_at dksX3_type_0 21 rfl rfl)
theorem dX3_type_22 : decode cX3_type 22 = .ok (.aload_n 0, 1) := dk_42 (dk_at dksX3_type_0 22 rfl rfl)
theorem dX3_type_23 : decode cX3_type 23 = .ok (.getfield 267, 3) := dk_180 1 11 (dk_at dksX3_type_1 0 rfl rfl)
theorem dX3_type_26 : decode cX3_type 26 = .ok (.bipush 60, 2) := dk_16 60 (dk_at dksX3_type_1 3 rfl rfl)
theorem dX3_type_28 : decode cX3_type 28 = .ok (.if_icmp .ne 9, 3) := dk_160 0 9 (dk_at dksX3_type_1 5 rfl rfl)
theorem dX3_type_31 : decode cX3_type 31 = .ok (.aload_n 0, 1) := dk_42 (dk_at dksX3_type_1 8 rfl rfl)
theorem dX3_type_32 : decode cX3_type 32 = .ok (.iconst 2, 1) := dk_5 (dk_at dksX3_type_1 9 rfl rfl)
theorem dX3_type_33 : decode cX3_type 33 = .ok (.invokevirtual 51, 3) := dk_182 0 51 (dk_at dksX3_type_1 10 rfl rfl)
theorem dX3_type_36 : decode cX3_type 36 = .ok (.ireturn, 1) := dk_172 (dk_at dksX3_type_1 13 rfl rfl)
theorem dX3_type_37 : decode cX3_type 37 = .ok (.aload_n 0, 1) := dk_42 (dk_at dksX3_type_1 14 rfl rfl)
theorem dX3_type_38 : decode cX3_type 38 = .ok (.getfield 22, 3) := dk_180 0 22 (dk_at dksX3_type_1 15 rfl rfl)
theorem dX3_type_41 : decode cX3_type 41 = .ok (.aload_n 0, 1) := dk_42 (dk_at dksX3_type_1 18 rfl rfl)
theorem dX3_type_42 : decode cX3_type 42 = .ok (.getfield 267, 3) := dk_180 1 11 (dk_at dksX3_type_1 19 rfl rfl)
theorem dX3_type_45 : decode cX3_type 45 = .ok (.iload_n 1, 1) := dk_27 (dk_at dksX3_type_1 22 rfl rfl)
theorem dX3_type_46 : decode cX3_type 46 = .ok (.iastore, 1) := dk_79 (dk_at dksX3_type_1 23 rfl rfl)
theorem dX3_type_47 : decode cX3_type 47 = .ok (.aload_n 0, 1) := dk_42 (dk_at dksX3_type_2 0 rfl rfl)
theorem dX3_type_48 : decode cX3_type 48 = .ok (.dup, 1) := dk_89 (dk_at dksX3_type_2 1 rfl rfl)
theorem dX3_type_49 : decode cX3_type 49 = .ok (.getfield 267, 3) := dk_180 1 11 (dk_at dksX3_type_2 2 rfl rfl)
theorem dX3_type_52 : decode cX3_type 52 = .ok (.iconst 1, 1) := dk_4 (dk_at dksX3_type_2 5 rfl rfl)
theorem dX3_type_53 : decode cX3_type 53 = .ok (.iadd, 1) := dk_96 (dk_at dksX3_type_2 6 rfl rfl)
theorem dX3_type_54 : decode cX3_type 54 = .ok (.putfield 267, 3) := dk_181 1 11 (dk_at dksX3_type_2 7 rfl rfl)
theorem dX3_type_57 : decode cX3_type 57 = .ok (.aload_n 0, 1) := dk_42 (dk_at dksX3_type_2 10 rfl rfl)
theorem dX3_type_58 : decode cX3_type 58 = .ok (.getfield 267, 3) := dk_180 1 11 (dk_at dksX3_type_2 11 rfl rfl)
theorem dX3_type_61 : decode cX3_type 61 = .ok (.ireturn, 1) := dk_172 (dk_at dksX3_type_2 14 rfl rfl)
abbrev cX3_clearText : ByteArray := prog_10_method_118_code
def yX3_clearText : MethodName := ⟨RX3, "clearText", "()I"⟩
def dkwX3_clearText_0 : List UInt8 := [42, 3, 181, 0, 38, 42, 180, 1, 11, 60, 42, 3, 181, 1, 11, 27, 172]
abbrev dktX3_clearText_0 : List UInt8 := dkwX3_clearText_0 ++ []
theorem dksX3_clearText_0 : cX3_clearText.data.toList.drop 0 = dktX3_clearText_0 := by decide +kernel
theorem dX3_clearText_0 : decode cX3_clearText 0 = .ok (.aload_n 0, 1) := dk_42 (dk_at dksX3_clearText_0 0 rfl rfl)
theorem dX3_clearText_1 : decode cX3_clearText 1 = .ok (.iconst 0, 1) := dk_3 (dk_at dksX3_clearText_0 1 rfl rfl)
theorem dX3_clearText_2 : decode cX3_clearText 2 = .ok (.putfield 38, 3) := dk_181 0 38 (dk_at dksX3_clearText_0 2 rfl rfl)
theorem dX3_clearText_5 : decode cX3_clearText 5 = .ok (.aload_n 0, 1) := dk_42 (dk_at dksX3_clearText_0 5 rfl rfl)
theorem dX3_clearText_6 : decode cX3_clearText 6 = .ok (.getfield 267, 3) := dk_180 1 11 (dk_at dksX3_clearText_0 6 rfl rfl)
theorem dX3_clearText_9 : decode cX3_clearText 9 = .ok (.istore_n 1, 1) := dk_60 (dk_at dksX3_clearText_0 9 rfl rfl)
theorem dX3_clearText_10 : decode cX3_clearText 10 = .ok (.aload_n 0, 1) := dk_42 (dk_at dksX3_clearText_0 10 rfl rfl)
theorem dX3_clearText_11 : decode cX3_clearText 11 = .ok (.iconst 0, 1) := dk_3 (dk_at dksX3_clearText_0 11 rfl rfl)
theorem dX3_clearText_12 : decode cX3_clearText 12 = .ok (.putfield 267, 3) := dk_181 1 11 (dk_at dksX3_clearText_0 12 rfl rfl)
theorem dX3_clearText_15 : decode cX3_clearText 15 = .ok (.iload_n 1, 1) := dk_27 (dk_at dksX3_clearText_0 15 rfl rfl)
theorem dX3_clearText_16 : decode cX3_clearText 16 = .ok (.ireturn, 1) := dk_172 (dk_at dksX3_clearText_0 16 rfl rfl)
abbrev cX3_faultPosition : ByteArray := prog_10_method_126_code
def yX3_faultPosition : MethodName := ⟨RX3, "faultPosition", "()I"⟩
def dkwX3_faultPosition_0 : List UInt8 := [42, 3, 182, 1, 56, 172]
abbrev dktX3_faultPosition_0 : List UInt8 := dkwX3_faultPosition_0 ++ []
theorem dksX3_faultPosition_0 : cX3_faultPosition.data.toList.drop 0 = dktX3_faultPosition_0 := by decide +kernel
theorem dX3_faultPosition_0 : decode cX3_faultPosition 0 = .ok (.aload_n 0, 1) := dk_42 (dk_at dksX3_faultPosition_0 0 rfl rfl)
theorem dX3_faultPosition_1 : decode cX3_faultPosition 1 = .ok (.iconst 0, 1) := dk_3 (dk_at dksX3_faultPosition_0 1 rfl rfl)
theorem dX3_faultPosition_2 : decode cX3_faultPosition 2 = .ok (.invokevirtual 312, 3) := dk_182 1 56 (dk_at dksX3_faultPosition_0 2 rfl rfl)
theorem dX3_faultPosition_5 : decode cX3_faultPosition 5 = .ok (.ireturn, 1) := dk_172 (dk_at dksX3_faultPosition_0 5 rfl rfl)
abbrev cX3_faultTold : ByteArray := prog_10_method_125_code
def yX3_faultTold : MethodName := ⟨RX3, "faultTold", "(I)I"⟩
def dkwX3_faultTold_3 : List UInt8 := [167, 0, 7, 42, 180, 1, 50, 172]
abbrev dktX3_faultTold_3 : List UInt8 := dkwX3_faultTold_3 ++ []
def dkwX3_faultTold_2 : List UInt8 := [167, 0, 30, 27, 154, 0, 10, 42, 180, 1, 23, 167, 0, 19, 27, 4, 160, 0, 10, 42, 180, 1, 42]
abbrev dktX3_faultTold_2 : List UInt8 := dkwX3_faultTold_2 ++ dktX3_faultTold_3
def dkwX3_faultTold_1 : List UInt8 := [180, 0, 13, 3, 42, 180, 0, 7, 3, 184, 0, 42, 42, 180, 1, 42, 154, 0, 11, 42, 4, 182, 0, 51]
abbrev dktX3_faultTold_1 : List UInt8 := dkwX3_faultTold_1 ++ dktX3_faultTold_2
def dkwX3_faultTold_0 : List UInt8 := [42, 3, 181, 0, 38, 42, 180, 0, 7, 3, 42, 180, 0, 13, 3, 184, 0, 42, 42, 182, 1, 53, 61, 42]
abbrev dktX3_faultTold_0 : List UInt8 := dkwX3_faultTold_0 ++ dktX3_faultTold_1
theorem dksX3_faultTold_0 : cX3_faultTold.data.toList.drop 0 = dktX3_faultTold_0 := by decide +kernel
theorem dksX3_faultTold_1 : cX3_faultTold.data.toList.drop 24 = dktX3_faultTold_1 := dk_seg dksX3_faultTold_0 24 rfl rfl
theorem dksX3_faultTold_2 : cX3_faultTold.data.toList.drop 48 = dktX3_faultTold_2 := dk_seg dksX3_faultTold_1 24 rfl rfl
theorem dksX3_faultTold_3 : cX3_faultTold.data.toList.drop 71 = dktX3_faultTold_3 := dk_seg dksX3_faultTold_2 23 rfl rfl
theorem dX3_faultTold_0 : decode cX3_faultTold 0 = .ok (.aload_n 0, 1) := dk_42 (dk_at dksX3_faultTold_0 0 rfl rfl)
theorem dX3_faultTold_1 : decode cX3_faultTold 1 = .ok (.iconst 0, 1) := dk_3 (dk_at dksX3_faultTold_0 1 rfl rfl)
theorem dX3_faultTold_2 : decode cX3_faultTold 2 = .ok (.putfield 38, 3) := dk_181 0 38 (dk_at dksX3_faultTold_0 2 rfl rfl)
theorem dX3_faultTold_5 : decode cX3_faultTold 5 = .ok (.aload_n 0, 1) := dk_42 (dk_at dksX3_faultTold_0 5 rfl rfl)
theorem dX3_faultTold_6 : decode cX3_faultTold 6 = .ok (.getfield 7, 3) := dk_180 0 7 (dk_at dksX3_faultTold_0 6 rfl rfl)
theorem dX3_faultTold_9 : decode cX3_faultTold 9 = .ok (.iconst 0, 1) := dk_3 (dk_at dksX3_faultTold_0 9 rfl rfl)
theorem dX3_faultTold_10 : decode cX3_faultTold 10 = .ok (.aload_n 0, 1) := dk_42 (dk_at dksX3_faultTold_0 10 rfl rfl)
theorem dX3_faultTold_11 : decode cX3_faultTold 11 = .ok (.getfield 13, 3) := dk_180 0 13 (dk_at dksX3_faultTold_0 11 rfl rfl)
theorem dX3_faultTold_14 : decode cX3_faultTold 14 = .ok (.iconst 0, 1) := dk_3 (dk_at dksX3_faultTold_0 14 rfl rfl)
theorem dX3_faultTold_15 : decode cX3_faultTold 15 = .ok (.invokestatic 42, 3) := dk_184 0 42 (dk_at dksX3_faultTold_0 15 rfl rfl)
theorem dX3_faultTold_18 : decode cX3_faultTold 18 = .ok (.aload_n 0, 1) := dk_42 (dk_at dksX3_faultTold_0 18 rfl rfl)
theorem dX3_faultTold_19 : decode cX3_faultTold 19 = .ok (.invokevirtual 309, 3) := dk_182 1 53 (dk_at dksX3_faultTold_0 19 rfl rfl)
theorem dX3_faultTold_22 : decode cX3_faultTold 22 = .ok (.istore_n 2, 1) := dk_61 (dk_at dksX3_faultTold_0 22 rfl rfl)
theorem dX3_faultTold_23 : decode cX3_faultTold 23 = .ok (.aload_n 0, 1) := dk_42 (dk_at dksX3_faultTold_0 23 rfl rfl)
theorem dX3_faultTold_24 : decode cX3_faultTold 24 = .ok (.getfield 13, 3) := dk_180 0 13 (dk_at dksX3_faultTold_1 0 rfl rfl)
theorem dX3_faultTold_27 : decode cX3_faultTold 27 = .ok (.iconst 0, 1) := dk_3 (dk_at dksX3_faultTold_1 3 rfl rfl)
theorem dX3_faultTold_28 : decode cX3_faultTold 28 = .ok (.aload_n 0, 1) := dk_42 (dk_at dksX3_faultTold_1 4 rfl rfl)
theorem dX3_faultTold_29 : decode cX3_faultTold 29 = .ok (.getfield 7, 3) := dk_180 0 7 (dk_at dksX3_faultTold_1 5 rfl rfl)
theorem dX3_faultTold_32 : decode cX3_faultTold 32 = .ok (.iconst 0, 1) := dk_3 (dk_at dksX3_faultTold_1 8 rfl rfl)
theorem dX3_faultTold_33 : decode cX3_faultTold 33 = .ok (.invokestatic 42, 3) := dk_184 0 42 (dk_at dksX3_faultTold_1 9 rfl rfl)
theorem dX3_faultTold_36 : decode cX3_faultTold 36 = .ok (.aload_n 0, 1) := dk_42 (dk_at dksX3_faultTold_1 12 rfl rfl)
theorem dX3_faultTold_37 : decode cX3_faultTold 37 = .ok (.getfield 298, 3) := dk_180 1 42 (dk_at dksX3_faultTold_1 13 rfl rfl)
theorem dX3_faultTold_40 : decode cX3_faultTold 40 = .ok (.ifCond .ne 11, 3) := dk_154 0 11 (dk_at dksX3_faultTold_1 16 rfl rfl)
theorem dX3_faultTold_43 : decode cX3_faultTold 43 = .ok (.aload_n 0, 1) := dk_42 (dk_at dksX3_faultTold_1 19 rfl rfl)
theorem dX3_faultTold_44 : decode cX3_faultTold 44 = .ok (.iconst 1, 1) := dk_4 (dk_at dksX3_faultTold_1 20 rfl rfl)
theorem dX3_faultTold_45 : decode cX3_faultTold 45 = .ok (.invokevirtual 51, 3) := dk_182 0 51 (dk_at dksX3_faultTold_1 21 rfl rfl)
theorem dX3_faultTold_48 : decode cX3_faultTold 48 = .ok (.goto 30, 3) := dk_167 0 30 (dk_at dksX3_faultTold_2 0 rfl rfl)
theorem dX3_faultTold_51 : decode cX3_faultTold 51 = .ok (.iload_n 1, 1) := dk_27 (dk_at dksX3_faultTold_2 3 rfl rfl)
theorem dX3_faultTold_52 : decode cX3_faultTold 52 = .ok (.ifCond .ne 10, 3) := dk_154 0 10 (dk_at dksX3_faultTold_2 4 rfl rfl)
theorem dX3_faultTold_55 : decode cX3_faultTold 55 = .ok (.aload_n 0, 1) := dk_42 (dk_at dksX3_faultTold_2 7 rfl rfl)
theorem dX3_faultTold_56 : decode cX3_faultTold 56 = .ok (.getfield 279, 3) := dk_180 1 23 (dk_at dksX3_faultTold_2 8 rfl rfl)
theorem dX3_faultTold_59 : decode cX3_faultTold 59 = .ok (.goto 19, 3) := dk_167 0 19 (dk_at dksX3_faultTold_2 11 rfl rfl)
theorem dX3_faultTold_62 : decode cX3_faultTold 62 = .ok (.iload_n 1, 1) := dk_27 (dk_at dksX3_faultTold_2 14 rfl rfl)
theorem dX3_faultTold_63 : decode cX3_faultTold 63 = .ok (.iconst 1, 1) := dk_4 (dk_at dksX3_faultTold_2 15 rfl rfl)
theorem dX3_faultTold_64 : decode cX3_faultTold 64 = .ok (.if_icmp .ne 10, 3) := dk_160 0 10 (dk_at dksX3_faultTold_2 16 rfl rfl)
theorem dX3_faultTold_67 : decode cX3_faultTold 67 = .ok (.aload_n 0, 1) := dk_42 (dk_at dksX3_faultTold_2 19 rfl rfl)
theorem dX3_faultTold_68 : decode cX3_faultTold 68 = .ok (.getfield 298, 3) := dk_180 1 42 (dk_at dksX3_faultTold_2 20 rfl rfl)
theorem dX3_faultTold_71 : decode cX3_faultTold 71 = .ok (.goto 7, 3) := dk_167 0 7 (dk_at dksX3_faultTold_3 0 rfl rfl)
theorem dX3_faultTold_74 : decode cX3_faultTold 74 = .ok (.aload_n 0, 1) := dk_42 (dk_at dksX3_faultTold_3 3 rfl rfl)
theorem dX3_faultTold_75 : decode cX3_faultTold 75 = .ok (.getfield 306, 3) := dk_180 1 50 (dk_at dksX3_faultTold_3 4 rfl rfl)
theorem dX3_faultTold_78 : decode cX3_faultTold 78 = .ok (.ireturn, 1) := dk_172 (dk_at dksX3_faultTold_3 7 rfl rfl)
abbrev cX3_doesAll : ByteArray := prog_10_method_124_code
def yX3_doesAll : MethodName := ⟨RX3, "doesAll", "()I"⟩
def dkwX3_doesAll_5 : List UInt8 := [167, 255, 149, 27, 172]
abbrev dktX3_doesAll_5 : List UInt8 := dkwX3_doesAll_5 ++ []
def dkwX3_doesAll_4 : List UInt8 := [167, 0, 14, 28, 18, 49, 160, 0, 7, 4, 167, 0, 4, 5, 181, 1, 50, 167, 0, 6, 132, 1, 1]
abbrev dktX3_doesAll_4 : List UInt8 := dkwX3_doesAll_4 ++ dktX3_doesAll_5
def dkwX3_doesAll_3 : List UInt8 := [167, 0, 4, 4, 181, 1, 42, 42, 42, 180, 1, 17, 154, 0, 15, 42, 180, 1, 14, 42, 180, 1, 23, 100]
abbrev dktX3_doesAll_3 : List UInt8 := dkwX3_doesAll_3 ++ dktX3_doesAll_4
def dkwX3_doesAll_2 : List UInt8 := [3, 61, 42, 180, 1, 17, 153, 0, 9, 28, 18, 49, 163, 0, 56, 42, 42, 180, 1, 17, 153, 0, 7, 5]
abbrev dktX3_doesAll_2 : List UInt8 := dkwX3_doesAll_2 ++ dktX3_doesAll_3
def dkwX3_doesAll_1 : List UInt8 := [180, 1, 11, 162, 0, 95, 42, 182, 1, 44, 42, 180, 1, 17, 153, 0, 10, 42, 182, 1, 47, 167, 0, 4]
abbrev dktX3_doesAll_1 : List UInt8 := dkwX3_doesAll_1 ++ dktX3_doesAll_2
def dkwX3_doesAll_0 : List UInt8 := [3, 60, 42, 3, 181, 1, 42, 42, 3, 181, 1, 14, 42, 180, 1, 42, 154, 0, 106, 42, 180, 1, 14, 42]
abbrev dktX3_doesAll_0 : List UInt8 := dkwX3_doesAll_0 ++ dktX3_doesAll_1
theorem dksX3_doesAll_0 : cX3_doesAll.data.toList.drop 0 = dktX3_doesAll_0 := by decide +kernel
theorem dksX3_doesAll_1 : cX3_doesAll.data.toList.drop 24 = dktX3_doesAll_1 := dk_seg dksX3_doesAll_0 24 rfl rfl
theorem dksX3_doesAll_2 : cX3_doesAll.data.toList.drop 48 = dktX3_doesAll_2 := dk_seg dksX3_doesAll_1 24 rfl rfl
theorem dksX3_doesAll_3 : cX3_doesAll.data.toList.drop 72 = dktX3_doesAll_3 := dk_seg dksX3_doesAll_2 24 rfl rfl
theorem dksX3_doesAll_4 : cX3_doesAll.data.toList.drop 96 = dktX3_doesAll_4 := dk_seg dksX3_doesAll_3 24 rfl rfl
theorem dksX3_doesAll_5 : cX3_doesAll.data.toList.drop 119 = dktX3_doesAll_5 := dk_seg dksX3_doesAll_4 23 rfl rfl
theorem dX3_doesAll_0 : decode cX3_doesAll 0 = .ok (.iconst 0, 1) := dk_3 (dk_at dksX3_doesAll_0 0 rfl rfl)
theorem dX3_doesAll_1 : decode cX3_doesAll 1 = .ok (.istore_n 1, 1) := dk_60 (dk_at dksX3_doesAll_0 1 rfl rfl)
theorem dX3_doesAll_2 : decode cX3_doesAll 2 = .ok (.aload_n 0, 1) := dk_42 (dk_at dksX3_doesAll_0 2 rfl rfl)
theorem dX3_doesAll_3 : decode cX3_doesAll 3 = .ok (.iconst 0, 1) := dk_3 (dk_at dksX3_doesAll_0 3 rfl rfl)
theorem dX3_doesAll_4 : decode cX3_doesAll 4 = .ok (.putfield 298, 3) := dk_181 1 42 (dk_at dksX3_doesAll_0 4 rfl rfl)
theorem dX3_doesAll_7 : decode cX3_doesAll 7 = .ok (.aload_n 0, 1) := dk_42 (dk_at dksX3_doesAll_0 7 rfl rfl)
theorem dX3_doesAll_8 : decode cX3_doesAll 8 = .ok (.iconst 0, 1) := dk_3 (dk_at dksX3_doesAll_0 8 rfl rfl)
theorem dX3_doesAll_9 : decode cX3_doesAll 9 = .ok (.putfield 270, 3) := dk_181 1 14 (dk_at dksX3_doesAll_0 9 rfl rfl)
theorem dX3_doesAll_12 : decode cX3_doesAll 12 = .ok (.aload_n 0, 1) := dk_42 (dk_at dksX3_doesAll_0 12 rfl rfl)
theorem dX3_doesAll_13 : decode cX3_doesAll 13 = .ok (.getfield 298, 3) := dk_180 1 42 (dk_at dksX3_doesAll_0 13 rfl rfl)
theorem dX3_doesAll_16 : decode cX3_doesAll 16 = .ok (.ifCond .ne 106, 3) := dk_154 0 106 (dk_at dksX3_doesAll_0 16 rfl rfl)
theorem dX3_doesAll_19 : decode cX3_doesAll 19 = .ok (.aload_n 0, 1) := dk_42 (dk_at dksX3_doesAll_0 19 rfl rfl)
theorem dX3_doesAll_20 : decode cX3_doesAll 20 = .ok (.getfield 270, 3) := dk_180 1 14 (dk_at dksX3_doesAll_0 20 rfl rfl)
theorem dX3_doesAll_23 : decode cX3_doesAll 23 = .ok (.aload_n 0, 1) := dk_42 (dk_at dksX3_doesAll_0 23 rfl rfl)
theorem dX3_doesAll_24 : decode cX3_doesAll 24 = .ok (.getfield 267, 3) := dk_180 1 11 (dk_at dksX3_doesAll_1 0 rfl rfl)
theorem dX3_doesAll_27 : decode cX3_doesAll 27 = .ok (.if_icmp .ge 95, 3) := dk_162 0 95 (dk_at dksX3_doesAll_1 3 rfl rfl)
theorem dX3_doesAll_30 : decode cX3_doesAll 30 = .ok (.aload_n 0, 1) := dk_42 (dk_at dksX3_doesAll_1 6 rfl rfl)
theorem dX3_doesAll_31 : decode cX3_doesAll 31 = .ok (.invokevirtual 300, 3) := dk_182 1 44 (dk_at dksX3_doesAll_1 7 rfl rfl)
theorem dX3_doesAll_34 : decode cX3_doesAll 34 = .ok (.aload_n 0, 1) := dk_42 (dk_at dksX3_doesAll_1 10 rfl rfl)
theorem dX3_doesAll_35 : decode cX3_doesAll 35 = .ok (.getfield 273, 3) := dk_180 1 17 (dk_at dksX3_doesAll_1 11 rfl rfl)
theorem dX3_doesAll_38 : decode cX3_doesAll 38 = .ok (.ifCond .eq 10, 3) := dk_153 0 10 (dk_at dksX3_doesAll_1 14 rfl rfl)
theorem dX3_doesAll_41 : decode cX3_doesAll 41 = .ok (.aload_n 0, 1) := dk_42 (dk_at dksX3_doesAll_1 17 rfl rfl)
theorem dX3_doesAll_42 : decode cX3_doesAll 42 = .ok (.invokevirtual 303, 3) := dk_182 1 47 (dk_at dksX3_doesAll_1 18 rfl rfl)
theorem dX3_doesAll_45 : decode cX3_doesAll 45 = .ok (.goto 4, 3) := dk_167 0 4 (dk_at dksX3_doesAll_1 21 rfl rfl)
theorem dX3_doesAll_48 : decode cX3_doesAll 48 = .ok (.iconst 0, 1) := dk_3 (dk_at dksX3_doesAll_2 0 rfl rfl)
theorem dX3_doesAll_49 : decode cX3_doesAll 49 = .ok (.istore_n 2, 1) := dk_61 (dk_at dksX3_doesAll_2 1 rfl rfl)
theorem dX3_doesAll_50 : decode cX3_doesAll 50 = .ok (.aload_n 0, 1) := dk_42 (dk_at dksX3_doesAll_2 2 rfl rfl)
theorem dX3_doesAll_51 : decode cX3_doesAll 51 = .ok (.getfield 273, 3) := dk_180 1 17 (dk_at dksX3_doesAll_2 3 rfl rfl)
theorem dX3_doesAll_54 : decode cX3_doesAll 54 = .ok (.ifCond .eq 9, 3) := dk_153 0 9 (dk_at dksX3_doesAll_2 6 rfl rfl)
theorem dX3_doesAll_57 : decode cX3_doesAll 57 = .ok (.iload_n 2, 1) := dk_28 (dk_at dksX3_doesAll_2 9 rfl rfl)
theorem dX3_doesAll_58 : decode cX3_doesAll 58 = .ok (.ldc 49, 2) := dk_18 49 (dk_at dksX3_doesAll_2 10 rfl rfl)
theorem dX3_doesAll_60 : decode cX3_doesAll 60 = .ok (.if_icmp .gt 56, 3) := dk_163 0 56 (dk_at dksX3_doesAll_2 12 rfl rfl)
theorem dX3_doesAll_63 : decode cX3_doesAll 63 = .ok (.aload_n 0, 1) := dk_42 (dk_at dksX3_doesAll_2 15 rfl rfl)
theorem dX3_doesAll_64 : decode cX3_doesAll 64 = .ok (.aload_n 0, 1) := dk_42 (dk_at dksX3_doesAll_2 16 rfl rfl)
theorem dX3_doesAll_65 : decode cX3_doesAll 65 = .ok (.getfield 273, 3) := dk_180 1 17 (dk_at dksX3_doesAll_2 17 rfl rfl)
theorem dX3_doesAll_68 : decode cX3_doesAll 68 = .ok (.ifCond .eq 7, 3) := dk_153 0 7 (dk_at dksX3_doesAll_2 20 rfl rfl)
theorem dX3_doesAll_71 : decode cX3_doesAll 71 = .ok (.iconst 2, 1) := dk_5 (dk_at dksX3_doesAll_2 23 rfl rfl)
theorem dX3_doesAll_72 : decode cX3_doesAll 72 = .ok (.goto 4, 3) := dk_167 0 4 (dk_at dksX3_doesAll_3 0 rfl rfl)
theorem dX3_doesAll_75 : decode cX3_doesAll 75 = .ok (.iconst 1, 1) := dk_4 (dk_at dksX3_doesAll_3 3 rfl rfl)
theorem dX3_doesAll_76 : decode cX3_doesAll 76 = .ok (.putfield 298, 3) := dk_181 1 42 (dk_at dksX3_doesAll_3 4 rfl rfl)
theorem dX3_doesAll_79 : decode cX3_doesAll 79 = .ok (.aload_n 0, 1) := dk_42 (dk_at dksX3_doesAll_3 7 rfl rfl)
theorem dX3_doesAll_80 : decode cX3_doesAll 80 = .ok (.aload_n 0, 1) := dk_42 (dk_at dksX3_doesAll_3 8 rfl rfl)
theorem dX3_doesAll_81 : decode cX3_doesAll 81 = .ok (.getfield 273, 3) := dk_180 1 17 (dk_at dksX3_doesAll_3 9 rfl rfl)
theorem dX3_doesAll_84 : decode cX3_doesAll 84 = .ok (.ifCond .ne 15, 3) := dk_154 0 15 (dk_at dksX3_doesAll_3 12 rfl rfl)
theorem dX3_doesAll_87 : decode cX3_doesAll 87 = .ok (.aload_n 0, 1) := dk_42 (dk_at dksX3_doesAll_3 15 rfl rfl)
theorem dX3_doesAll_88 : decode cX3_doesAll 88 = .ok (.getfield 270, 3) := dk_180 1 14 (dk_at dksX3_doesAll_3 16 rfl rfl)
theorem dX3_doesAll_91 : decode cX3_doesAll 91 = .ok (.aload_n 0, 1) := dk_42 (dk_at dksX3_doesAll_3 19 rfl rfl)
theorem dX3_doesAll_92 : decode cX3_doesAll 92 = .ok (.getfield 279, 3) := dk_180 1 23 (dk_at dksX3_doesAll_3 20 rfl rfl)
theorem dX3_doesAll_95 : decode cX3_doesAll 95 = .ok (.isub, 1) := dk_100 (dk_at dksX3_doesAll_3 23 rfl rfl)
theorem dX3_doesAll_96 : decode cX3_doesAll 96 = .ok (.goto 14, 3) := dk_167 0 14 (dk_at dksX3_doesAll_4 0 rfl rfl)
theorem dX3_doesAll_99 : decode cX3_doesAll 99 = .ok (.iload_n 2, 1) := dk_28 (dk_at dksX3_doesAll_4 3 rfl rfl)
theorem dX3_doesAll_100 : decode cX3_doesAll 100 = .ok (.ldc 49, 2) := dk_18 49 (dk_at dksX3_doesAll_4 4 rfl rfl)
theorem dX3_doesAll_102 : decode cX3_doesAll 102 = .ok (.if_icmp .ne 7, 3) := dk_160 0 7 (dk_at dksX3_doesAll_4 6 rfl rfl)
theorem dX3_doesAll_105 : decode cX3_doesAll 105 = .ok (.iconst 1, 1) := dk_4 (dk_at dksX3_doesAll_4 9 rfl rfl)
theorem dX3_doesAll_106 : decode cX3_doesAll 106 = .ok (.goto 4, 3) := dk_167 0 4 (dk_at dksX3_doesAll_4 10 rfl rfl)
theorem dX3_doesAll_109 : decode cX3_doesAll 109 = .ok (.iconst 2, 1) := dk_5 (dk_at dksX3_doesAll_4 13 rfl rfl)
theorem dX3_doesAll_110 : decode cX3_doesAll 110 = .ok (.putfield 306, 3) := dk_181 1 50 (dk_at dksX3_doesAll_4 14 rfl rfl)
theorem dX3_doesAll_113 : decode cX3_doesAll 113 = .ok (.goto 6, 3) := dk_167 0 6 (dk_at dksX3_doesAll_4 17 rfl rfl)
theorem dX3_doesAll_116 : decode cX3_doesAll 116 = .ok (.iinc 1 1, 3) := dk_132 1 1 (dk_at dksX3_doesAll_4 20 rfl rfl)
theorem dX3_doesAll_119 : decode cX3_doesAll 119 = .ok (.goto (-107), 3) := dk_167 255 149 (dk_at dksX3_doesAll_5 0 rfl rfl)
theorem dX3_doesAll_122 : decode cX3_doesAll 122 = .ok (.iload_n 1, 1) := dk_27 (dk_at dksX3_doesAll_5 3 rfl rfl)
theorem dX3_doesAll_123 : decode cX3_doesAll 123 = .ok (.ireturn, 1) := dk_172 (dk_at dksX3_doesAll_5 4 rfl rfl)
abbrev cX3_takesOrder : ByteArray := prog_10_method_122_code
def yX3_takesOrder : MethodName := ⟨RX3, "takesOrder", "()V"⟩
def dkwX3_takesOrder_7 : List UInt8 := [177]
abbrev dktX3_takesOrder_7 : List UInt8 := dkwX3_takesOrder_7 ++ []
def dkwX3_takesOrder_6 : List UInt8 := [182, 1, 33, 181, 1, 39, 42, 42, 182, 1, 20, 16, 59, 160, 0, 7, 4, 167, 0, 4, 3, 182, 1, 29]
abbrev dktX3_takesOrder_6 : List UInt8 := dkwX3_takesOrder_6 ++ dktX3_takesOrder_7
def dkwX3_takesOrder_5 : List UInt8 := [153, 0, 29, 42, 42, 182, 1, 20, 16, 44, 160, 0, 7, 4, 167, 0, 4, 3, 182, 1, 29, 42, 42]
abbrev dktX3_takesOrder_5 : List UInt8 := dkwX3_takesOrder_5 ++ dktX3_takesOrder_6
def dkwX3_takesOrder_4 : List UInt8 := [160, 0, 7, 4, 167, 0, 4, 3, 182, 1, 29, 27, 154, 0, 11, 42, 42, 182, 1, 33, 181, 1, 36, 28]
abbrev dktX3_takesOrder_4 : List UInt8 := dkwX3_takesOrder_4 ++ dktX3_takesOrder_5
def dkwX3_takesOrder_3 : List UInt8 := [27, 154, 0, 25, 28, 154, 0, 21, 42, 180, 1, 26, 16, 97, 159, 0, 12, 42, 180, 1, 26, 16, 100]
abbrev dktX3_takesOrder_3 : List UInt8 := dkwX3_takesOrder_3 ++ dktX3_takesOrder_4
def dkwX3_takesOrder_2 : List UInt8 := [180, 1, 26, 16, 109, 159, 0, 12, 42, 180, 1, 26, 16, 116, 160, 0, 7, 4, 167, 0, 4, 3, 61, 42]
abbrev dktX3_takesOrder_2 : List UInt8 := dkwX3_takesOrder_2 ++ dktX3_takesOrder_3
def dkwX3_takesOrder_1 : List UInt8 := [180, 1, 26, 16, 120, 160, 0, 7, 4, 167, 0, 4, 3, 60, 42, 180, 1, 26, 16, 119, 159, 0, 21, 42]
abbrev dktX3_takesOrder_1 : List UInt8 := dkwX3_takesOrder_1 ++ dktX3_takesOrder_2
def dkwX3_takesOrder_0 : List UInt8 := [42, 42, 180, 1, 14, 181, 1, 23, 42, 4, 181, 1, 17, 42, 42, 182, 1, 20, 181, 1, 26, 42]
abbrev dktX3_takesOrder_0 : List UInt8 := dkwX3_takesOrder_0 ++ dktX3_takesOrder_1
theorem dksX3_takesOrder_0 : cX3_takesOrder.data.toList.drop 0 = dktX3_takesOrder_0 := by decide +kernel
theorem dksX3_takesOrder_1 : cX3_takesOrder.data.toList.drop 22 = dktX3_takesOrder_1 := dk_seg dksX3_takesOrder_0 22 rfl rfl
theorem dksX3_takesOrder_2 : cX3_takesOrder.data.toList.drop 46 = dktX3_takesOrder_2 := dk_seg dksX3_takesOrder_1 24 rfl rfl
theorem dksX3_takesOrder_3 : cX3_takesOrder.data.toList.drop 70 = dktX3_takesOrder_3 := dk_seg dksX3_takesOrder_2 24 rfl rfl
theorem dksX3_takesOrder_4 : cX3_takesOrder.data.toList.drop 93 = dktX3_takesOrder_4 := dk_seg dksX3_takesOrder_3 23 rfl rfl
theorem dksX3_takesOrder_5 : cX3_takesOrder.data.toList.drop 117 = dktX3_takesOrder_5 := dk_seg dksX3_takesOrder_4 24 rfl rfl
theorem dksX3_takesOrder_6 : cX3_takesOrder.data.toList.drop 140 = dktX3_takesOrder_6 := dk_seg dksX3_takesOrder_5 23 rfl rfl
theorem dksX3_takesOrder_7 : cX3_takesOrder.data.toList.drop 164 = dktX3_takesOrder_7 := dk_seg dksX3_takesOrder_6 24 rfl rfl
theorem dX3_takesOrder_0 : decode cX3_takesOrder 0 = .ok (.aload_n 0, 1) := dk_42 (dk_at dksX3_takesOrder_0 0 rfl rfl)
theorem dX3_takesOrder_1 : decode cX3_takesOrder 1 = .ok (.aload_n 0, 1) := dk_42 (dk_at dksX3_takesOrder_0 1 rfl rfl)
theorem dX3_takesOrder_2 : decode cX3_takesOrder 2 = .ok (.getfield 270, 3) := dk_180 1 14 (dk_at dksX3_takesOrder_0 2 rfl rfl)
theorem dX3_takesOrder_5 : decode cX3_takesOrder 5 = .ok (.putfield 279, 3) := dk_181 1 23 (dk_at dksX3_takesOrder_0 5 rfl rfl)
theorem dX3_takesOrder_8 : decode cX3_takesOrder 8 = .ok (.aload_n 0, 1) := dk_42 (dk_at dksX3_takesOrder_0 8 rfl rfl)
theorem dX3_takesOrder_9 : decode cX3_takesOrder 9 = .ok (.iconst 1, 1) := dk_4 (dk_at dksX3_takesOrder_0 9 rfl rfl)
theorem dX3_takesOrder_10 : decode cX3_takesOrder 10 = .ok (.putfield 273, 3) := dk_181 1 17 (dk_at dksX3_takesOrder_0 10 rfl rfl)
theorem dX3_takesOrder_13 : decode cX3_takesOrder 13 = .ok (.aload_n 0, 1) := dk_42 (dk_at dksX3_takesOrder_0 13 rfl rfl)
theorem dX3_takesOrder_14 : decode cX3_takesOrder 14 = .ok (.aload_n 0, 1) := dk_42 (dk_at dksX3_takesOrder_0 14 rfl rfl)
theorem dX3_takesOrder_15 : decode cX3_takesOrder 15 = .ok (.invokevirtual 276, 3) := dk_182 1 20 (dk_at dksX3_takesOrder_0 15 rfl rfl)
theorem dX3_takesOrder_18 : decode cX3_takesOrder 18 = .ok (.putfield 282, 3) := dk_181 1 26 (dk_at dksX3_takesOrder_0 18 rfl rfl)
theorem dX3_takesOrder_21 : decode cX3_takesOrder 21 = .ok (.aload_n 0, 1) := dk_42 (dk_at dksX3_takesOrder_0 21 rfl rfl)
theorem dX3_takesOrder_22 : decode cX3_takesOrder 22 = .ok (.getfield 282, 3) := dk_180 1 26 (dk_at dksX3_takesOrder_1 0 rfl rfl)
theorem dX3_takesOrder_25 : decode cX3_takesOrder 25 = .ok (.bipush 120, 2) := dk_16 120 (dk_at dksX3_takesOrder_1 3 rfl rfl)
theorem dX3_takesOrder_27 : decode cX3_takesOrder 27 = .ok (.if_icmp .ne 7, 3) := dk_160 0 7 (dk_at dksX3_takesOrder_1 5 rfl rfl)
theorem dX3_takesOrder_30 : decode cX3_takesOrder 30 = .ok (.iconst 1, 1) := dk_4 (dk_at dksX3_takesOrder_1 8 rfl rfl)
theorem dX3_takesOrder_31 : decode cX3_takesOrder 31 = .ok (.goto 4, 3) := dk_167 0 4 (dk_at dksX3_takesOrder_1 9 rfl rfl)
theorem dX3_takesOrder_34 : decode cX3_takesOrder 34 = .ok (.iconst 0, 1) := dk_3 (dk_at dksX3_takesOrder_1 12 rfl rfl)
theorem dX3_takesOrder_35 : decode cX3_takesOrder 35 = .ok (.istore_n 1, 1) := dk_60 (dk_at dksX3_takesOrder_1 13 rfl rfl)
theorem dX3_takesOrder_36 : decode cX3_takesOrder 36 = .ok (.aload_n 0, 1) := dk_42 (dk_at dksX3_takesOrder_1 14 rfl rfl)
theorem dX3_takesOrder_37 : decode cX3_takesOrder 37 = .ok (.getfield 282, 3) := dk_180 1 26 (dk_at dksX3_takesOrder_1 15 rfl rfl)
theorem dX3_takesOrder_40 : decode cX3_takesOrder 40 = .ok (.bipush 119, 2) := dk_16 119 (dk_at dksX3_takesOrder_1 18 rfl rfl)
theorem dX3_takesOrder_42 : decode cX3_takesOrder 42 = .ok (.if_icmp .eq 21, 3) := dk_159 0 21 (dk_at dksX3_takesOrder_1 20 rfl rfl)
theorem dX3_takesOrder_45 : decode cX3_takesOrder 45 = .ok (.aload_n 0, 1) := dk_42 (dk_at dksX3_takesOrder_1 23 rfl rfl)
theorem dX3_takesOrder_46 : decode cX3_takesOrder 46 = .ok (.getfield 282, 3) := dk_180 1 26 (dk_at dksX3_takesOrder_2 0 rfl rfl)
theorem dX3_takesOrder_49 : decode cX3_takesOrder 49 = .ok (.bipush 109, 2) := dk_16 109 (dk_at dksX3_takesOrder_2 3 rfl rfl)
theorem dX3_takesOrder_51 : decode cX3_takesOrder 51 = .ok (.if_icmp .eq 12, 3) := dk_159 0 12 (dk_at dksX3_takesOrder_2 5 rfl rfl)
theorem dX3_takesOrder_54 : decode cX3_takesOrder 54 = .ok (.aload_n 0, 1) := dk_42 (dk_at dksX3_takesOrder_2 8 rfl rfl)
theorem dX3_takesOrder_55 : decode cX3_takesOrder 55 = .ok (.getfield 282, 3) := dk_180 1 26 (dk_at dksX3_takesOrder_2 9 rfl rfl)
theorem dX3_takesOrder_58 : decode cX3_takesOrder 58 = .ok (.bipush 116, 2) := dk_16 116 (dk_at dksX3_takesOrder_2 12 rfl rfl)
theorem dX3_takesOrder_60 : decode cX3_takesOrder 60 = .ok (.if_icmp .ne 7, 3) := dk_160 0 7 (dk_at dksX3_takesOrder_2 14 rfl rfl)
theorem dX3_takesOrder_63 : decode cX3_takesOrder 63 = .ok (.iconst 1, 1) := dk_4 (dk_at dksX3_takesOrder_2 17 rfl rfl)
theorem dX3_takesOrder_64 : decode cX3_takesOrder 64 = .ok (.goto 4, 3) := dk_167 0 4 (dk_at dksX3_takesOrder_2 18 rfl rfl)
theorem dX3_takesOrder_67 : decode cX3_takesOrder 67 = .ok (.iconst 0, 1) := dk_3 (dk_at dksX3_takesOrder_2 21 rfl rfl)
theorem dX3_takesOrder_68 : decode cX3_takesOrder 68 = .ok (.istore_n 2, 1) := dk_61 (dk_at dksX3_takesOrder_2 22 rfl rfl)
theorem dX3_takesOrder_69 : decode cX3_takesOrder 69 = .ok (.aload_n 0, 1) := dk_42 (dk_at dksX3_takesOrder_2 23 rfl rfl)
theorem dX3_takesOrder_70 : decode cX3_takesOrder 70 = .ok (.iload_n 1, 1) := dk_27 (dk_at dksX3_takesOrder_3 0 rfl rfl)
theorem dX3_takesOrder_71 : decode cX3_takesOrder 71 = .ok (.ifCond .ne 25, 3) := dk_154 0 25 (dk_at dksX3_takesOrder_3 1 rfl rfl)
theorem dX3_takesOrder_74 : decode cX3_takesOrder 74 = .ok (.iload_n 2, 1) := dk_28 (dk_at dksX3_takesOrder_3 4 rfl rfl)
theorem dX3_takesOrder_75 : decode cX3_takesOrder 75 = .ok (.ifCond .ne 21, 3) := dk_154 0 21 (dk_at dksX3_takesOrder_3 5 rfl rfl)
theorem dX3_takesOrder_78 : decode cX3_takesOrder 78 = .ok (.aload_n 0, 1) := dk_42 (dk_at dksX3_takesOrder_3 8 rfl rfl)
theorem dX3_takesOrder_79 : decode cX3_takesOrder 79 = .ok (.getfield 282, 3) := dk_180 1 26 (dk_at dksX3_takesOrder_3 9 rfl rfl)
theorem dX3_takesOrder_82 : decode cX3_takesOrder 82 = .ok (.bipush 97, 2) := dk_16 97 (dk_at dksX3_takesOrder_3 12 rfl rfl)
theorem dX3_takesOrder_84 : decode cX3_takesOrder 84 = .ok (.if_icmp .eq 12, 3) := dk_159 0 12 (dk_at dksX3_takesOrder_3 14 rfl rfl)
theorem dX3_takesOrder_87 : decode cX3_takesOrder 87 = .ok (.aload_n 0, 1) := dk_42 (dk_at dksX3_takesOrder_3 17 rfl rfl)
theorem dX3_takesOrder_88 : decode cX3_takesOrder 88 = .ok (.getfield 282, 3) := dk_180 1 26 (dk_at dksX3_takesOrder_3 18 rfl rfl)
theorem dX3_takesOrder_91 : decode cX3_takesOrder 91 = .ok (.bipush 100, 2) := dk_16 100 (dk_at dksX3_takesOrder_3 21 rfl rfl)
theorem dX3_takesOrder_93 : decode cX3_takesOrder 93 = .ok (.if_icmp .ne 7, 3) := dk_160 0 7 (dk_at dksX3_takesOrder_4 0 rfl rfl)
theorem dX3_takesOrder_96 : decode cX3_takesOrder 96 = .ok (.iconst 1, 1) := dk_4 (dk_at dksX3_takesOrder_4 3 rfl rfl)
theorem dX3_takesOrder_97 : decode cX3_takesOrder 97 = .ok (.goto 4, 3) := dk_167 0 4 (dk_at dksX3_takesOrder_4 4 rfl rfl)
theorem dX3_takesOrder_100 : decode cX3_takesOrder 100 = .ok (.iconst 0, 1) := dk_3 (dk_at dksX3_takesOrder_4 7 rfl rfl)
theorem dX3_takesOrder_101 : decode cX3_takesOrder 101 = .ok (.invokevirtual 285, 3) := dk_182 1 29 (dk_at dksX3_takesOrder_4 8 rfl rfl)
theorem dX3_takesOrder_104 : decode cX3_takesOrder 104 = .ok (.iload_n 1, 1) := dk_27 (dk_at dksX3_takesOrder_4 11 rfl rfl)
theorem dX3_takesOrder_105 : decode cX3_takesOrder 105 = .ok (.ifCond .ne 11, 3) := dk_154 0 11 (dk_at dksX3_takesOrder_4 12 rfl rfl)
theorem dX3_takesOrder_108 : decode cX3_takesOrder 108 = .ok (.aload_n 0, 1) := dk_42 (dk_at dksX3_takesOrder_4 15 rfl rfl)
theorem dX3_takesOrder_109 : decode cX3_takesOrder 109 = .ok (.aload_n 0, 1) := dk_42 (dk_at dksX3_takesOrder_4 16 rfl rfl)
theorem dX3_takesOrder_110 : decode cX3_takesOrder 110 = .ok (.invokevirtual 289, 3) := dk_182 1 33 (dk_at dksX3_takesOrder_4 17 rfl rfl)
theorem dX3_takesOrder_113 : decode cX3_takesOrder 113 = .ok (.putfield 292, 3) := dk_181 1 36 (dk_at dksX3_takesOrder_4 20 rfl rfl)
theorem dX3_takesOrder_116 : decode cX3_takesOrder 116 = .ok (.iload_n 2, 1) := dk_28 (dk_at dksX3_takesOrder_4 23 rfl rfl)
theorem dX3_takesOrder_117 : decode cX3_takesOrder 117 = .ok (.ifCond .eq 29, 3) := dk_153 0 29 (dk_at dksX3_takesOrder_5 0 rfl rfl)
theorem dX3_takesOrder_120 : decode cX3_takesOrder 120 = .ok (.aload_n 0, 1) := dk_42 (dk_at dksX3_takesOrder_5 3 rfl rfl)
theorem dX3_takesOrder_121 : decode cX3_takesOrder 121 = .ok (.aload_n 0, 1) := dk_42 (dk_at dksX3_takesOrder_5 4 rfl rfl)
theorem dX3_takesOrder_122 : decode cX3_takesOrder 122 = .ok (.invokevirtual 276, 3) := dk_182 1 20 (dk_at dksX3_takesOrder_5 5 rfl rfl)
theorem dX3_takesOrder_125 : decode cX3_takesOrder 125 = .ok (.bipush 44, 2) := dk_16 44 (dk_at dksX3_takesOrder_5 8 rfl rfl)
theorem dX3_takesOrder_127 : decode cX3_takesOrder 127 = .ok (.if_icmp .ne 7, 3) := dk_160 0 7 (dk_at dksX3_takesOrder_5 10 rfl rfl)
theorem dX3_takesOrder_130 : decode cX3_takesOrder 130 = .ok (.iconst 1, 1) := dk_4 (dk_at dksX3_takesOrder_5 13 rfl rfl)
theorem dX3_takesOrder_131 : decode cX3_takesOrder 131 = .ok (.goto 4, 3) := dk_167 0 4 (dk_at dksX3_takesOrder_5 14 rfl rfl)
theorem dX3_takesOrder_134 : decode cX3_takesOrder 134 = .ok (.iconst 0, 1) := dk_3 (dk_at dksX3_takesOrder_5 17 rfl rfl)
theorem dX3_takesOrder_135 : decode cX3_takesOrder 135 = .ok (.invokevirtual 285, 3) := dk_182 1 29 (dk_at dksX3_takesOrder_5 18 rfl rfl)
theorem dX3_takesOrder_138 : decode cX3_takesOrder 138 = .ok (.aload_n 0, 1) := dk_42 (dk_at dksX3_takesOrder_5 21 rfl rfl)
theorem dX3_takesOrder_139 : decode cX3_takesOrder 139 = .ok (.aload_n 0, 1) := dk_42 (dk_at dksX3_takesOrder_5 22 rfl rfl)
theorem dX3_takesOrder_140 : decode cX3_takesOrder 140 = .ok (.invokevirtual 289, 3) := dk_182 1 33 (dk_at dksX3_takesOrder_6 0 rfl rfl)
theorem dX3_takesOrder_143 : decode cX3_takesOrder 143 = .ok (.putfield 295, 3) := dk_181 1 39 (dk_at dksX3_takesOrder_6 3 rfl rfl)
theorem dX3_takesOrder_146 : decode cX3_takesOrder 146 = .ok (.aload_n 0, 1) := dk_42 (dk_at dksX3_takesOrder_6 6 rfl rfl)
theorem dX3_takesOrder_147 : decode cX3_takesOrder 147 = .ok (.aload_n 0, 1) := dk_42 (dk_at dksX3_takesOrder_6 7 rfl rfl)
theorem dX3_takesOrder_148 : decode cX3_takesOrder 148 = .ok (.invokevirtual 276, 3) := dk_182 1 20 (dk_at dksX3_takesOrder_6 8 rfl rfl)
theorem dX3_takesOrder_151 : decode cX3_takesOrder 151 = .ok (.bipush 59, 2) := dk_16 59 (dk_at dksX3_takesOrder_6 11 rfl rfl)
theorem dX3_takesOrder_153 : decode cX3_takesOrder 153 = .ok (.if_icmp .ne 7, 3) := dk_160 0 7 (dk_at dksX3_takesOrder_6 13 rfl rfl)
theorem dX3_takesOrder_156 : decode cX3_takesOrder 156 = .ok (.iconst 1, 1) := dk_4 (dk_at dksX3_takesOrder_6 16 rfl rfl)
theorem dX3_takesOrder_157 : decode cX3_takesOrder 157 = .ok (.goto 4, 3) := dk_167 0 4 (dk_at dksX3_takesOrder_6 17 rfl rfl)
theorem dX3_takesOrder_160 : decode cX3_takesOrder 160 = .ok (.iconst 0, 1) := dk_3 (dk_at dksX3_takesOrder_6 20 rfl rfl)
theorem dX3_takesOrder_161 : decode cX3_takesOrder 161 = .ok (.invokevirtual 285, 3) := dk_182 1 29 (dk_at dksX3_takesOrder_6 21 rfl rfl)
theorem dX3_takesOrder_164 : decode cX3_takesOrder 164 = .ok (.return_, 1) := dk_177 (dk_at dksX3_takesOrder_7 0 rfl rfl)
abbrev cX3_here : ByteArray := prog_10_method_119_code
def yX3_here : MethodName := ⟨RX3, "here", "()I"⟩
def dkwX3_here_1 : List UInt8 := [172]
abbrev dktX3_here_1 : List UInt8 := dkwX3_here_1 ++ []
def dkwX3_here_0 : List UInt8 := [42, 180, 1, 14, 42, 180, 1, 11, 162, 0, 15, 42, 180, 0, 22, 42, 180, 1, 14, 46, 167, 0, 4, 3]
abbrev dktX3_here_0 : List UInt8 := dkwX3_here_0 ++ dktX3_here_1
theorem dksX3_here_0 : cX3_here.data.toList.drop 0 = dktX3_here_0 := by decide +kernel
theorem dksX3_here_1 : cX3_here.data.toList.drop 24 = dktX3_here_1 := dk_seg dksX3_here_0 24 rfl rfl
theorem dX3_here_0 : decode cX3_here 0 = .ok (.aload_n 0, 1) := dk_42 (dk_at dksX3_here_0 0 rfl rfl)
theorem dX3_here_1 : decode cX3_here 1 = .ok (.getfield 270, 3) := dk_180 1 14 (dk_at dksX3_here_0 1 rfl rfl)
theorem dX3_here_4 : decode cX3_here 4 = .ok (.aload_n 0, 1) := dk_42 (dk_at dksX3_here_0 4 rfl rfl)
theorem dX3_here_5 : decode cX3_here 5 = .ok (.getfield 267, 3) := dk_180 1 11 (dk_at dksX3_here_0 5 rfl rfl)
theorem dX3_here_8 : decode cX3_here 8 = .ok (.if_icmp .ge 15, 3) := dk_162 0 15 (dk_at dksX3_here_0 8 rfl rfl)
theorem dX3_here_11 : decode cX3_here 11 = .ok (.aload_n 0, 1) := dk_42 (dk_at dksX3_here_0 11 rfl rfl)
theorem dX3_here_12 : decode cX3_here 12 = .ok (.getfield 22, 3) := dk_180 0 22 (dk_at dksX3_here_0 12 rfl rfl)
theorem dX3_here_15 : decode cX3_here 15 = .ok (.aload_n 0, 1) := dk_42 (dk_at dksX3_here_0 15 rfl rfl)
theorem dX3_here_16 : decode cX3_here 16 = .ok (.getfield 270, 3) := dk_180 1 14 (dk_at dksX3_here_0 16 rfl rfl)
theorem dX3_here_19 : decode cX3_here 19 = .ok (.iaload, 1) := dk_46 (dk_at dksX3_here_0 19 rfl rfl)
theorem dX3_here_20 : decode cX3_here 20 = .ok (.goto 4, 3) := dk_167 0 4 (dk_at dksX3_here_0 20 rfl rfl)
theorem dX3_here_23 : decode cX3_here 23 = .ok (.iconst 0, 1) := dk_3 (dk_at dksX3_here_0 23 rfl rfl)
theorem dX3_here_24 : decode cX3_here 24 = .ok (.ireturn, 1) := dk_172 (dk_at dksX3_here_1 0 rfl rfl)
abbrev cX3_takes : ByteArray := prog_10_method_120_code
def yX3_takes : MethodName := ⟨RX3, "takes", "(Z)V"⟩
def dkwX3_takes_1 : List UInt8 := [180, 1, 14, 42, 180, 1, 17, 153, 0, 7, 4, 167, 0, 4, 3, 96, 181, 1, 14, 177]
abbrev dktX3_takes_1 : List UInt8 := dkwX3_takes_1 ++ []
def dkwX3_takes_0 : List UInt8 := [42, 42, 180, 1, 17, 153, 0, 11, 27, 153, 0, 7, 4, 167, 0, 4, 3, 181, 1, 17, 42, 89]
abbrev dktX3_takes_0 : List UInt8 := dkwX3_takes_0 ++ dktX3_takes_1
theorem dksX3_takes_0 : cX3_takes.data.toList.drop 0 = dktX3_takes_0 := by decide +kernel
theorem dksX3_takes_1 : cX3_takes.data.toList.drop 22 = dktX3_takes_1 := dk_seg dksX3_takes_0 22 rfl rfl
theorem dX3_takes_0 : decode cX3_takes 0 = .ok (.aload_n 0, 1) := dk_42 (dk_at dksX3_takes_0 0 rfl rfl)
theorem dX3_takes_1 : decode cX3_takes 1 = .ok (.aload_n 0, 1) := dk_42 (dk_at dksX3_takes_0 1 rfl rfl)
theorem dX3_takes_2 : decode cX3_takes 2 = .ok (.getfield 273, 3) := dk_180 1 17 (dk_at dksX3_takes_0 2 rfl rfl)
theorem dX3_takes_5 : decode cX3_takes 5 = .ok (.ifCond .eq 11, 3) := dk_153 0 11 (dk_at dksX3_takes_0 5 rfl rfl)
theorem dX3_takes_8 : decode cX3_takes 8 = .ok (.iload_n 1, 1) := dk_27 (dk_at dksX3_takes_0 8 rfl rfl)
theorem dX3_takes_9 : decode cX3_takes 9 = .ok (.ifCond .eq 7, 3) := dk_153 0 7 (dk_at dksX3_takes_0 9 rfl rfl)
theorem dX3_takes_12 : decode cX3_takes 12 = .ok (.iconst 1, 1) := dk_4 (dk_at dksX3_takes_0 12 rfl rfl)
theorem dX3_takes_13 : decode cX3_takes 13 = .ok (.goto 4, 3) := dk_167 0 4 (dk_at dksX3_takes_0 13 rfl rfl)
theorem dX3_takes_16 : decode cX3_takes 16 = .ok (.iconst 0, 1) := dk_3 (dk_at dksX3_takes_0 16 rfl rfl)
theorem dX3_takes_17 : decode cX3_takes 17 = .ok (.putfield 273, 3) := dk_181 1 17 (dk_at dksX3_takes_0 17 rfl rfl)
theorem dX3_takes_20 : decode cX3_takes 20 = .ok (.aload_n 0, 1) := dk_42 (dk_at dksX3_takes_0 20 rfl rfl)
theorem dX3_takes_21 : decode cX3_takes 21 = .ok (.dup, 1) := dk_89 (dk_at dksX3_takes_0 21 rfl rfl)
theorem dX3_takes_22 : decode cX3_takes 22 = .ok (.getfield 270, 3) := dk_180 1 14 (dk_at dksX3_takes_1 0 rfl rfl)
theorem dX3_takes_25 : decode cX3_takes 25 = .ok (.aload_n 0, 1) := dk_42 (dk_at dksX3_takes_1 3 rfl rfl)
theorem dX3_takes_26 : decode cX3_takes 26 = .ok (.getfield 273, 3) := dk_180 1 17 (dk_at dksX3_takes_1 4 rfl rfl)
theorem dX3_takes_29 : decode cX3_takes 29 = .ok (.ifCond .eq 7, 3) := dk_153 0 7 (dk_at dksX3_takes_1 7 rfl rfl)
theorem dX3_takes_32 : decode cX3_takes 32 = .ok (.iconst 1, 1) := dk_4 (dk_at dksX3_takes_1 10 rfl rfl)
theorem dX3_takes_33 : decode cX3_takes 33 = .ok (.goto 4, 3) := dk_167 0 4 (dk_at dksX3_takes_1 11 rfl rfl)
theorem dX3_takes_36 : decode cX3_takes 36 = .ok (.iconst 0, 1) := dk_3 (dk_at dksX3_takes_1 14 rfl rfl)
theorem dX3_takes_37 : decode cX3_takes 37 = .ok (.iadd, 1) := dk_96 (dk_at dksX3_takes_1 15 rfl rfl)
theorem dX3_takes_38 : decode cX3_takes 38 = .ok (.putfield 270, 3) := dk_181 1 14 (dk_at dksX3_takes_1 16 rfl rfl)
theorem dX3_takes_41 : decode cX3_takes 41 = .ok (.return_, 1) := dk_177 (dk_at dksX3_takes_1 19 rfl rfl)
abbrev cX3_takesNumber : ByteArray := prog_10_method_121_code
def yX3_takesNumber : MethodName := ⟨RX3, "takesNumber", "()I"⟩
def dkwX3_takesNumber_3 : List UInt8 := [167, 0, 4, 3, 181, 1, 17, 27, 172]
abbrev dktX3_takesNumber_3 : List UInt8 := dkwX3_takesNumber_3 ++ []
def dkwX3_takesNumber_2 : List UInt8 := [180, 1, 14, 4, 96, 181, 1, 14, 167, 255, 204, 42, 42, 180, 1, 17, 153, 0, 11, 28, 158, 0, 7, 4]
abbrev dktX3_takesNumber_2 : List UInt8 := dkwX3_takesNumber_2 ++ dktX3_takesNumber_3
def dkwX3_takesNumber_1 : List UInt8 := [184, 0, 58, 153, 0, 32, 16, 10, 27, 104, 42, 182, 1, 20, 96, 16, 48, 100, 60, 132, 2, 1, 42, 89]
abbrev dktX3_takesNumber_1 : List UInt8 := dkwX3_takesNumber_1 ++ dktX3_takesNumber_2
def dkwX3_takesNumber_0 : List UInt8 := [3, 60, 3, 61, 42, 180, 1, 17, 153, 0, 51, 28, 7, 162, 0, 46, 42, 182, 1, 20, 16, 48, 16, 57]
abbrev dktX3_takesNumber_0 : List UInt8 := dkwX3_takesNumber_0 ++ dktX3_takesNumber_1
theorem dksX3_takesNumber_0 : cX3_takesNumber.data.toList.drop 0 = dktX3_takesNumber_0 := by decide +kernel
theorem dksX3_takesNumber_1 : cX3_takesNumber.data.toList.drop 24 = dktX3_takesNumber_1 := dk_seg dksX3_takesNumber_0 24 rfl rfl
theorem dksX3_takesNumber_2 : cX3_takesNumber.data.toList.drop 48 = dktX3_takesNumber_2 := dk_seg dksX3_takesNumber_1 24 rfl rfl
theorem dksX3_takesNumber_3 : cX3_takesNumber.data.toList.drop 72 = dktX3_takesNumber_3 := dk_seg dksX3_takesNumber_2 24 rfl rfl
theorem dX3_takesNumber_0 : decode cX3_takesNumber 0 = .ok (.iconst 0, 1) := dk_3 (dk_at dksX3_takesNumber_0 0 rfl rfl)
theorem dX3_takesNumber_1 : decode cX3_takesNumber 1 = .ok (.istore_n 1, 1) := dk_60 (dk_at dksX3_takesNumber_0 1 rfl rfl)
theorem dX3_takesNumber_2 : decode cX3_takesNumber 2 = .ok (.iconst 0, 1) := dk_3 (dk_at dksX3_takesNumber_0 2 rfl rfl)
theorem dX3_takesNumber_3 : decode cX3_takesNumber 3 = .ok (.istore_n 2, 1) := dk_61 (dk_at dksX3_takesNumber_0 3 rfl rfl)
theorem dX3_takesNumber_4 : decode cX3_takesNumber 4 = .ok (.aload_n 0, 1) := dk_42 (dk_at dksX3_takesNumber_0 4 rfl rfl)
theorem dX3_takesNumber_5 : decode cX3_takesNumber 5 = .ok (.getfield 273, 3) := dk_180 1 17 (dk_at dksX3_takesNumber_0 5 rfl rfl)
theorem dX3_takesNumber_8 : decode cX3_takesNumber 8 = .ok (.ifCond .eq 51, 3) := dk_153 0 51 (dk_at dksX3_takesNumber_0 8 rfl rfl)
theorem dX3_takesNumber_11 : decode cX3_takesNumber 11 = .ok (.iload_n 2, 1) := dk_28 (dk_at dksX3_takesNumber_0 11 rfl rfl)
theorem dX3_takesNumber_12 : decode cX3_takesNumber 12 = .ok (.iconst 4, 1) := dk_7 (dk_at dksX3_takesNumber_0 12 rfl rfl)
theorem dX3_takesNumber_13 : decode cX3_takesNumber 13 = .ok (.if_icmp .ge 46, 3) := dk_162 0 46 (dk_at dksX3_takesNumber_0 13 rfl rfl)
theorem dX3_takesNumber_16 : decode cX3_takesNumber 16 = .ok (.aload_n 0, 1) := dk_42 (dk_at dksX3_takesNumber_0 16 rfl rfl)
theorem dX3_takesNumber_17 : decode cX3_takesNumber 17 = .ok (.invokevirtual 276, 3) := dk_182 1 20 (dk_at dksX3_takesNumber_0 17 rfl rfl)
theorem dX3_takesNumber_20 : decode cX3_takesNumber 20 = .ok (.bipush 48, 2) := dk_16 48 (dk_at dksX3_takesNumber_0 20 rfl rfl)
theorem dX3_takesNumber_22 : decode cX3_takesNumber 22 = .ok (.bipush 57, 2) := dk_16 57 (dk_at dksX3_takesNumber_0 22 rfl rfl)
theorem dX3_takesNumber_24 : decode cX3_takesNumber 24 = .ok (.invokestatic 58, 3) := dk_184 0 58 (dk_at dksX3_takesNumber_1 0 rfl rfl)
theorem dX3_takesNumber_27 : decode cX3_takesNumber 27 = .ok (.ifCond .eq 32, 3) := dk_153 0 32 (dk_at dksX3_takesNumber_1 3 rfl rfl)
theorem dX3_takesNumber_30 : decode cX3_takesNumber 30 = .ok (.bipush 10, 2) := dk_16 10 (dk_at dksX3_takesNumber_1 6 rfl rfl)
theorem dX3_takesNumber_32 : decode cX3_takesNumber 32 = .ok (.iload_n 1, 1) := dk_27 (dk_at dksX3_takesNumber_1 8 rfl rfl)
theorem dX3_takesNumber_33 : decode cX3_takesNumber 33 = .ok (.imul, 1) := dk_104 (dk_at dksX3_takesNumber_1 9 rfl rfl)
theorem dX3_takesNumber_34 : decode cX3_takesNumber 34 = .ok (.aload_n 0, 1) := dk_42 (dk_at dksX3_takesNumber_1 10 rfl rfl)
theorem dX3_takesNumber_35 : decode cX3_takesNumber 35 = .ok (.invokevirtual 276, 3) := dk_182 1 20 (dk_at dksX3_takesNumber_1 11 rfl rfl)
theorem dX3_takesNumber_38 : decode cX3_takesNumber 38 = .ok (.iadd, 1) := dk_96 (dk_at dksX3_takesNumber_1 14 rfl rfl)
theorem dX3_takesNumber_39 : decode cX3_takesNumber 39 = .ok (.bipush 48, 2) := dk_16 48 (dk_at dksX3_takesNumber_1 15 rfl rfl)
theorem dX3_takesNumber_41 : decode cX3_takesNumber 41 = .ok (.isub, 1) := dk_100 (dk_at dksX3_takesNumber_1 17 rfl rfl)
theorem dX3_takesNumber_42 : decode cX3_takesNumber 42 = .ok (.istore_n 1, 1) := dk_60 (dk_at dksX3_takesNumber_1 18 rfl rfl)
theorem dX3_takesNumber_43 : decode cX3_takesNumber 43 = .ok (.iinc 2 1, 3) := dk_132 2 1 (dk_at dksX3_takesNumber_1 19 rfl rfl)
theorem dX3_takesNumber_46 : decode cX3_takesNumber 46 = .ok (.aload_n 0, 1) := dk_42 (dk_at dksX3_takesNumber_1 22 rfl rfl)
theorem dX3_takesNumber_47 : decode cX3_takesNumber 47 = .ok (.dup, 1) := dk_89 (dk_at dksX3_takesNumber_1 23 rfl rfl)
theorem dX3_takesNumber_48 : decode cX3_takesNumber 48 = .ok (.getfield 270, 3) := dk_180 1 14 (dk_at dksX3_takesNumber_2 0 rfl rfl)
theorem dX3_takesNumber_51 : decode cX3_takesNumber 51 = .ok (.iconst 1, 1) := dk_4 (dk_at dksX3_takesNumber_2 3 rfl rfl)
theorem dX3_takesNumber_52 : decode cX3_takesNumber 52 = .ok (.iadd, 1) := dk_96 (dk_at dksX3_takesNumber_2 4 rfl rfl)
theorem dX3_takesNumber_53 : decode cX3_takesNumber 53 = .ok (.putfield 270, 3) := dk_181 1 14 (dk_at dksX3_takesNumber_2 5 rfl rfl)
theorem dX3_takesNumber_56 : decode cX3_takesNumber 56 = .ok (.goto (-52), 3) := dk_167 255 204 (dk_at dksX3_takesNumber_2 8 rfl rfl)
theorem dX3_takesNumber_59 : decode cX3_takesNumber 59 = .ok (.aload_n 0, 1) := dk_42 (dk_at dksX3_takesNumber_2 11 rfl rfl)
theorem dX3_takesNumber_60 : decode cX3_takesNumber 60 = .ok (.aload_n 0, 1) := dk_42 (dk_at dksX3_takesNumber_2 12 rfl rfl)
theorem dX3_takesNumber_61 : decode cX3_takesNumber 61 = .ok (.getfield 273, 3) := dk_180 1 17 (dk_at dksX3_takesNumber_2 13 rfl rfl)
theorem dX3_takesNumber_64 : decode cX3_takesNumber 64 = .ok (.ifCond .eq 11, 3) := dk_153 0 11 (dk_at dksX3_takesNumber_2 16 rfl rfl)
theorem dX3_takesNumber_67 : decode cX3_takesNumber 67 = .ok (.iload_n 2, 1) := dk_28 (dk_at dksX3_takesNumber_2 19 rfl rfl)
theorem dX3_takesNumber_68 : decode cX3_takesNumber 68 = .ok (.ifCond .le 7, 3) := dk_158 0 7 (dk_at dksX3_takesNumber_2 20 rfl rfl)
theorem dX3_takesNumber_71 : decode cX3_takesNumber 71 = .ok (.iconst 1, 1) := dk_4 (dk_at dksX3_takesNumber_2 23 rfl rfl)
theorem dX3_takesNumber_72 : decode cX3_takesNumber 72 = .ok (.goto 4, 3) := dk_167 0 4 (dk_at dksX3_takesNumber_3 0 rfl rfl)
theorem dX3_takesNumber_75 : decode cX3_takesNumber 75 = .ok (.iconst 0, 1) := dk_3 (dk_at dksX3_takesNumber_3 3 rfl rfl)
theorem dX3_takesNumber_76 : decode cX3_takesNumber 76 = .ok (.putfield 273, 3) := dk_181 1 17 (dk_at dksX3_takesNumber_3 4 rfl rfl)
theorem dX3_takesNumber_79 : decode cX3_takesNumber 79 = .ok (.iload_n 1, 1) := dk_27 (dk_at dksX3_takesNumber_3 7 rfl rfl)
theorem dX3_takesNumber_80 : decode cX3_takesNumber 80 = .ok (.ireturn, 1) := dk_172 (dk_at dksX3_takesNumber_3 8 rfl rfl)
abbrev cX3_doesOrder : ByteArray := prog_10_method_123_code
def yX3_doesOrder : MethodName := ⟨RX3, "doesOrder", "()I"⟩
def dkwX3_doesOrder_4 : List UInt8 := [182, 0, 144, 172, 42, 42, 180, 1, 36, 42, 180, 1, 39, 182, 0, 131, 172]
abbrev dktX3_doesOrder_4 : List UInt8 := dkwX3_doesOrder_4 ++ []
def dkwX3_doesOrder_3 : List UInt8 := [180, 1, 39, 182, 0, 125, 172, 42, 42, 180, 1, 36, 3, 182, 0, 134, 172, 42, 42, 180, 1, 36]
abbrev dktX3_doesOrder_3 : List UInt8 := dkwX3_doesOrder_3 ++ dktX3_doesOrder_4
def dkwX3_doesOrder_2 : List UInt8 := [42, 182, 0, 116, 172, 42, 42, 180, 1, 36, 42, 180, 1, 39, 182, 0, 122, 172, 42, 42, 180, 1, 36, 42]
abbrev dktX3_doesOrder_2 : List UInt8 := dkwX3_doesOrder_2 ++ dktX3_doesOrder_3
def dkwX3_doesOrder_1 : List UInt8 := [171, 0, 0, 0, 0, 0, 0, 102, 0, 0, 0, 5, 0, 0, 0, 97, 0, 0, 0, 83, 0, 0, 0, 100, 0, 0, 0, 93, 0, 0, 0, 109, 0, 0, 0, 70, 0, 0, 0, 119, 0, 0, 0, 57, 0, 0, 0, 120, 0, 0, 0, 52]
abbrev dktX3_doesOrder_1 : List UInt8 := dkwX3_doesOrder_1 ++ dktX3_doesOrder_2
def dkwX3_doesOrder_0 : List UInt8 := [42, 180, 1, 26]
abbrev dktX3_doesOrder_0 : List UInt8 := dkwX3_doesOrder_0 ++ dktX3_doesOrder_1
theorem dksX3_doesOrder_0 : cX3_doesOrder.data.toList.drop 0 = dktX3_doesOrder_0 := by decide +kernel
theorem dksX3_doesOrder_1 : cX3_doesOrder.data.toList.drop 4 = dktX3_doesOrder_1 := dk_seg dksX3_doesOrder_0 4 rfl rfl
theorem dksX3_doesOrder_2 : cX3_doesOrder.data.toList.drop 56 = dktX3_doesOrder_2 := dk_seg dksX3_doesOrder_1 52 rfl rfl
theorem dksX3_doesOrder_3 : cX3_doesOrder.data.toList.drop 80 = dktX3_doesOrder_3 := dk_seg dksX3_doesOrder_2 24 rfl rfl
theorem dksX3_doesOrder_4 : cX3_doesOrder.data.toList.drop 102 = dktX3_doesOrder_4 := dk_seg dksX3_doesOrder_3 22 rfl rfl
theorem dX3_doesOrder_0 : decode cX3_doesOrder 0 = .ok (.aload_n 0, 1) := dk_42 (dk_at dksX3_doesOrder_0 0 rfl rfl)
theorem dX3_doesOrder_1 : decode cX3_doesOrder 1 = .ok (.getfield 282, 3) := dk_180 1 26 (dk_at dksX3_doesOrder_0 1 rfl rfl)
theorem dX3_doesOrder_4 : decode cX3_doesOrder 4 = .ok (.lookupswitch 102 #[(97, 83), (100, 93), (109, 70), (119, 57), (120, 52)], 52) := by decide +kernel
theorem dX3_doesOrder_56 : decode cX3_doesOrder 56 = .ok (.aload_n 0, 1) := dk_42 (dk_at dksX3_doesOrder_2 0 rfl rfl)
theorem dX3_doesOrder_57 : decode cX3_doesOrder 57 = .ok (.invokevirtual 116, 3) := dk_182 0 116 (dk_at dksX3_doesOrder_2 1 rfl rfl)
theorem dX3_doesOrder_60 : decode cX3_doesOrder 60 = .ok (.ireturn, 1) := dk_172 (dk_at dksX3_doesOrder_2 4 rfl rfl)
theorem dX3_doesOrder_61 : decode cX3_doesOrder 61 = .ok (.aload_n 0, 1) := dk_42 (dk_at dksX3_doesOrder_2 5 rfl rfl)
theorem dX3_doesOrder_62 : decode cX3_doesOrder 62 = .ok (.aload_n 0, 1) := dk_42 (dk_at dksX3_doesOrder_2 6 rfl rfl)
theorem dX3_doesOrder_63 : decode cX3_doesOrder 63 = .ok (.getfield 292, 3) := dk_180 1 36 (dk_at dksX3_doesOrder_2 7 rfl rfl)
theorem dX3_doesOrder_66 : decode cX3_doesOrder 66 = .ok (.aload_n 0, 1) := dk_42 (dk_at dksX3_doesOrder_2 10 rfl rfl)
theorem dX3_doesOrder_67 : decode cX3_doesOrder 67 = .ok (.getfield 295, 3) := dk_180 1 39 (dk_at dksX3_doesOrder_2 11 rfl rfl)
theorem dX3_doesOrder_70 : decode cX3_doesOrder 70 = .ok (.invokevirtual 122, 3) := dk_182 0 122 (dk_at dksX3_doesOrder_2 14 rfl rfl)
theorem dX3_doesOrder_73 : decode cX3_doesOrder 73 = .ok (.ireturn, 1) := dk_172 (dk_at dksX3_doesOrder_2 17 rfl rfl)
theorem dX3_doesOrder_74 : decode cX3_doesOrder 74 = .ok (.aload_n 0, 1) := dk_42 (dk_at dksX3_doesOrder_2 18 rfl rfl)
theorem dX3_doesOrder_75 : decode cX3_doesOrder 75 = .ok (.aload_n 0, 1) := dk_42 (dk_at dksX3_doesOrder_2 19 rfl rfl)
theorem dX3_doesOrder_76 : decode cX3_doesOrder 76 = .ok (.getfield 292, 3) := dk_180 1 36 (dk_at dksX3_doesOrder_2 20 rfl rfl)
theorem dX3_doesOrder_79 : decode cX3_doesOrder 79 = .ok (.aload_n 0, 1) := dk_42 (dk_at dksX3_doesOrder_2 23 rfl rfl)
theorem dX3_doesOrder_80 : decode cX3_doesOrder 80 = .ok (.getfield 295, 3) := dk_180 1 39 (dk_at dksX3_doesOrder_3 0 rfl rfl)
theorem dX3_doesOrder_83 : decode cX3_doesOrder 83 = .ok (.invokevirtual 125, 3) := dk_182 0 125 (dk_at dksX3_doesOrder_3 3 rfl rfl)
theorem dX3_doesOrder_86 : decode cX3_doesOrder 86 = .ok (.ireturn, 1) := dk_172 (dk_at dksX3_doesOrder_3 6 rfl rfl)
theorem dX3_doesOrder_87 : decode cX3_doesOrder 87 = .ok (.aload_n 0, 1) := dk_42 (dk_at dksX3_doesOrder_3 7 rfl rfl)
theorem dX3_doesOrder_88 : decode cX3_doesOrder 88 = .ok (.aload_n 0, 1) := dk_42 (dk_at dksX3_doesOrder_3 8 rfl rfl)
theorem dX3_doesOrder_89 : decode cX3_doesOrder 89 = .ok (.getfield 292, 3) := dk_180 1 36 (dk_at dksX3_doesOrder_3 9 rfl rfl)
theorem dX3_doesOrder_92 : decode cX3_doesOrder 92 = .ok (.iconst 0, 1) := dk_3 (dk_at dksX3_doesOrder_3 12 rfl rfl)
theorem dX3_doesOrder_93 : decode cX3_doesOrder 93 = .ok (.invokevirtual 134, 3) := dk_182 0 134 (dk_at dksX3_doesOrder_3 13 rfl rfl)
theorem dX3_doesOrder_96 : decode cX3_doesOrder 96 = .ok (.ireturn, 1) := dk_172 (dk_at dksX3_doesOrder_3 16 rfl rfl)
theorem dX3_doesOrder_97 : decode cX3_doesOrder 97 = .ok (.aload_n 0, 1) := dk_42 (dk_at dksX3_doesOrder_3 17 rfl rfl)
theorem dX3_doesOrder_98 : decode cX3_doesOrder 98 = .ok (.aload_n 0, 1) := dk_42 (dk_at dksX3_doesOrder_3 18 rfl rfl)
theorem dX3_doesOrder_99 : decode cX3_doesOrder 99 = .ok (.getfield 292, 3) := dk_180 1 36 (dk_at dksX3_doesOrder_3 19 rfl rfl)
theorem dX3_doesOrder_102 : decode cX3_doesOrder 102 = .ok (.invokevirtual 144, 3) := dk_182 0 144 (dk_at dksX3_doesOrder_4 0 rfl rfl)
theorem dX3_doesOrder_105 : decode cX3_doesOrder 105 = .ok (.ireturn, 1) := dk_172 (dk_at dksX3_doesOrder_4 3 rfl rfl)
theorem dX3_doesOrder_106 : decode cX3_doesOrder 106 = .ok (.aload_n 0, 1) := dk_42 (dk_at dksX3_doesOrder_4 4 rfl rfl)
theorem dX3_doesOrder_107 : decode cX3_doesOrder 107 = .ok (.aload_n 0, 1) := dk_42 (dk_at dksX3_doesOrder_4 5 rfl rfl)
theorem dX3_doesOrder_108 : decode cX3_doesOrder 108 = .ok (.getfield 292, 3) := dk_180 1 36 (dk_at dksX3_doesOrder_4 6 rfl rfl)
theorem dX3_doesOrder_111 : decode cX3_doesOrder 111 = .ok (.aload_n 0, 1) := dk_42 (dk_at dksX3_doesOrder_4 9 rfl rfl)
theorem dX3_doesOrder_112 : decode cX3_doesOrder 112 = .ok (.getfield 295, 3) := dk_180 1 39 (dk_at dksX3_doesOrder_4 10 rfl rfl)
theorem dX3_doesOrder_115 : decode cX3_doesOrder 115 = .ok (.invokevirtual 131, 3) := dk_182 0 131 (dk_at dksX3_doesOrder_4 13 rfl rfl)
theorem dX3_doesOrder_118 : decode cX3_doesOrder 118 = .ok (.ireturn, 1) := dk_172 (dk_at dksX3_doesOrder_4 16 rfl rfl)
abbrev cX3_faultReason : ByteArray := prog_10_method_127_code
def yX3_faultReason : MethodName := ⟨RX3, "faultReason", "()I"⟩
def dkwX3_faultReason_0 : List UInt8 := [42, 4, 182, 1, 56, 172]
abbrev dktX3_faultReason_0 : List UInt8 := dkwX3_faultReason_0 ++ []
theorem dksX3_faultReason_0 : cX3_faultReason.data.toList.drop 0 = dktX3_faultReason_0 := by decide +kernel
theorem dX3_faultReason_0 : decode cX3_faultReason 0 = .ok (.aload_n 0, 1) := dk_42 (dk_at dksX3_faultReason_0 0 rfl rfl)
theorem dX3_faultReason_1 : decode cX3_faultReason 1 = .ok (.iconst 1, 1) := dk_4 (dk_at dksX3_faultReason_0 1 rfl rfl)
theorem dX3_faultReason_2 : decode cX3_faultReason 2 = .ok (.invokevirtual 312, 3) := dk_182 1 56 (dk_at dksX3_faultReason_0 2 rfl rfl)
theorem dX3_faultReason_5 : decode cX3_faultReason 5 = .ok (.ireturn, 1) := dk_172 (dk_at dksX3_faultReason_0 5 rfl rfl)
abbrev cX3_faultCause : ByteArray := prog_10_method_128_code
def yX3_faultCause : MethodName := ⟨RX3, "faultCause", "()I"⟩
def dkwX3_faultCause_0 : List UInt8 := [42, 5, 182, 1, 56, 172]
abbrev dktX3_faultCause_0 : List UInt8 := dkwX3_faultCause_0 ++ []
theorem dksX3_faultCause_0 : cX3_faultCause.data.toList.drop 0 = dktX3_faultCause_0 := by decide +kernel
theorem dX3_faultCause_0 : decode cX3_faultCause 0 = .ok (.aload_n 0, 1) := dk_42 (dk_at dksX3_faultCause_0 0 rfl rfl)
theorem dX3_faultCause_1 : decode cX3_faultCause 1 = .ok (.iconst 2, 1) := dk_5 (dk_at dksX3_faultCause_0 1 rfl rfl)
theorem dX3_faultCause_2 : decode cX3_faultCause 2 = .ok (.invokevirtual 312, 3) := dk_182 1 56 (dk_at dksX3_faultCause_0 2 rfl rfl)
theorem dX3_faultCause_5 : decode cX3_faultCause 5 = .ok (.ireturn, 1) := dk_172 (dk_at dksX3_faultCause_0 5 rfl rfl)
abbrev cX3_play : ByteArray := prog_10_method_129_code
def yX3_play : MethodName := ⟨RX3, "play", "()I"⟩
def dkwX3_play_1 : List UInt8 := [180, 0, 7, 3, 184, 0, 42, 42, 4, 182, 0, 51, 172, 42, 182, 0, 55, 27, 172]
abbrev dktX3_play_1 : List UInt8 := dkwX3_play_1 ++ []
def dkwX3_play_0 : List UInt8 := [42, 182, 0, 113, 42, 182, 1, 53, 60, 42, 180, 1, 42, 158, 0, 22, 42, 180, 0, 13, 3, 42]
abbrev dktX3_play_0 : List UInt8 := dkwX3_play_0 ++ dktX3_play_1
theorem dksX3_play_0 : cX3_play.data.toList.drop 0 = dktX3_play_0 := by decide +kernel
theorem dksX3_play_1 : cX3_play.data.toList.drop 22 = dktX3_play_1 := dk_seg dksX3_play_0 22 rfl rfl
theorem dX3_play_0 : decode cX3_play 0 = .ok (.aload_n 0, 1) := dk_42 (dk_at dksX3_play_0 0 rfl rfl)
theorem dX3_play_1 : decode cX3_play 1 = .ok (.invokevirtual 113, 3) := dk_182 0 113 (dk_at dksX3_play_0 1 rfl rfl)
theorem dX3_play_4 : decode cX3_play 4 = .ok (.aload_n 0, 1) := dk_42 (dk_at dksX3_play_0 4 rfl rfl)
theorem dX3_play_5 : decode cX3_play 5 = .ok (.invokevirtual 309, 3) := dk_182 1 53 (dk_at dksX3_play_0 5 rfl rfl)
theorem dX3_play_8 : decode cX3_play 8 = .ok (.istore_n 1, 1) := dk_60 (dk_at dksX3_play_0 8 rfl rfl)
theorem dX3_play_9 : decode cX3_play 9 = .ok (.aload_n 0, 1) := dk_42 (dk_at dksX3_play_0 9 rfl rfl)
theorem dX3_play_10 : decode cX3_play 10 = .ok (.getfield 298, 3) := dk_180 1 42 (dk_at dksX3_play_0 10 rfl rfl)
theorem dX3_play_13 : decode cX3_play 13 = .ok (.ifCond .le 22, 3) := dk_158 0 22 (dk_at dksX3_play_0 13 rfl rfl)
theorem dX3_play_16 : decode cX3_play 16 = .ok (.aload_n 0, 1) := dk_42 (dk_at dksX3_play_0 16 rfl rfl)
theorem dX3_play_17 : decode cX3_play 17 = .ok (.getfield 13, 3) := dk_180 0 13 (dk_at dksX3_play_0 17 rfl rfl)
theorem dX3_play_20 : decode cX3_play 20 = .ok (.iconst 0, 1) := dk_3 (dk_at dksX3_play_0 20 rfl rfl)
theorem dX3_play_21 : decode cX3_play 21 = .ok (.aload_n 0, 1) := dk_42 (dk_at dksX3_play_0 21 rfl rfl)
theorem dX3_play_22 : decode cX3_play 22 = .ok (.getfield 7, 3) := dk_180 0 7 (dk_at dksX3_play_1 0 rfl rfl)
theorem dX3_play_25 : decode cX3_play 25 = .ok (.iconst 0, 1) := dk_3 (dk_at dksX3_play_1 3 rfl rfl)
theorem dX3_play_26 : decode cX3_play 26 = .ok (.invokestatic 42, 3) := dk_184 0 42 (dk_at dksX3_play_1 4 rfl rfl)
theorem dX3_play_29 : decode cX3_play 29 = .ok (.aload_n 0, 1) := dk_42 (dk_at dksX3_play_1 7 rfl rfl)
theorem dX3_play_30 : decode cX3_play 30 = .ok (.iconst 1, 1) := dk_4 (dk_at dksX3_play_1 8 rfl rfl)
theorem dX3_play_31 : decode cX3_play 31 = .ok (.invokevirtual 51, 3) := dk_182 0 51 (dk_at dksX3_play_1 9 rfl rfl)
theorem dX3_play_34 : decode cX3_play 34 = .ok (.ireturn, 1) := dk_172 (dk_at dksX3_play_1 12 rfl rfl)
theorem dX3_play_35 : decode cX3_play 35 = .ok (.aload_n 0, 1) := dk_42 (dk_at dksX3_play_1 13 rfl rfl)
theorem dX3_play_36 : decode cX3_play 36 = .ok (.invokevirtual 55, 3) := dk_182 0 55 (dk_at dksX3_play_1 14 rfl rfl)
theorem dX3_play_39 : decode cX3_play 39 = .ok (.iload_n 1, 1) := dk_27 (dk_at dksX3_play_1 17 rfl rfl)
theorem dX3_play_40 : decode cX3_play 40 = .ok (.ireturn, 1) := dk_172 (dk_at dksX3_play_1 18 rfl rfl)
theorem q85 : (Jvm.Cond.initialized "ClockworkOrreriesModel") ∈ lw_all := lw_g (lw_at lw_m1 11 rfl) rfl
theorem q791 : (Jvm.Cond.selects "ClockworkOrreriesModel" ({ cls := "java/lang/Object", name := "getClass", desc := "()Ljava/lang/Class;" } : Jvm.MethodName) ({ cls := "java/lang/Object", name := "getClass", desc := "()Ljava/lang/Class;" } : Jvm.MethodName)) ∈ lw_all := lw_g (lw_at lw_m3 237 rfl) rfl
theorem q1723 : (Jvm.Cond.instantiable "ClockworkOrreriesModel" (28 : Nat)) ∈ lw_all := lw_g (lw_at lw_m7 209 rfl) rfl
theorem q1725 : (Jvm.Cond.instanceMethod ({ cls := "ClockworkOrreriesModel", name := "<init>", desc := "()V" } : Jvm.MethodName)) ∈ lw_all := lw_g (lw_at lw_m7 211 rfl) rfl
theorem q1726 : (Jvm.Cond.code ({ cls := "ClockworkOrreriesModel", name := "<init>", desc := "()V" } : Jvm.MethodName) prog_10_method_1_code (1 : Nat) (Option.none : Option Jvm.ClassFile.FieldType)) ∈ lw_all := lw_g (lw_at lw_m7 212 rfl) rfl
theorem q1727 : (Jvm.Cond.methodLink "ClockworkOrreriesModel" (1 : Nat) ({ cls := "java/lang/Object", name := "<init>", desc := "()V" } : Jvm.MethodName)) ∈ lw_all := lw_g (lw_at lw_m7 213 rfl) rfl
theorem q1728 : (Jvm.Cond.fieldLink "ClockworkOrreriesModel" (7 : Nat) "ClockworkOrreriesModel" "s" "[I") ∈ lw_all := lw_g (lw_at lw_m7 214 rfl) rfl
theorem q1729 : (Jvm.Cond.fieldLink "ClockworkOrreriesModel" (13 : Nat) "ClockworkOrreriesModel" "before" "[I") ∈ lw_all := lw_g (lw_at lw_m7 215 rfl) rfl
theorem q1730 : (Jvm.Cond.fieldLink "ClockworkOrreriesModel" (16 : Nat) "ClockworkOrreriesModel" "kept" "[I") ∈ lw_all := lw_g (lw_at lw_m7 216 rfl) rfl
theorem q1731 : (Jvm.Cond.fieldLink "ClockworkOrreriesModel" (147 : Nat) "ClockworkOrreriesModel" "isKept" "Z") ∈ lw_all := lw_g (lw_at lw_m7 217 rfl) rfl
theorem q1732 : (Jvm.Cond.fieldLink "ClockworkOrreriesModel" (19 : Nat) "ClockworkOrreriesModel" "past" "[I") ∈ lw_all := lw_g (lw_at lw_m7 218 rfl) rfl
theorem q1733 : (Jvm.Cond.fieldLink "ClockworkOrreriesModel" (46 : Nat) "ClockworkOrreriesModel" "known" "I") ∈ lw_all := lw_g (lw_at lw_m7 219 rfl) rfl
theorem q1734 : (Jvm.Cond.fieldLink "ClockworkOrreriesModel" (22 : Nat) "ClockworkOrreriesModel" "text" "[I") ∈ lw_all := lw_g (lw_at lw_m7 220 rfl) rfl
theorem q1735 : (Jvm.Cond.fieldLink "ClockworkOrreriesModel" (267 : Nat) "ClockworkOrreriesModel" "length" "I") ∈ lw_all := lw_g (lw_at lw_m7 221 rfl) rfl
theorem q1736 : (Jvm.Cond.fieldLink "ClockworkOrreriesModel" (38 : Nat) "ClockworkOrreriesModel" "thrown" "I") ∈ lw_all := lw_g (lw_at lw_m7 222 rfl) rfl
theorem q1737 : (Jvm.Cond.fieldLink "ClockworkOrreriesModel" (25 : Nat) "ClockworkOrreriesModel" "way" "[I") ∈ lw_all := lw_g (lw_at lw_m7 223 rfl) rfl
theorem q1738 : (Jvm.Cond.fieldLink "ClockworkOrreriesModel" (28 : Nat) "ClockworkOrreriesModel" "above" "[J") ∈ lw_all := lw_g (lw_at lw_m7 224 rfl) rfl
theorem q1739 : (Jvm.Cond.fieldLink "ClockworkOrreriesModel" (32 : Nat) "ClockworkOrreriesModel" "below" "[J") ∈ lw_all := lw_g (lw_at lw_m7 225 rfl) rfl
theorem q1740 : (Jvm.Cond.fieldLink "ClockworkOrreriesModel" (35 : Nat) "ClockworkOrreriesModel" "row" "[I") ∈ lw_all := lw_g (lw_at lw_m7 226 rfl) rfl
theorem q1741 : (Jvm.Cond.fieldLink "ClockworkOrreriesModel" (62 : Nat) "ClockworkOrreriesModel" "rowLength" "I") ∈ lw_all := lw_g (lw_at lw_m7 227 rfl) rfl
theorem q1742 : (Jvm.Cond.fieldLink "ClockworkOrreriesModel" (212 : Nat) "ClockworkOrreriesModel" "differA" "J") ∈ lw_all := lw_g (lw_at lw_m7 228 rfl) rfl
theorem q1743 : (Jvm.Cond.fieldLink "ClockworkOrreriesModel" (216 : Nat) "ClockworkOrreriesModel" "differB" "J") ∈ lw_all := lw_g (lw_at lw_m7 229 rfl) rfl
theorem q1744 : (Jvm.Cond.fieldLink "ClockworkOrreriesModel" (228 : Nat) "ClockworkOrreriesModel" "year" "I") ∈ lw_all := lw_g (lw_at lw_m7 230 rfl) rfl
theorem q1745 : (Jvm.Cond.fieldLink "ClockworkOrreriesModel" (234 : Nat) "ClockworkOrreriesModel" "month" "I") ∈ lw_all := lw_g (lw_at lw_m7 231 rfl) rfl
theorem q1746 : (Jvm.Cond.fieldLink "ClockworkOrreriesModel" (240 : Nat) "ClockworkOrreriesModel" "dayInMonth" "I") ∈ lw_all := lw_g (lw_at lw_m7 232 rfl) rfl
theorem q1747 : (Jvm.Cond.fieldLink "ClockworkOrreriesModel" (231 : Nat) "ClockworkOrreriesModel" "dayInYear" "I") ∈ lw_all := lw_g (lw_at lw_m7 233 rfl) rfl
theorem q1748 : (Jvm.Cond.fieldLink "ClockworkOrreriesModel" (270 : Nat) "ClockworkOrreriesModel" "spot" "I") ∈ lw_all := lw_g (lw_at lw_m7 234 rfl) rfl
theorem q1749 : (Jvm.Cond.fieldLink "ClockworkOrreriesModel" (279 : Nat) "ClockworkOrreriesModel" "begin" "I") ∈ lw_all := lw_g (lw_at lw_m7 235 rfl) rfl
theorem q1750 : (Jvm.Cond.fieldLink "ClockworkOrreriesModel" (273 : Nat) "ClockworkOrreriesModel" "isForm" "Z") ∈ lw_all := lw_g (lw_at lw_m7 236 rfl) rfl
theorem q1751 : (Jvm.Cond.fieldLink "ClockworkOrreriesModel" (282 : Nat) "ClockworkOrreriesModel" "letter" "I") ∈ lw_all := lw_g (lw_at lw_m7 237 rfl) rfl
theorem q1752 : (Jvm.Cond.fieldLink "ClockworkOrreriesModel" (292 : Nat) "ClockworkOrreriesModel" "first" "I") ∈ lw_all := lw_g (lw_at lw_m7 238 rfl) rfl
theorem q1753 : (Jvm.Cond.fieldLink "ClockworkOrreriesModel" (295 : Nat) "ClockworkOrreriesModel" "second" "I") ∈ lw_all := lw_g (lw_at lw_m7 239 rfl) rfl
theorem q1754 : (Jvm.Cond.fieldLink "ClockworkOrreriesModel" (298 : Nat) "ClockworkOrreriesModel" "reason" "I") ∈ lw_all := lw_g (lw_at lw_m8 0 rfl) rfl
theorem q1755 : (Jvm.Cond.fieldLink "ClockworkOrreriesModel" (306 : Nat) "ClockworkOrreriesModel" "cause" "I") ∈ lw_all := lw_g (lw_at lw_m8 1 rfl) rfl
theorem q1756 : (Jvm.Cond.laysFinal "ClockworkOrreriesModel" "ClockworkOrreriesModel" "s" "[I") ∈ lw_all := lw_g (lw_at lw_m8 2 rfl) rfl
theorem q1757 : (Jvm.Cond.soleField "ClockworkOrreriesModel" "s") ∈ lw_all := lw_g (lw_at lw_m8 3 rfl) rfl
theorem q1758 : (Jvm.Cond.laysFinal "ClockworkOrreriesModel" "ClockworkOrreriesModel" "before" "[I") ∈ lw_all := lw_g (lw_at lw_m8 4 rfl) rfl
theorem q1759 : (Jvm.Cond.soleField "ClockworkOrreriesModel" "before") ∈ lw_all := lw_g (lw_at lw_m8 5 rfl) rfl
theorem q1760 : (Jvm.Cond.laysFinal "ClockworkOrreriesModel" "ClockworkOrreriesModel" "kept" "[I") ∈ lw_all := lw_g (lw_at lw_m8 6 rfl) rfl
theorem q1761 : (Jvm.Cond.soleField "ClockworkOrreriesModel" "kept") ∈ lw_all := lw_g (lw_at lw_m8 7 rfl) rfl
theorem q1762 : (Jvm.Cond.lays "ClockworkOrreriesModel" "ClockworkOrreriesModel" "isKept" "Z") ∈ lw_all := lw_g (lw_at lw_m8 8 rfl) rfl
theorem q1763 : (Jvm.Cond.soleField "ClockworkOrreriesModel" "isKept") ∈ lw_all := lw_g (lw_at lw_m8 9 rfl) rfl
theorem q1764 : (Jvm.Cond.laysFinal "ClockworkOrreriesModel" "ClockworkOrreriesModel" "past" "[I") ∈ lw_all := lw_g (lw_at lw_m8 10 rfl) rfl
theorem q1765 : (Jvm.Cond.soleField "ClockworkOrreriesModel" "past") ∈ lw_all := lw_g (lw_at lw_m8 11 rfl) rfl
theorem q1766 : (Jvm.Cond.lays "ClockworkOrreriesModel" "ClockworkOrreriesModel" "known" "I") ∈ lw_all := lw_g (lw_at lw_m8 12 rfl) rfl
theorem q1767 : (Jvm.Cond.soleField "ClockworkOrreriesModel" "known") ∈ lw_all := lw_g (lw_at lw_m8 13 rfl) rfl
theorem q1768 : (Jvm.Cond.laysFinal "ClockworkOrreriesModel" "ClockworkOrreriesModel" "text" "[I") ∈ lw_all := lw_g (lw_at lw_m8 14 rfl) rfl
theorem q1769 : (Jvm.Cond.soleField "ClockworkOrreriesModel" "text") ∈ lw_all := lw_g (lw_at lw_m8 15 rfl) rfl
theorem q1770 : (Jvm.Cond.lays "ClockworkOrreriesModel" "ClockworkOrreriesModel" "length" "I") ∈ lw_all := lw_g (lw_at lw_m8 16 rfl) rfl
theorem q1771 : (Jvm.Cond.soleField "ClockworkOrreriesModel" "length") ∈ lw_all := lw_g (lw_at lw_m8 17 rfl) rfl
theorem q1772 : (Jvm.Cond.lays "ClockworkOrreriesModel" "ClockworkOrreriesModel" "thrown" "I") ∈ lw_all := lw_g (lw_at lw_m8 18 rfl) rfl
theorem q1773 : (Jvm.Cond.soleField "ClockworkOrreriesModel" "thrown") ∈ lw_all := lw_g (lw_at lw_m8 19 rfl) rfl
theorem q1774 : (Jvm.Cond.laysFinal "ClockworkOrreriesModel" "ClockworkOrreriesModel" "way" "[I") ∈ lw_all := lw_g (lw_at lw_m8 20 rfl) rfl
theorem q1775 : (Jvm.Cond.soleField "ClockworkOrreriesModel" "way") ∈ lw_all := lw_g (lw_at lw_m8 21 rfl) rfl
theorem q1776 : (Jvm.Cond.laysFinal "ClockworkOrreriesModel" "ClockworkOrreriesModel" "above" "[J") ∈ lw_all := lw_g (lw_at lw_m8 22 rfl) rfl
theorem q1777 : (Jvm.Cond.soleField "ClockworkOrreriesModel" "above") ∈ lw_all := lw_g (lw_at lw_m8 23 rfl) rfl
theorem q1778 : (Jvm.Cond.laysFinal "ClockworkOrreriesModel" "ClockworkOrreriesModel" "below" "[J") ∈ lw_all := lw_g (lw_at lw_m8 24 rfl) rfl
theorem q1779 : (Jvm.Cond.soleField "ClockworkOrreriesModel" "below") ∈ lw_all := lw_g (lw_at lw_m8 25 rfl) rfl
theorem q1780 : (Jvm.Cond.laysFinal "ClockworkOrreriesModel" "ClockworkOrreriesModel" "row" "[I") ∈ lw_all := lw_g (lw_at lw_m8 26 rfl) rfl
theorem q1781 : (Jvm.Cond.soleField "ClockworkOrreriesModel" "row") ∈ lw_all := lw_g (lw_at lw_m8 27 rfl) rfl
theorem q1782 : (Jvm.Cond.lays "ClockworkOrreriesModel" "ClockworkOrreriesModel" "rowLength" "I") ∈ lw_all := lw_g (lw_at lw_m8 28 rfl) rfl
theorem q1783 : (Jvm.Cond.soleField "ClockworkOrreriesModel" "rowLength") ∈ lw_all := lw_g (lw_at lw_m8 29 rfl) rfl
theorem q1784 : (Jvm.Cond.lays "ClockworkOrreriesModel" "ClockworkOrreriesModel" "differA" "J") ∈ lw_all := lw_g (lw_at lw_m8 30 rfl) rfl
theorem q1785 : (Jvm.Cond.soleField "ClockworkOrreriesModel" "differA") ∈ lw_all := lw_g (lw_at lw_m8 31 rfl) rfl
theorem q1786 : (Jvm.Cond.lays "ClockworkOrreriesModel" "ClockworkOrreriesModel" "differB" "J") ∈ lw_all := lw_g (lw_at lw_m8 32 rfl) rfl
theorem q1787 : (Jvm.Cond.soleField "ClockworkOrreriesModel" "differB") ∈ lw_all := lw_g (lw_at lw_m8 33 rfl) rfl
theorem q1788 : (Jvm.Cond.lays "ClockworkOrreriesModel" "ClockworkOrreriesModel" "year" "I") ∈ lw_all := lw_g (lw_at lw_m8 34 rfl) rfl
theorem q1789 : (Jvm.Cond.soleField "ClockworkOrreriesModel" "year") ∈ lw_all := lw_g (lw_at lw_m8 35 rfl) rfl
theorem q1790 : (Jvm.Cond.lays "ClockworkOrreriesModel" "ClockworkOrreriesModel" "month" "I") ∈ lw_all := lw_g (lw_at lw_m8 36 rfl) rfl
theorem q1791 : (Jvm.Cond.soleField "ClockworkOrreriesModel" "month") ∈ lw_all := lw_g (lw_at lw_m8 37 rfl) rfl
theorem q1792 : (Jvm.Cond.lays "ClockworkOrreriesModel" "ClockworkOrreriesModel" "dayInMonth" "I") ∈ lw_all := lw_g (lw_at lw_m8 38 rfl) rfl
theorem q1793 : (Jvm.Cond.soleField "ClockworkOrreriesModel" "dayInMonth") ∈ lw_all := lw_g (lw_at lw_m8 39 rfl) rfl
theorem q1794 : (Jvm.Cond.lays "ClockworkOrreriesModel" "ClockworkOrreriesModel" "dayInYear" "I") ∈ lw_all := lw_g (lw_at lw_m8 40 rfl) rfl
theorem q1795 : (Jvm.Cond.soleField "ClockworkOrreriesModel" "dayInYear") ∈ lw_all := lw_g (lw_at lw_m8 41 rfl) rfl
theorem q1796 : (Jvm.Cond.lays "ClockworkOrreriesModel" "ClockworkOrreriesModel" "spot" "I") ∈ lw_all := lw_g (lw_at lw_m8 42 rfl) rfl
theorem q1797 : (Jvm.Cond.soleField "ClockworkOrreriesModel" "spot") ∈ lw_all := lw_g (lw_at lw_m8 43 rfl) rfl
theorem q1798 : (Jvm.Cond.lays "ClockworkOrreriesModel" "ClockworkOrreriesModel" "begin" "I") ∈ lw_all := lw_g (lw_at lw_m8 44 rfl) rfl
theorem q1799 : (Jvm.Cond.soleField "ClockworkOrreriesModel" "begin") ∈ lw_all := lw_g (lw_at lw_m8 45 rfl) rfl
theorem q1800 : (Jvm.Cond.lays "ClockworkOrreriesModel" "ClockworkOrreriesModel" "isForm" "Z") ∈ lw_all := lw_g (lw_at lw_m8 46 rfl) rfl
theorem q1801 : (Jvm.Cond.soleField "ClockworkOrreriesModel" "isForm") ∈ lw_all := lw_g (lw_at lw_m8 47 rfl) rfl
theorem q1802 : (Jvm.Cond.lays "ClockworkOrreriesModel" "ClockworkOrreriesModel" "letter" "I") ∈ lw_all := lw_g (lw_at lw_m8 48 rfl) rfl
theorem q1803 : (Jvm.Cond.soleField "ClockworkOrreriesModel" "letter") ∈ lw_all := lw_g (lw_at lw_m8 49 rfl) rfl
theorem q1804 : (Jvm.Cond.lays "ClockworkOrreriesModel" "ClockworkOrreriesModel" "first" "I") ∈ lw_all := lw_g (lw_at lw_m8 50 rfl) rfl
theorem q1805 : (Jvm.Cond.soleField "ClockworkOrreriesModel" "first") ∈ lw_all := lw_g (lw_at lw_m8 51 rfl) rfl
theorem q1806 : (Jvm.Cond.lays "ClockworkOrreriesModel" "ClockworkOrreriesModel" "second" "I") ∈ lw_all := lw_g (lw_at lw_m8 52 rfl) rfl
theorem q1807 : (Jvm.Cond.soleField "ClockworkOrreriesModel" "second") ∈ lw_all := lw_g (lw_at lw_m8 53 rfl) rfl
theorem q1808 : (Jvm.Cond.lays "ClockworkOrreriesModel" "ClockworkOrreriesModel" "reason" "I") ∈ lw_all := lw_g (lw_at lw_m8 54 rfl) rfl
theorem q1809 : (Jvm.Cond.soleField "ClockworkOrreriesModel" "reason") ∈ lw_all := lw_g (lw_at lw_m8 55 rfl) rfl
theorem q1810 : (Jvm.Cond.lays "ClockworkOrreriesModel" "ClockworkOrreriesModel" "cause" "I") ∈ lw_all := lw_g (lw_at lw_m8 56 rfl) rfl
theorem q1811 : (Jvm.Cond.soleField "ClockworkOrreriesModel" "cause") ∈ lw_all := lw_g (lw_at lw_m8 57 rfl) rfl
theorem q1812 : (Jvm.Cond.superclass "ClockworkOrreriesModel" "java/lang/Object") ∈ lw_all := lw_g (lw_at lw_m8 58 rfl) rfl
theorem q1814 : (Jvm.Cond.instanceMethod ({ cls := "ClockworkOrreriesModel", name := "thrown", desc := "()I" } : Jvm.MethodName)) ∈ lw_all := lw_g (lw_at lw_m8 60 rfl) rfl
theorem q1815 : (Jvm.Cond.selects "ClockworkOrreriesModel" ({ cls := "ClockworkOrreriesModel", name := "thrown", desc := "()I" } : Jvm.MethodName) ({ cls := "ClockworkOrreriesModel", name := "thrown", desc := "()I" } : Jvm.MethodName)) ∈ lw_all := lw_g (lw_at lw_m8 61 rfl) rfl
theorem q1816 : (Jvm.Cond.code ({ cls := "ClockworkOrreriesModel", name := "thrown", desc := "()I" } : Jvm.MethodName) prog_10_method_2_code (1 : Nat) (Option.some Jvm.ClassFile.FieldType.int)) ∈ lw_all := lw_g (lw_at lw_m8 62 rfl) rfl
theorem q1818 : (Jvm.Cond.instanceMethod ({ cls := "ClockworkOrreriesModel", name := "addAxle", desc := "()I" } : Jvm.MethodName)) ∈ lw_all := lw_g (lw_at lw_m8 64 rfl) rfl
theorem q1819 : (Jvm.Cond.selects "ClockworkOrreriesModel" ({ cls := "ClockworkOrreriesModel", name := "addAxle", desc := "()I" } : Jvm.MethodName) ({ cls := "ClockworkOrreriesModel", name := "addAxle", desc := "()I" } : Jvm.MethodName)) ∈ lw_all := lw_g (lw_at lw_m8 65 rfl) rfl
theorem q1820 : (Jvm.Cond.code ({ cls := "ClockworkOrreriesModel", name := "addAxle", desc := "()I" } : Jvm.MethodName) prog_10_method_32_code (2 : Nat) (Option.some Jvm.ClassFile.FieldType.int)) ∈ lw_all := lw_g (lw_at lw_m8 66 rfl) rfl
theorem q1821 : (Jvm.Cond.methodLink "ClockworkOrreriesModel" (113 : Nat) ({ cls := "ClockworkOrreriesModel", name := "begins", desc := "()V" } : Jvm.MethodName)) ∈ lw_all := lw_g (lw_at lw_m8 67 rfl) rfl
theorem q1822 : (Jvm.Cond.privateMethod ({ cls := "ClockworkOrreriesModel", name := "begins", desc := "()V" } : Jvm.MethodName)) ∈ lw_tbl := lw_at lw_m8 68 rfl
theorem q1823 : (Jvm.Cond.instanceMethod ({ cls := "ClockworkOrreriesModel", name := "begins", desc := "()V" } : Jvm.MethodName)) ∈ lw_all := lw_g (lw_at lw_m8 69 rfl) rfl
theorem q1824 : (Jvm.Cond.code ({ cls := "ClockworkOrreriesModel", name := "begins", desc := "()V" } : Jvm.MethodName) prog_10_method_7_code (1 : Nat) (Option.none : Option Jvm.ClassFile.FieldType)) ∈ lw_all := lw_g (lw_at lw_m8 70 rfl) rfl
theorem q1825 : (Jvm.Cond.methodLink "ClockworkOrreriesModel" (42 : Nat) ({ cls := "ClockworkOrreriesModel", name := "copies", desc := "([II[II)V" } : Jvm.MethodName)) ∈ lw_all := lw_g (lw_at lw_m8 71 rfl) rfl
theorem q1826 : (Jvm.Cond.static ({ cls := "ClockworkOrreriesModel", name := "copies", desc := "([II[II)V" } : Jvm.MethodName)) ∈ lw_all := lw_g (lw_at lw_m8 72 rfl) rfl
theorem q1827 : (Jvm.Cond.code ({ cls := "ClockworkOrreriesModel", name := "copies", desc := "([II[II)V" } : Jvm.MethodName) prog_10_method_6_code (5 : Nat) (Option.none : Option Jvm.ClassFile.FieldType)) ∈ lw_all := lw_g (lw_at lw_m8 73 rfl) rfl
theorem q1828 : (Jvm.Cond.methodLink "ClockworkOrreriesModel" (116 : Nat) ({ cls := "ClockworkOrreriesModel", name := "goAxle", desc := "()I" } : Jvm.MethodName)) ∈ lw_all := lw_g (lw_at lw_m8 74 rfl) rfl
theorem q1829 : (Jvm.Cond.privateMethod ({ cls := "ClockworkOrreriesModel", name := "goAxle", desc := "()I" } : Jvm.MethodName)) ∈ lw_tbl := lw_at lw_m8 75 rfl
theorem q1830 : (Jvm.Cond.instanceMethod ({ cls := "ClockworkOrreriesModel", name := "goAxle", desc := "()I" } : Jvm.MethodName)) ∈ lw_all := lw_g (lw_at lw_m8 76 rfl) rfl
theorem q1831 : (Jvm.Cond.code ({ cls := "ClockworkOrreriesModel", name := "goAxle", desc := "()I" } : Jvm.MethodName) prog_10_method_23_code (1 : Nat) (Option.some Jvm.ClassFile.FieldType.int)) ∈ lw_all := lw_g (lw_at lw_m8 77 rfl) rfl
theorem q1832 : (Jvm.Cond.constant "ClockworkOrreriesModel" (50 : Nat) (-100002 : Int32)) ∈ lw_all := lw_g (lw_at lw_m8 78 rfl) rfl
theorem q1833 : (Jvm.Cond.methodLink "ClockworkOrreriesModel" (119 : Nat) ({ cls := "ClockworkOrreriesModel", name := "ends", desc := "(I)I" } : Jvm.MethodName)) ∈ lw_all := lw_g (lw_at lw_m8 79 rfl) rfl
theorem q1834 : (Jvm.Cond.privateMethod ({ cls := "ClockworkOrreriesModel", name := "ends", desc := "(I)I" } : Jvm.MethodName)) ∈ lw_tbl := lw_at lw_m8 80 rfl
theorem q1835 : (Jvm.Cond.instanceMethod ({ cls := "ClockworkOrreriesModel", name := "ends", desc := "(I)I" } : Jvm.MethodName)) ∈ lw_all := lw_g (lw_at lw_m8 81 rfl) rfl
theorem q1836 : (Jvm.Cond.code ({ cls := "ClockworkOrreriesModel", name := "ends", desc := "(I)I" } : Jvm.MethodName) prog_10_method_9_code (2 : Nat) (Option.some Jvm.ClassFile.FieldType.int)) ∈ lw_all := lw_g (lw_at lw_m8 82 rfl) rfl
theorem q1837 : (Jvm.Cond.constant "ClockworkOrreriesModel" (49 : Nat) (-100001 : Int32)) ∈ lw_all := lw_g (lw_at lw_m8 83 rfl) rfl
theorem q1838 : (Jvm.Cond.methodLink "ClockworkOrreriesModel" (51 : Nat) ({ cls := "ClockworkOrreriesModel", name := "fails", desc := "(I)I" } : Jvm.MethodName)) ∈ lw_all := lw_g (lw_at lw_m8 84 rfl) rfl
theorem q1839 : (Jvm.Cond.privateMethod ({ cls := "ClockworkOrreriesModel", name := "fails", desc := "(I)I" } : Jvm.MethodName)) ∈ lw_tbl := lw_at lw_m8 85 rfl
theorem q1840 : (Jvm.Cond.instanceMethod ({ cls := "ClockworkOrreriesModel", name := "fails", desc := "(I)I" } : Jvm.MethodName)) ∈ lw_all := lw_g (lw_at lw_m8 86 rfl) rfl
theorem q1841 : (Jvm.Cond.code ({ cls := "ClockworkOrreriesModel", name := "fails", desc := "(I)I" } : Jvm.MethodName) prog_10_method_3_code (2 : Nat) (Option.some Jvm.ClassFile.FieldType.int)) ∈ lw_all := lw_g (lw_at lw_m8 87 rfl) rfl
theorem q1842 : (Jvm.Cond.methodLink "ClockworkOrreriesModel" (55 : Nat) ({ cls := "ClockworkOrreriesModel", name := "records", desc := "()V" } : Jvm.MethodName)) ∈ lw_all := lw_g (lw_at lw_m8 88 rfl) rfl
theorem q1843 : (Jvm.Cond.privateMethod ({ cls := "ClockworkOrreriesModel", name := "records", desc := "()V" } : Jvm.MethodName)) ∈ lw_tbl := lw_at lw_m8 89 rfl
theorem q1844 : (Jvm.Cond.instanceMethod ({ cls := "ClockworkOrreriesModel", name := "records", desc := "()V" } : Jvm.MethodName)) ∈ lw_all := lw_g (lw_at lw_m8 90 rfl) rfl
theorem q1845 : (Jvm.Cond.code ({ cls := "ClockworkOrreriesModel", name := "records", desc := "()V" } : Jvm.MethodName) prog_10_method_8_code (2 : Nat) (Option.none : Option Jvm.ClassFile.FieldType)) ∈ lw_all := lw_g (lw_at lw_m8 91 rfl) rfl
theorem q1847 : (Jvm.Cond.instanceMethod ({ cls := "ClockworkOrreriesModel", name := "addWheel", desc := "(II)I" } : Jvm.MethodName)) ∈ lw_all := lw_g (lw_at lw_m8 93 rfl) rfl
theorem q1848 : (Jvm.Cond.selects "ClockworkOrreriesModel" ({ cls := "ClockworkOrreriesModel", name := "addWheel", desc := "(II)I" } : Jvm.MethodName) ({ cls := "ClockworkOrreriesModel", name := "addWheel", desc := "(II)I" } : Jvm.MethodName)) ∈ lw_all := lw_g (lw_at lw_m8 94 rfl) rfl
theorem q1849 : (Jvm.Cond.code ({ cls := "ClockworkOrreriesModel", name := "addWheel", desc := "(II)I" } : Jvm.MethodName) prog_10_method_33_code (3 : Nat) (Option.some Jvm.ClassFile.FieldType.int)) ∈ lw_all := lw_g (lw_at lw_m8 95 rfl) rfl
theorem q1850 : (Jvm.Cond.methodLink "ClockworkOrreriesModel" (122 : Nat) ({ cls := "ClockworkOrreriesModel", name := "goWheel", desc := "(II)I" } : Jvm.MethodName)) ∈ lw_all := lw_g (lw_at lw_m8 96 rfl) rfl
theorem q1851 : (Jvm.Cond.privateMethod ({ cls := "ClockworkOrreriesModel", name := "goWheel", desc := "(II)I" } : Jvm.MethodName)) ∈ lw_tbl := lw_at lw_m8 97 rfl
theorem q1852 : (Jvm.Cond.instanceMethod ({ cls := "ClockworkOrreriesModel", name := "goWheel", desc := "(II)I" } : Jvm.MethodName)) ∈ lw_all := lw_g (lw_at lw_m8 98 rfl) rfl
theorem q1853 : (Jvm.Cond.code ({ cls := "ClockworkOrreriesModel", name := "goWheel", desc := "(II)I" } : Jvm.MethodName) prog_10_method_25_code (4 : Nat) (Option.some Jvm.ClassFile.FieldType.int)) ∈ lw_all := lw_g (lw_at lw_m8 99 rfl) rfl
theorem q1854 : (Jvm.Cond.methodLink "ClockworkOrreriesModel" (88 : Nat) ({ cls := "ClockworkOrreriesModel", name := "isAxle", desc := "(I)Z" } : Jvm.MethodName)) ∈ lw_all := lw_g (lw_at lw_m8 100 rfl) rfl
theorem q1855 : (Jvm.Cond.privateMethod ({ cls := "ClockworkOrreriesModel", name := "isAxle", desc := "(I)Z" } : Jvm.MethodName)) ∈ lw_tbl := lw_at lw_m8 101 rfl
theorem q1856 : (Jvm.Cond.instanceMethod ({ cls := "ClockworkOrreriesModel", name := "isAxle", desc := "(I)Z" } : Jvm.MethodName)) ∈ lw_all := lw_g (lw_at lw_m8 102 rfl) rfl
theorem q1857 : (Jvm.Cond.code ({ cls := "ClockworkOrreriesModel", name := "isAxle", desc := "(I)Z" } : Jvm.MethodName) prog_10_method_10_code (2 : Nat) (Option.some Jvm.ClassFile.FieldType.boolean)) ∈ lw_all := lw_g (lw_at lw_m8 103 rfl) rfl
theorem q1858 : (Jvm.Cond.methodLink "ClockworkOrreriesModel" (58 : Nat) ({ cls := "ClockworkOrreriesModel", name := "in", desc := "(III)Z" } : Jvm.MethodName)) ∈ lw_all := lw_g (lw_at lw_m8 104 rfl) rfl
theorem q1859 : (Jvm.Cond.static ({ cls := "ClockworkOrreriesModel", name := "in", desc := "(III)Z" } : Jvm.MethodName)) ∈ lw_all := lw_g (lw_at lw_m8 105 rfl) rfl
theorem q1860 : (Jvm.Cond.code ({ cls := "ClockworkOrreriesModel", name := "in", desc := "(III)Z" } : Jvm.MethodName) prog_10_method_5_code (3 : Nat) (Option.some Jvm.ClassFile.FieldType.boolean)) ∈ lw_all := lw_g (lw_at lw_m8 106 rfl) rfl
theorem q1861 : (Jvm.Cond.methodLink "ClockworkOrreriesModel" (92 : Nat) ({ cls := "ClockworkOrreriesModel", name := "isTeeth", desc := "(I)Z" } : Jvm.MethodName)) ∈ lw_all := lw_g (lw_at lw_m8 107 rfl) rfl
theorem q1862 : (Jvm.Cond.static ({ cls := "ClockworkOrreriesModel", name := "isTeeth", desc := "(I)Z" } : Jvm.MethodName)) ∈ lw_all := lw_g (lw_at lw_m8 108 rfl) rfl
theorem q1863 : (Jvm.Cond.code ({ cls := "ClockworkOrreriesModel", name := "isTeeth", desc := "(I)Z" } : Jvm.MethodName) prog_10_method_24_code (1 : Nat) (Option.some Jvm.ClassFile.FieldType.boolean)) ∈ lw_all := lw_g (lw_at lw_m8 109 rfl) rfl
theorem q1865 : (Jvm.Cond.instanceMethod ({ cls := "ClockworkOrreriesModel", name := "mesh", desc := "(II)I" } : Jvm.MethodName)) ∈ lw_all := lw_g (lw_at lw_m8 111 rfl) rfl
theorem q1866 : (Jvm.Cond.selects "ClockworkOrreriesModel" ({ cls := "ClockworkOrreriesModel", name := "mesh", desc := "(II)I" } : Jvm.MethodName) ({ cls := "ClockworkOrreriesModel", name := "mesh", desc := "(II)I" } : Jvm.MethodName)) ∈ lw_all := lw_g (lw_at lw_m8 112 rfl) rfl
theorem q1867 : (Jvm.Cond.code ({ cls := "ClockworkOrreriesModel", name := "mesh", desc := "(II)I" } : Jvm.MethodName) prog_10_method_34_code (3 : Nat) (Option.some Jvm.ClassFile.FieldType.int)) ∈ lw_all := lw_g (lw_at lw_m8 113 rfl) rfl
theorem q1868 : (Jvm.Cond.methodLink "ClockworkOrreriesModel" (125 : Nat) ({ cls := "ClockworkOrreriesModel", name := "goMesh", desc := "(II)I" } : Jvm.MethodName)) ∈ lw_all := lw_g (lw_at lw_m8 114 rfl) rfl
theorem q1869 : (Jvm.Cond.privateMethod ({ cls := "ClockworkOrreriesModel", name := "goMesh", desc := "(II)I" } : Jvm.MethodName)) ∈ lw_tbl := lw_at lw_m8 115 rfl
theorem q1870 : (Jvm.Cond.instanceMethod ({ cls := "ClockworkOrreriesModel", name := "goMesh", desc := "(II)I" } : Jvm.MethodName)) ∈ lw_all := lw_g (lw_at lw_m8 116 rfl) rfl
theorem q1871 : (Jvm.Cond.code ({ cls := "ClockworkOrreriesModel", name := "goMesh", desc := "(II)I" } : Jvm.MethodName) prog_10_method_27_code (3 : Nat) (Option.some Jvm.ClassFile.FieldType.int)) ∈ lw_all := lw_g (lw_at lw_m8 117 rfl) rfl
theorem q1872 : (Jvm.Cond.methodLink "ClockworkOrreriesModel" (98 : Nat) ({ cls := "ClockworkOrreriesModel", name := "areWheels", desc := "(II)Z" } : Jvm.MethodName)) ∈ lw_all := lw_g (lw_at lw_m8 118 rfl) rfl
theorem q1873 : (Jvm.Cond.privateMethod ({ cls := "ClockworkOrreriesModel", name := "areWheels", desc := "(II)Z" } : Jvm.MethodName)) ∈ lw_tbl := lw_at lw_m8 119 rfl
theorem q1874 : (Jvm.Cond.instanceMethod ({ cls := "ClockworkOrreriesModel", name := "areWheels", desc := "(II)Z" } : Jvm.MethodName)) ∈ lw_all := lw_g (lw_at lw_m8 120 rfl) rfl
theorem q1875 : (Jvm.Cond.code ({ cls := "ClockworkOrreriesModel", name := "areWheels", desc := "(II)Z" } : Jvm.MethodName) prog_10_method_26_code (3 : Nat) (Option.some Jvm.ClassFile.FieldType.boolean)) ∈ lw_all := lw_g (lw_at lw_m8 121 rfl) rfl
theorem q1876 : (Jvm.Cond.methodLink "ClockworkOrreriesModel" (95 : Nat) ({ cls := "ClockworkOrreriesModel", name := "isWheel", desc := "(I)Z" } : Jvm.MethodName)) ∈ lw_all := lw_g (lw_at lw_m8 122 rfl) rfl
theorem q1877 : (Jvm.Cond.privateMethod ({ cls := "ClockworkOrreriesModel", name := "isWheel", desc := "(I)Z" } : Jvm.MethodName)) ∈ lw_tbl := lw_at lw_m8 123 rfl
theorem q1878 : (Jvm.Cond.instanceMethod ({ cls := "ClockworkOrreriesModel", name := "isWheel", desc := "(I)Z" } : Jvm.MethodName)) ∈ lw_all := lw_g (lw_at lw_m8 124 rfl) rfl
theorem q1879 : (Jvm.Cond.code ({ cls := "ClockworkOrreriesModel", name := "isWheel", desc := "(I)Z" } : Jvm.MethodName) prog_10_method_11_code (2 : Nat) (Option.some Jvm.ClassFile.FieldType.boolean)) ∈ lw_all := lw_g (lw_at lw_m8 125 rfl) rfl
theorem q1880 : (Jvm.Cond.methodLink "ClockworkOrreriesModel" (101 : Nat) ({ cls := "ClockworkOrreriesModel", name := "reason", desc := "(II)I" } : Jvm.MethodName)) ∈ lw_all := lw_g (lw_at lw_m8 126 rfl) rfl
theorem q1881 : (Jvm.Cond.privateMethod ({ cls := "ClockworkOrreriesModel", name := "reason", desc := "(II)I" } : Jvm.MethodName)) ∈ lw_tbl := lw_at lw_m8 127 rfl
theorem q1882 : (Jvm.Cond.instanceMethod ({ cls := "ClockworkOrreriesModel", name := "reason", desc := "(II)I" } : Jvm.MethodName)) ∈ lw_all := lw_g (lw_at lw_m8 128 rfl) rfl
theorem q1883 : (Jvm.Cond.code ({ cls := "ClockworkOrreriesModel", name := "reason", desc := "(II)I" } : Jvm.MethodName) prog_10_method_22_code (3 : Nat) (Option.some Jvm.ClassFile.FieldType.int)) ∈ lw_all := lw_g (lw_at lw_m8 129 rfl) rfl
theorem q1884 : (Jvm.Cond.methodLink "ClockworkOrreriesModel" (77 : Nat) ({ cls := "ClockworkOrreriesModel", name := "arePair", desc := "(II)Z" } : Jvm.MethodName)) ∈ lw_all := lw_g (lw_at lw_m8 130 rfl) rfl
theorem q1885 : (Jvm.Cond.privateMethod ({ cls := "ClockworkOrreriesModel", name := "arePair", desc := "(II)Z" } : Jvm.MethodName)) ∈ lw_tbl := lw_at lw_m8 131 rfl
theorem q1886 : (Jvm.Cond.instanceMethod ({ cls := "ClockworkOrreriesModel", name := "arePair", desc := "(II)Z" } : Jvm.MethodName)) ∈ lw_all := lw_g (lw_at lw_m8 132 rfl) rfl
theorem q1887 : (Jvm.Cond.code ({ cls := "ClockworkOrreriesModel", name := "arePair", desc := "(II)Z" } : Jvm.MethodName) prog_10_method_20_code (7 : Nat) (Option.some Jvm.ClassFile.FieldType.boolean)) ∈ lw_all := lw_g (lw_at lw_m8 133 rfl) rfl
theorem q1888 : (Jvm.Cond.methodLink "ClockworkOrreriesModel" (81 : Nat) ({ cls := "ClockworkOrreriesModel", name := "adds", desc := "(II)V" } : Jvm.MethodName)) ∈ lw_all := lw_g (lw_at lw_m8 134 rfl) rfl
theorem q1889 : (Jvm.Cond.privateMethod ({ cls := "ClockworkOrreriesModel", name := "adds", desc := "(II)V" } : Jvm.MethodName)) ∈ lw_tbl := lw_at lw_m8 135 rfl
theorem q1890 : (Jvm.Cond.instanceMethod ({ cls := "ClockworkOrreriesModel", name := "adds", desc := "(II)V" } : Jvm.MethodName)) ∈ lw_all := lw_g (lw_at lw_m8 136 rfl) rfl
theorem q1891 : (Jvm.Cond.code ({ cls := "ClockworkOrreriesModel", name := "adds", desc := "(II)V" } : Jvm.MethodName) prog_10_method_21_code (3 : Nat) (Option.none : Option Jvm.ClassFile.FieldType)) ∈ lw_all := lw_g (lw_at lw_m8 137 rfl) rfl
theorem q1892 : (Jvm.Cond.methodLink "ClockworkOrreriesModel" (73 : Nat) ({ cls := "ClockworkOrreriesModel", name := "drives", desc := "()Z" } : Jvm.MethodName)) ∈ lw_all := lw_g (lw_at lw_m8 138 rfl) rfl
theorem q1893 : (Jvm.Cond.privateMethod ({ cls := "ClockworkOrreriesModel", name := "drives", desc := "()Z" } : Jvm.MethodName)) ∈ lw_tbl := lw_at lw_m8 139 rfl
theorem q1894 : (Jvm.Cond.instanceMethod ({ cls := "ClockworkOrreriesModel", name := "drives", desc := "()Z" } : Jvm.MethodName)) ∈ lw_all := lw_g (lw_at lw_m8 140 rfl) rfl
theorem q1895 : (Jvm.Cond.code ({ cls := "ClockworkOrreriesModel", name := "drives", desc := "()Z" } : Jvm.MethodName) prog_10_method_17_code (7 : Nat) (Option.some Jvm.ClassFile.FieldType.boolean)) ∈ lw_all := lw_g (lw_at lw_m8 141 rfl) rfl
theorem q1896 : (Jvm.Cond.methodLink "ClockworkOrreriesModel" (69 : Nat) ({ cls := "ClockworkOrreriesModel", name := "comes", desc := "(IIII)V" } : Jvm.MethodName)) ∈ lw_all := lw_g (lw_at lw_m8 142 rfl) rfl
theorem q1897 : (Jvm.Cond.privateMethod ({ cls := "ClockworkOrreriesModel", name := "comes", desc := "(IIII)V" } : Jvm.MethodName)) ∈ lw_tbl := lw_at lw_m8 143 rfl
theorem q1898 : (Jvm.Cond.instanceMethod ({ cls := "ClockworkOrreriesModel", name := "comes", desc := "(IIII)V" } : Jvm.MethodName)) ∈ lw_all := lw_g (lw_at lw_m8 144 rfl) rfl
theorem q1899 : (Jvm.Cond.code ({ cls := "ClockworkOrreriesModel", name := "comes", desc := "(IIII)V" } : Jvm.MethodName) prog_10_method_16_code (11 : Nat) (Option.none : Option Jvm.ClassFile.FieldType)) ∈ lw_all := lw_g (lw_at lw_m8 145 rfl) rfl
theorem q1900 : (Jvm.Cond.methodLink "ClockworkOrreriesModel" (65 : Nat) ({ cls := "ClockworkOrreriesModel", name := "divisor", desc := "(JJ)J" } : Jvm.MethodName)) ∈ lw_all := lw_g (lw_at lw_m8 146 rfl) rfl
theorem q1901 : (Jvm.Cond.static ({ cls := "ClockworkOrreriesModel", name := "divisor", desc := "(JJ)J" } : Jvm.MethodName)) ∈ lw_all := lw_g (lw_at lw_m8 147 rfl) rfl
theorem q1902 : (Jvm.Cond.code ({ cls := "ClockworkOrreriesModel", name := "divisor", desc := "(JJ)J" } : Jvm.MethodName) prog_10_method_15_code (10 : Nat) (Option.some Jvm.ClassFile.FieldType.long)) ∈ lw_all := lw_g (lw_at lw_m8 148 rfl) rfl
theorem q1903 : (Jvm.Cond.methodLink "ClockworkOrreriesModel" (85 : Nat) ({ cls := "ClockworkOrreriesModel", name := "binds", desc := "()Z" } : Jvm.MethodName)) ∈ lw_all := lw_g (lw_at lw_m8 149 rfl) rfl
theorem q1904 : (Jvm.Cond.privateMethod ({ cls := "ClockworkOrreriesModel", name := "binds", desc := "()Z" } : Jvm.MethodName)) ∈ lw_tbl := lw_at lw_m8 150 rfl
theorem q1905 : (Jvm.Cond.instanceMethod ({ cls := "ClockworkOrreriesModel", name := "binds", desc := "()Z" } : Jvm.MethodName)) ∈ lw_all := lw_g (lw_at lw_m8 151 rfl) rfl
theorem q1906 : (Jvm.Cond.code ({ cls := "ClockworkOrreriesModel", name := "binds", desc := "()Z" } : Jvm.MethodName) prog_10_method_18_code (9 : Nat) (Option.some Jvm.ClassFile.FieldType.boolean)) ∈ lw_all := lw_g (lw_at lw_m8 152 rfl) rfl
theorem q1907 : (Jvm.Cond.methodLink "ClockworkOrreriesModel" (105 : Nat) ({ cls := "ClockworkOrreriesModel", name := "drivenNow", desc := "()I" } : Jvm.MethodName)) ∈ lw_all := lw_g (lw_at lw_m8 153 rfl) rfl
theorem q1908 : (Jvm.Cond.privateMethod ({ cls := "ClockworkOrreriesModel", name := "drivenNow", desc := "()I" } : Jvm.MethodName)) ∈ lw_tbl := lw_at lw_m8 154 rfl
theorem q1909 : (Jvm.Cond.instanceMethod ({ cls := "ClockworkOrreriesModel", name := "drivenNow", desc := "()I" } : Jvm.MethodName)) ∈ lw_all := lw_g (lw_at lw_m8 155 rfl) rfl
theorem q1910 : (Jvm.Cond.code ({ cls := "ClockworkOrreriesModel", name := "drivenNow", desc := "()I" } : Jvm.MethodName) prog_10_method_19_code (1 : Nat) (Option.some Jvm.ClassFile.FieldType.int)) ∈ lw_all := lw_g (lw_at lw_m8 156 rfl) rfl
theorem q1912 : (Jvm.Cond.instanceMethod ({ cls := "ClockworkOrreriesModel", name := "unmesh", desc := "(I)I" } : Jvm.MethodName)) ∈ lw_all := lw_g (lw_at lw_m8 158 rfl) rfl
theorem q1913 : (Jvm.Cond.selects "ClockworkOrreriesModel" ({ cls := "ClockworkOrreriesModel", name := "unmesh", desc := "(I)I" } : Jvm.MethodName) ({ cls := "ClockworkOrreriesModel", name := "unmesh", desc := "(I)I" } : Jvm.MethodName)) ∈ lw_all := lw_g (lw_at lw_m8 159 rfl) rfl
theorem q1914 : (Jvm.Cond.code ({ cls := "ClockworkOrreriesModel", name := "unmesh", desc := "(I)I" } : Jvm.MethodName) prog_10_method_35_code (2 : Nat) (Option.some Jvm.ClassFile.FieldType.int)) ∈ lw_all := lw_g (lw_at lw_m8 160 rfl) rfl
theorem q1915 : (Jvm.Cond.methodLink "ClockworkOrreriesModel" (128 : Nat) ({ cls := "ClockworkOrreriesModel", name := "goUnmesh", desc := "(I)I" } : Jvm.MethodName)) ∈ lw_all := lw_g (lw_at lw_m8 161 rfl) rfl
theorem q1916 : (Jvm.Cond.privateMethod ({ cls := "ClockworkOrreriesModel", name := "goUnmesh", desc := "(I)I" } : Jvm.MethodName)) ∈ lw_tbl := lw_at lw_m8 162 rfl
theorem q1917 : (Jvm.Cond.instanceMethod ({ cls := "ClockworkOrreriesModel", name := "goUnmesh", desc := "(I)I" } : Jvm.MethodName)) ∈ lw_all := lw_g (lw_at lw_m8 163 rfl) rfl
theorem q1918 : (Jvm.Cond.code ({ cls := "ClockworkOrreriesModel", name := "goUnmesh", desc := "(I)I" } : Jvm.MethodName) prog_10_method_28_code (3 : Nat) (Option.some Jvm.ClassFile.FieldType.int)) ∈ lw_all := lw_g (lw_at lw_m8 164 rfl) rfl
theorem q1919 : (Jvm.Cond.methodLink "ClockworkOrreriesModel" (109 : Nat) ({ cls := "ClockworkOrreriesModel", name := "isPair", desc := "(I)Z" } : Jvm.MethodName)) ∈ lw_all := lw_g (lw_at lw_m8 165 rfl) rfl
theorem q1920 : (Jvm.Cond.privateMethod ({ cls := "ClockworkOrreriesModel", name := "isPair", desc := "(I)Z" } : Jvm.MethodName)) ∈ lw_tbl := lw_at lw_m8 166 rfl
theorem q1921 : (Jvm.Cond.instanceMethod ({ cls := "ClockworkOrreriesModel", name := "isPair", desc := "(I)Z" } : Jvm.MethodName)) ∈ lw_all := lw_g (lw_at lw_m8 167 rfl) rfl
theorem q1922 : (Jvm.Cond.code ({ cls := "ClockworkOrreriesModel", name := "isPair", desc := "(I)Z" } : Jvm.MethodName) prog_10_method_12_code (2 : Nat) (Option.some Jvm.ClassFile.FieldType.boolean)) ∈ lw_all := lw_g (lw_at lw_m8 168 rfl) rfl
theorem q1924 : (Jvm.Cond.instanceMethod ({ cls := "ClockworkOrreriesModel", name := "setTeeth", desc := "(II)I" } : Jvm.MethodName)) ∈ lw_all := lw_g (lw_at lw_m8 170 rfl) rfl
theorem q1925 : (Jvm.Cond.selects "ClockworkOrreriesModel" ({ cls := "ClockworkOrreriesModel", name := "setTeeth", desc := "(II)I" } : Jvm.MethodName) ({ cls := "ClockworkOrreriesModel", name := "setTeeth", desc := "(II)I" } : Jvm.MethodName)) ∈ lw_all := lw_g (lw_at lw_m8 171 rfl) rfl
theorem q1926 : (Jvm.Cond.code ({ cls := "ClockworkOrreriesModel", name := "setTeeth", desc := "(II)I" } : Jvm.MethodName) prog_10_method_36_code (3 : Nat) (Option.some Jvm.ClassFile.FieldType.int)) ∈ lw_all := lw_g (lw_at lw_m8 172 rfl) rfl
theorem q1927 : (Jvm.Cond.methodLink "ClockworkOrreriesModel" (131 : Nat) ({ cls := "ClockworkOrreriesModel", name := "goTeeth", desc := "(II)I" } : Jvm.MethodName)) ∈ lw_all := lw_g (lw_at lw_m8 173 rfl) rfl
theorem q1928 : (Jvm.Cond.privateMethod ({ cls := "ClockworkOrreriesModel", name := "goTeeth", desc := "(II)I" } : Jvm.MethodName)) ∈ lw_tbl := lw_at lw_m8 174 rfl
theorem q1929 : (Jvm.Cond.instanceMethod ({ cls := "ClockworkOrreriesModel", name := "goTeeth", desc := "(II)I" } : Jvm.MethodName)) ∈ lw_all := lw_g (lw_at lw_m8 175 rfl) rfl
theorem q1930 : (Jvm.Cond.code ({ cls := "ClockworkOrreriesModel", name := "goTeeth", desc := "(II)I" } : Jvm.MethodName) prog_10_method_29_code (4 : Nat) (Option.some Jvm.ClassFile.FieldType.int)) ∈ lw_all := lw_g (lw_at lw_m8 176 rfl) rfl
theorem q1932 : (Jvm.Cond.instanceMethod ({ cls := "ClockworkOrreriesModel", name := "addArm", desc := "(II)I" } : Jvm.MethodName)) ∈ lw_all := lw_g (lw_at lw_m8 178 rfl) rfl
theorem q1933 : (Jvm.Cond.selects "ClockworkOrreriesModel" ({ cls := "ClockworkOrreriesModel", name := "addArm", desc := "(II)I" } : Jvm.MethodName) ({ cls := "ClockworkOrreriesModel", name := "addArm", desc := "(II)I" } : Jvm.MethodName)) ∈ lw_all := lw_g (lw_at lw_m8 179 rfl) rfl
theorem q1934 : (Jvm.Cond.code ({ cls := "ClockworkOrreriesModel", name := "addArm", desc := "(II)I" } : Jvm.MethodName) prog_10_method_37_code (3 : Nat) (Option.some Jvm.ClassFile.FieldType.int)) ∈ lw_all := lw_g (lw_at lw_m8 180 rfl) rfl
theorem q1935 : (Jvm.Cond.methodLink "ClockworkOrreriesModel" (134 : Nat) ({ cls := "ClockworkOrreriesModel", name := "goArm", desc := "(II)I" } : Jvm.MethodName)) ∈ lw_all := lw_g (lw_at lw_m8 181 rfl) rfl
theorem q1936 : (Jvm.Cond.privateMethod ({ cls := "ClockworkOrreriesModel", name := "goArm", desc := "(II)I" } : Jvm.MethodName)) ∈ lw_tbl := lw_at lw_m8 182 rfl
theorem q1937 : (Jvm.Cond.instanceMethod ({ cls := "ClockworkOrreriesModel", name := "goArm", desc := "(II)I" } : Jvm.MethodName)) ∈ lw_all := lw_g (lw_at lw_m8 183 rfl) rfl
theorem q1938 : (Jvm.Cond.code ({ cls := "ClockworkOrreriesModel", name := "goArm", desc := "(II)I" } : Jvm.MethodName) prog_10_method_30_code (4 : Nat) (Option.some Jvm.ClassFile.FieldType.int)) ∈ lw_all := lw_g (lw_at lw_m8 184 rfl) rfl
theorem q1940 : (Jvm.Cond.instanceMethod ({ cls := "ClockworkOrreriesModel", name := "setBend", desc := "(II)I" } : Jvm.MethodName)) ∈ lw_all := lw_g (lw_at lw_m8 186 rfl) rfl
theorem q1941 : (Jvm.Cond.selects "ClockworkOrreriesModel" ({ cls := "ClockworkOrreriesModel", name := "setBend", desc := "(II)I" } : Jvm.MethodName) ({ cls := "ClockworkOrreriesModel", name := "setBend", desc := "(II)I" } : Jvm.MethodName)) ∈ lw_all := lw_g (lw_at lw_m8 187 rfl) rfl
theorem q1942 : (Jvm.Cond.code ({ cls := "ClockworkOrreriesModel", name := "setBend", desc := "(II)I" } : Jvm.MethodName) prog_10_method_39_code (3 : Nat) (Option.some Jvm.ClassFile.FieldType.int)) ∈ lw_all := lw_g (lw_at lw_m8 188 rfl) rfl
theorem q1943 : (Jvm.Cond.methodLink "ClockworkOrreriesModel" (137 : Nat) ({ cls := "ClockworkOrreriesModel", name := "isArm", desc := "(I)Z" } : Jvm.MethodName)) ∈ lw_all := lw_g (lw_at lw_m8 189 rfl) rfl
theorem q1944 : (Jvm.Cond.privateMethod ({ cls := "ClockworkOrreriesModel", name := "isArm", desc := "(I)Z" } : Jvm.MethodName)) ∈ lw_tbl := lw_at lw_m8 190 rfl
theorem q1945 : (Jvm.Cond.instanceMethod ({ cls := "ClockworkOrreriesModel", name := "isArm", desc := "(I)Z" } : Jvm.MethodName)) ∈ lw_all := lw_g (lw_at lw_m8 191 rfl) rfl
theorem q1946 : (Jvm.Cond.code ({ cls := "ClockworkOrreriesModel", name := "isArm", desc := "(I)Z" } : Jvm.MethodName) prog_10_method_13_code (2 : Nat) (Option.some Jvm.ClassFile.FieldType.boolean)) ∈ lw_all := lw_g (lw_at lw_m8 192 rfl) rfl
theorem q1947 : (Jvm.Cond.methodLink "ClockworkOrreriesModel" (140 : Nat) ({ cls := "ClockworkOrreriesModel", name := "changes", desc := "(II)I" } : Jvm.MethodName)) ∈ lw_all := lw_g (lw_at lw_m8 193 rfl) rfl
theorem q1948 : (Jvm.Cond.privateMethod ({ cls := "ClockworkOrreriesModel", name := "changes", desc := "(II)I" } : Jvm.MethodName)) ∈ lw_tbl := lw_at lw_m8 194 rfl
theorem q1949 : (Jvm.Cond.instanceMethod ({ cls := "ClockworkOrreriesModel", name := "changes", desc := "(II)I" } : Jvm.MethodName)) ∈ lw_all := lw_g (lw_at lw_m8 195 rfl) rfl
theorem q1950 : (Jvm.Cond.code ({ cls := "ClockworkOrreriesModel", name := "changes", desc := "(II)I" } : Jvm.MethodName) prog_10_method_38_code (4 : Nat) (Option.some Jvm.ClassFile.FieldType.int)) ∈ lw_all := lw_g (lw_at lw_m8 196 rfl) rfl
theorem q1952 : (Jvm.Cond.instanceMethod ({ cls := "ClockworkOrreriesModel", name := "addMoon", desc := "(II)I" } : Jvm.MethodName)) ∈ lw_all := lw_g (lw_at lw_m8 198 rfl) rfl
theorem q1953 : (Jvm.Cond.selects "ClockworkOrreriesModel" ({ cls := "ClockworkOrreriesModel", name := "addMoon", desc := "(II)I" } : Jvm.MethodName) ({ cls := "ClockworkOrreriesModel", name := "addMoon", desc := "(II)I" } : Jvm.MethodName)) ∈ lw_all := lw_g (lw_at lw_m8 199 rfl) rfl
theorem q1954 : (Jvm.Cond.code ({ cls := "ClockworkOrreriesModel", name := "addMoon", desc := "(II)I" } : Jvm.MethodName) prog_10_method_40_code (4 : Nat) (Option.some Jvm.ClassFile.FieldType.int)) ∈ lw_all := lw_g (lw_at lw_m8 200 rfl) rfl
theorem q1956 : (Jvm.Cond.instanceMethod ({ cls := "ClockworkOrreriesModel", name := "setPeriod", desc := "(II)I" } : Jvm.MethodName)) ∈ lw_all := lw_g (lw_at lw_m8 202 rfl) rfl
theorem q1957 : (Jvm.Cond.selects "ClockworkOrreriesModel" ({ cls := "ClockworkOrreriesModel", name := "setPeriod", desc := "(II)I" } : Jvm.MethodName) ({ cls := "ClockworkOrreriesModel", name := "setPeriod", desc := "(II)I" } : Jvm.MethodName)) ∈ lw_all := lw_g (lw_at lw_m8 203 rfl) rfl
theorem q1958 : (Jvm.Cond.code ({ cls := "ClockworkOrreriesModel", name := "setPeriod", desc := "(II)I" } : Jvm.MethodName) prog_10_method_41_code (3 : Nat) (Option.some Jvm.ClassFile.FieldType.int)) ∈ lw_all := lw_g (lw_at lw_m8 204 rfl) rfl
theorem q1959 : (Jvm.Cond.constant "ClockworkOrreriesModel" (143 : Nat) (100000000 : Int32)) ∈ lw_all := lw_g (lw_at lw_m8 205 rfl) rfl
theorem q1961 : (Jvm.Cond.instanceMethod ({ cls := "ClockworkOrreriesModel", name := "pass", desc := "(I)I" } : Jvm.MethodName)) ∈ lw_all := lw_g (lw_at lw_m8 207 rfl) rfl
theorem q1962 : (Jvm.Cond.selects "ClockworkOrreriesModel" ({ cls := "ClockworkOrreriesModel", name := "pass", desc := "(I)I" } : Jvm.MethodName) ({ cls := "ClockworkOrreriesModel", name := "pass", desc := "(I)I" } : Jvm.MethodName)) ∈ lw_all := lw_g (lw_at lw_m8 208 rfl) rfl
theorem q1963 : (Jvm.Cond.code ({ cls := "ClockworkOrreriesModel", name := "pass", desc := "(I)I" } : Jvm.MethodName) prog_10_method_42_code (2 : Nat) (Option.some Jvm.ClassFile.FieldType.int)) ∈ lw_all := lw_g (lw_at lw_m8 209 rfl) rfl
theorem q1964 : (Jvm.Cond.methodLink "ClockworkOrreriesModel" (144 : Nat) ({ cls := "ClockworkOrreriesModel", name := "goPass", desc := "(I)I" } : Jvm.MethodName)) ∈ lw_all := lw_g (lw_at lw_m8 210 rfl) rfl
theorem q1965 : (Jvm.Cond.privateMethod ({ cls := "ClockworkOrreriesModel", name := "goPass", desc := "(I)I" } : Jvm.MethodName)) ∈ lw_tbl := lw_at lw_m8 211 rfl
theorem q1966 : (Jvm.Cond.instanceMethod ({ cls := "ClockworkOrreriesModel", name := "goPass", desc := "(I)I" } : Jvm.MethodName)) ∈ lw_all := lw_g (lw_at lw_m8 212 rfl) rfl
theorem q1967 : (Jvm.Cond.code ({ cls := "ClockworkOrreriesModel", name := "goPass", desc := "(I)I" } : Jvm.MethodName) prog_10_method_31_code (2 : Nat) (Option.some Jvm.ClassFile.FieldType.int)) ∈ lw_all := lw_g (lw_at lw_m8 213 rfl) rfl
theorem q1968 : (Jvm.Cond.constant "ClockworkOrreriesModel" (112 : Nat) (1000000 : Int32)) ∈ lw_all := lw_g (lw_at lw_m8 214 rfl) rfl
theorem q1970 : (Jvm.Cond.instanceMethod ({ cls := "ClockworkOrreriesModel", name := "setDay", desc := "(I)I" } : Jvm.MethodName)) ∈ lw_all := lw_g (lw_at lw_m8 216 rfl) rfl
theorem q1971 : (Jvm.Cond.selects "ClockworkOrreriesModel" ({ cls := "ClockworkOrreriesModel", name := "setDay", desc := "(I)I" } : Jvm.MethodName) ({ cls := "ClockworkOrreriesModel", name := "setDay", desc := "(I)I" } : Jvm.MethodName)) ∈ lw_all := lw_g (lw_at lw_m8 217 rfl) rfl
theorem q1972 : (Jvm.Cond.code ({ cls := "ClockworkOrreriesModel", name := "setDay", desc := "(I)I" } : Jvm.MethodName) prog_10_method_43_code (2 : Nat) (Option.some Jvm.ClassFile.FieldType.int)) ∈ lw_all := lw_g (lw_at lw_m8 218 rfl) rfl
theorem q1974 : (Jvm.Cond.instanceMethod ({ cls := "ClockworkOrreriesModel", name := "undo", desc := "()I" } : Jvm.MethodName)) ∈ lw_all := lw_g (lw_at lw_m8 220 rfl) rfl
theorem q1975 : (Jvm.Cond.selects "ClockworkOrreriesModel" ({ cls := "ClockworkOrreriesModel", name := "undo", desc := "()I" } : Jvm.MethodName) ({ cls := "ClockworkOrreriesModel", name := "undo", desc := "()I" } : Jvm.MethodName)) ∈ lw_all := lw_g (lw_at lw_m8 221 rfl) rfl
theorem q1976 : (Jvm.Cond.code ({ cls := "ClockworkOrreriesModel", name := "undo", desc := "()I" } : Jvm.MethodName) prog_10_method_44_code (1 : Nat) (Option.some Jvm.ClassFile.FieldType.int)) ∈ lw_all := lw_g (lw_at lw_m8 222 rfl) rfl
theorem q1978 : (Jvm.Cond.instanceMethod ({ cls := "ClockworkOrreriesModel", name := "keep", desc := "()I" } : Jvm.MethodName)) ∈ lw_all := lw_g (lw_at lw_m8 224 rfl) rfl
theorem q1979 : (Jvm.Cond.selects "ClockworkOrreriesModel" ({ cls := "ClockworkOrreriesModel", name := "keep", desc := "()I" } : Jvm.MethodName) ({ cls := "ClockworkOrreriesModel", name := "keep", desc := "()I" } : Jvm.MethodName)) ∈ lw_all := lw_g (lw_at lw_m8 225 rfl) rfl
theorem q1980 : (Jvm.Cond.code ({ cls := "ClockworkOrreriesModel", name := "keep", desc := "()I" } : Jvm.MethodName) prog_10_method_45_code (1 : Nat) (Option.some Jvm.ClassFile.FieldType.int)) ∈ lw_all := lw_g (lw_at lw_m8 226 rfl) rfl
theorem q1982 : (Jvm.Cond.instanceMethod ({ cls := "ClockworkOrreriesModel", name := "goBack", desc := "()I" } : Jvm.MethodName)) ∈ lw_all := lw_g (lw_at lw_m8 228 rfl) rfl
theorem q1983 : (Jvm.Cond.selects "ClockworkOrreriesModel" ({ cls := "ClockworkOrreriesModel", name := "goBack", desc := "()I" } : Jvm.MethodName) ({ cls := "ClockworkOrreriesModel", name := "goBack", desc := "()I" } : Jvm.MethodName)) ∈ lw_all := lw_g (lw_at lw_m8 229 rfl) rfl
theorem q1984 : (Jvm.Cond.code ({ cls := "ClockworkOrreriesModel", name := "goBack", desc := "()I" } : Jvm.MethodName) prog_10_method_46_code (1 : Nat) (Option.some Jvm.ClassFile.FieldType.int)) ∈ lw_all := lw_g (lw_at lw_m8 230 rfl) rfl
theorem q1986 : (Jvm.Cond.instanceMethod ({ cls := "ClockworkOrreriesModel", name := "axles", desc := "()I" } : Jvm.MethodName)) ∈ lw_all := lw_g (lw_at lw_m8 232 rfl) rfl
theorem q1987 : (Jvm.Cond.selects "ClockworkOrreriesModel" ({ cls := "ClockworkOrreriesModel", name := "axles", desc := "()I" } : Jvm.MethodName) ({ cls := "ClockworkOrreriesModel", name := "axles", desc := "()I" } : Jvm.MethodName)) ∈ lw_all := lw_g (lw_at lw_m8 233 rfl) rfl
theorem q1988 : (Jvm.Cond.code ({ cls := "ClockworkOrreriesModel", name := "axles", desc := "()I" } : Jvm.MethodName) prog_10_method_48_code (1 : Nat) (Option.some Jvm.ClassFile.FieldType.int)) ∈ lw_all := lw_g (lw_at lw_m8 234 rfl) rfl
theorem q1989 : (Jvm.Cond.methodLink "ClockworkOrreriesModel" (151 : Nat) ({ cls := "ClockworkOrreriesModel", name := "account", desc := "(I)I" } : Jvm.MethodName)) ∈ lw_all := lw_g (lw_at lw_m8 235 rfl) rfl
theorem q1990 : (Jvm.Cond.privateMethod ({ cls := "ClockworkOrreriesModel", name := "account", desc := "(I)I" } : Jvm.MethodName)) ∈ lw_tbl := lw_at lw_m8 236 rfl
theorem q1991 : (Jvm.Cond.instanceMethod ({ cls := "ClockworkOrreriesModel", name := "account", desc := "(I)I" } : Jvm.MethodName)) ∈ lw_all := lw_g (lw_at lw_m8 237 rfl) rfl
theorem q1992 : (Jvm.Cond.code ({ cls := "ClockworkOrreriesModel", name := "account", desc := "(I)I" } : Jvm.MethodName) prog_10_method_47_code (2 : Nat) (Option.some Jvm.ClassFile.FieldType.int)) ∈ lw_all := lw_g (lw_at lw_m8 238 rfl) rfl
theorem q1994 : (Jvm.Cond.instanceMethod ({ cls := "ClockworkOrreriesModel", name := "wheels", desc := "()I" } : Jvm.MethodName)) ∈ lw_all := lw_g (lw_at lw_m9 0 rfl) rfl
theorem q1995 : (Jvm.Cond.selects "ClockworkOrreriesModel" ({ cls := "ClockworkOrreriesModel", name := "wheels", desc := "()I" } : Jvm.MethodName) ({ cls := "ClockworkOrreriesModel", name := "wheels", desc := "()I" } : Jvm.MethodName)) ∈ lw_all := lw_g (lw_at lw_m9 1 rfl) rfl
theorem q1996 : (Jvm.Cond.code ({ cls := "ClockworkOrreriesModel", name := "wheels", desc := "()I" } : Jvm.MethodName) prog_10_method_49_code (1 : Nat) (Option.some Jvm.ClassFile.FieldType.int)) ∈ lw_all := lw_g (lw_at lw_m9 2 rfl) rfl
theorem q1998 : (Jvm.Cond.instanceMethod ({ cls := "ClockworkOrreriesModel", name := "pairs", desc := "()I" } : Jvm.MethodName)) ∈ lw_all := lw_g (lw_at lw_m9 4 rfl) rfl
theorem q1999 : (Jvm.Cond.selects "ClockworkOrreriesModel" ({ cls := "ClockworkOrreriesModel", name := "pairs", desc := "()I" } : Jvm.MethodName) ({ cls := "ClockworkOrreriesModel", name := "pairs", desc := "()I" } : Jvm.MethodName)) ∈ lw_all := lw_g (lw_at lw_m9 5 rfl) rfl
theorem q2000 : (Jvm.Cond.code ({ cls := "ClockworkOrreriesModel", name := "pairs", desc := "()I" } : Jvm.MethodName) prog_10_method_50_code (1 : Nat) (Option.some Jvm.ClassFile.FieldType.int)) ∈ lw_all := lw_g (lw_at lw_m9 6 rfl) rfl
theorem q2002 : (Jvm.Cond.instanceMethod ({ cls := "ClockworkOrreriesModel", name := "teethOf", desc := "(I)I" } : Jvm.MethodName)) ∈ lw_all := lw_g (lw_at lw_m9 8 rfl) rfl
theorem q2003 : (Jvm.Cond.selects "ClockworkOrreriesModel" ({ cls := "ClockworkOrreriesModel", name := "teethOf", desc := "(I)I" } : Jvm.MethodName) ({ cls := "ClockworkOrreriesModel", name := "teethOf", desc := "(I)I" } : Jvm.MethodName)) ∈ lw_all := lw_g (lw_at lw_m9 9 rfl) rfl
theorem q2004 : (Jvm.Cond.code ({ cls := "ClockworkOrreriesModel", name := "teethOf", desc := "(I)I" } : Jvm.MethodName) prog_10_method_51_code (2 : Nat) (Option.some Jvm.ClassFile.FieldType.int)) ∈ lw_all := lw_g (lw_at lw_m9 10 rfl) rfl
theorem q2005 : (Jvm.Cond.methodLink "ClockworkOrreriesModel" (154 : Nat) ({ cls := "ClockworkOrreriesModel", name := "asks", desc := "(Z)Z" } : Jvm.MethodName)) ∈ lw_all := lw_g (lw_at lw_m9 11 rfl) rfl
theorem q2006 : (Jvm.Cond.privateMethod ({ cls := "ClockworkOrreriesModel", name := "asks", desc := "(Z)Z" } : Jvm.MethodName)) ∈ lw_tbl := lw_at lw_m9 12 rfl
theorem q2007 : (Jvm.Cond.instanceMethod ({ cls := "ClockworkOrreriesModel", name := "asks", desc := "(Z)Z" } : Jvm.MethodName)) ∈ lw_all := lw_g (lw_at lw_m9 13 rfl) rfl
theorem q2008 : (Jvm.Cond.code ({ cls := "ClockworkOrreriesModel", name := "asks", desc := "(Z)Z" } : Jvm.MethodName) prog_10_method_4_code (2 : Nat) (Option.some Jvm.ClassFile.FieldType.boolean)) ∈ lw_all := lw_g (lw_at lw_m9 14 rfl) rfl
theorem q2010 : (Jvm.Cond.instanceMethod ({ cls := "ClockworkOrreriesModel", name := "axleOf", desc := "(I)I" } : Jvm.MethodName)) ∈ lw_all := lw_g (lw_at lw_m9 16 rfl) rfl
theorem q2011 : (Jvm.Cond.selects "ClockworkOrreriesModel" ({ cls := "ClockworkOrreriesModel", name := "axleOf", desc := "(I)I" } : Jvm.MethodName) ({ cls := "ClockworkOrreriesModel", name := "axleOf", desc := "(I)I" } : Jvm.MethodName)) ∈ lw_all := lw_g (lw_at lw_m9 17 rfl) rfl
theorem q2012 : (Jvm.Cond.code ({ cls := "ClockworkOrreriesModel", name := "axleOf", desc := "(I)I" } : Jvm.MethodName) prog_10_method_52_code (2 : Nat) (Option.some Jvm.ClassFile.FieldType.int)) ∈ lw_all := lw_g (lw_at lw_m9 18 rfl) rfl
theorem q2014 : (Jvm.Cond.instanceMethod ({ cls := "ClockworkOrreriesModel", name := "whyNotMesh", desc := "(II)I" } : Jvm.MethodName)) ∈ lw_all := lw_g (lw_at lw_m9 20 rfl) rfl
theorem q2015 : (Jvm.Cond.selects "ClockworkOrreriesModel" ({ cls := "ClockworkOrreriesModel", name := "whyNotMesh", desc := "(II)I" } : Jvm.MethodName) ({ cls := "ClockworkOrreriesModel", name := "whyNotMesh", desc := "(II)I" } : Jvm.MethodName)) ∈ lw_all := lw_g (lw_at lw_m9 21 rfl) rfl
theorem q2016 : (Jvm.Cond.code ({ cls := "ClockworkOrreriesModel", name := "whyNotMesh", desc := "(II)I" } : Jvm.MethodName) prog_10_method_53_code (4 : Nat) (Option.some Jvm.ClassFile.FieldType.int)) ∈ lw_all := lw_g (lw_at lw_m9 22 rfl) rfl
theorem q2018 : (Jvm.Cond.instanceMethod ({ cls := "ClockworkOrreriesModel", name := "isDriven", desc := "(I)Z" } : Jvm.MethodName)) ∈ lw_all := lw_g (lw_at lw_m9 24 rfl) rfl
theorem q2019 : (Jvm.Cond.selects "ClockworkOrreriesModel" ({ cls := "ClockworkOrreriesModel", name := "isDriven", desc := "(I)Z" } : Jvm.MethodName) ({ cls := "ClockworkOrreriesModel", name := "isDriven", desc := "(I)Z" } : Jvm.MethodName)) ∈ lw_all := lw_g (lw_at lw_m9 25 rfl) rfl
theorem q2020 : (Jvm.Cond.code ({ cls := "ClockworkOrreriesModel", name := "isDriven", desc := "(I)Z" } : Jvm.MethodName) prog_10_method_54_code (2 : Nat) (Option.some Jvm.ClassFile.FieldType.boolean)) ∈ lw_all := lw_g (lw_at lw_m9 26 rfl) rfl
theorem q2022 : (Jvm.Cond.instanceMethod ({ cls := "ClockworkOrreriesModel", name := "wayTo", desc := "(I)I" } : Jvm.MethodName)) ∈ lw_all := lw_g (lw_at lw_m9 28 rfl) rfl
theorem q2023 : (Jvm.Cond.selects "ClockworkOrreriesModel" ({ cls := "ClockworkOrreriesModel", name := "wayTo", desc := "(I)I" } : Jvm.MethodName) ({ cls := "ClockworkOrreriesModel", name := "wayTo", desc := "(I)I" } : Jvm.MethodName)) ∈ lw_all := lw_g (lw_at lw_m9 29 rfl) rfl
theorem q2024 : (Jvm.Cond.code ({ cls := "ClockworkOrreriesModel", name := "wayTo", desc := "(I)I" } : Jvm.MethodName) prog_10_method_56_code (2 : Nat) (Option.some Jvm.ClassFile.FieldType.int)) ∈ lw_all := lw_g (lw_at lw_m9 30 rfl) rfl
theorem q2025 : (Jvm.Cond.methodLink "ClockworkOrreriesModel" (158 : Nat) ({ cls := "ClockworkOrreriesModel", name := "asksDriven", desc := "(IZ)Z" } : Jvm.MethodName)) ∈ lw_all := lw_g (lw_at lw_m9 31 rfl) rfl
theorem q2026 : (Jvm.Cond.privateMethod ({ cls := "ClockworkOrreriesModel", name := "asksDriven", desc := "(IZ)Z" } : Jvm.MethodName)) ∈ lw_tbl := lw_at lw_m9 32 rfl
theorem q2027 : (Jvm.Cond.instanceMethod ({ cls := "ClockworkOrreriesModel", name := "asksDriven", desc := "(IZ)Z" } : Jvm.MethodName)) ∈ lw_all := lw_g (lw_at lw_m9 33 rfl) rfl
theorem q2028 : (Jvm.Cond.code ({ cls := "ClockworkOrreriesModel", name := "asksDriven", desc := "(IZ)Z" } : Jvm.MethodName) prog_10_method_55_code (3 : Nat) (Option.some Jvm.ClassFile.FieldType.boolean)) ∈ lw_all := lw_g (lw_at lw_m9 34 rfl) rfl
theorem q2030 : (Jvm.Cond.instanceMethod ({ cls := "ClockworkOrreriesModel", name := "ratioAbove", desc := "(I)J" } : Jvm.MethodName)) ∈ lw_all := lw_g (lw_at lw_m9 36 rfl) rfl
theorem q2031 : (Jvm.Cond.selects "ClockworkOrreriesModel" ({ cls := "ClockworkOrreriesModel", name := "ratioAbove", desc := "(I)J" } : Jvm.MethodName) ({ cls := "ClockworkOrreriesModel", name := "ratioAbove", desc := "(I)J" } : Jvm.MethodName)) ∈ lw_all := lw_g (lw_at lw_m9 37 rfl) rfl
theorem q2032 : (Jvm.Cond.code ({ cls := "ClockworkOrreriesModel", name := "ratioAbove", desc := "(I)J" } : Jvm.MethodName) prog_10_method_57_code (2 : Nat) (Option.some Jvm.ClassFile.FieldType.long)) ∈ lw_all := lw_g (lw_at lw_m9 38 rfl) rfl
theorem q2034 : (Jvm.Cond.instanceMethod ({ cls := "ClockworkOrreriesModel", name := "ratioBelow", desc := "(I)J" } : Jvm.MethodName)) ∈ lw_all := lw_g (lw_at lw_m9 40 rfl) rfl
theorem q2035 : (Jvm.Cond.selects "ClockworkOrreriesModel" ({ cls := "ClockworkOrreriesModel", name := "ratioBelow", desc := "(I)J" } : Jvm.MethodName) ({ cls := "ClockworkOrreriesModel", name := "ratioBelow", desc := "(I)J" } : Jvm.MethodName)) ∈ lw_all := lw_g (lw_at lw_m9 41 rfl) rfl
theorem q2036 : (Jvm.Cond.code ({ cls := "ClockworkOrreriesModel", name := "ratioBelow", desc := "(I)J" } : Jvm.MethodName) prog_10_method_58_code (2 : Nat) (Option.some Jvm.ClassFile.FieldType.long)) ∈ lw_all := lw_g (lw_at lw_m9 42 rfl) rfl
theorem q2038 : (Jvm.Cond.instanceMethod ({ cls := "ClockworkOrreriesModel", name := "isRatioByTeeth", desc := "(I)Z" } : Jvm.MethodName)) ∈ lw_all := lw_g (lw_at lw_m9 44 rfl) rfl
theorem q2039 : (Jvm.Cond.selects "ClockworkOrreriesModel" ({ cls := "ClockworkOrreriesModel", name := "isRatioByTeeth", desc := "(I)Z" } : Jvm.MethodName) ({ cls := "ClockworkOrreriesModel", name := "isRatioByTeeth", desc := "(I)Z" } : Jvm.MethodName)) ∈ lw_all := lw_g (lw_at lw_m9 45 rfl) rfl
theorem q2040 : (Jvm.Cond.code ({ cls := "ClockworkOrreriesModel", name := "isRatioByTeeth", desc := "(I)Z" } : Jvm.MethodName) prog_10_method_59_code (2 : Nat) (Option.some Jvm.ClassFile.FieldType.boolean)) ∈ lw_all := lw_g (lw_at lw_m9 46 rfl) rfl
theorem q2042 : (Jvm.Cond.instanceMethod ({ cls := "ClockworkOrreriesModel", name := "turnsOf", desc := "(I)J" } : Jvm.MethodName)) ∈ lw_all := lw_g (lw_at lw_m9 48 rfl) rfl
theorem q2043 : (Jvm.Cond.selects "ClockworkOrreriesModel" ({ cls := "ClockworkOrreriesModel", name := "turnsOf", desc := "(I)J" } : Jvm.MethodName) ({ cls := "ClockworkOrreriesModel", name := "turnsOf", desc := "(I)J" } : Jvm.MethodName)) ∈ lw_all := lw_g (lw_at lw_m9 49 rfl) rfl
theorem q2044 : (Jvm.Cond.code ({ cls := "ClockworkOrreriesModel", name := "turnsOf", desc := "(I)J" } : Jvm.MethodName) prog_10_method_61_code (2 : Nat) (Option.some Jvm.ClassFile.FieldType.long)) ∈ lw_all := lw_g (lw_at lw_m9 50 rfl) rfl
theorem q2045 : (Jvm.Cond.methodLink "ClockworkOrreriesModel" (162 : Nat) ({ cls := "ClockworkOrreriesModel", name := "size", desc := "(I)J" } : Jvm.MethodName)) ∈ lw_all := lw_g (lw_at lw_m9 51 rfl) rfl
theorem q2046 : (Jvm.Cond.privateMethod ({ cls := "ClockworkOrreriesModel", name := "size", desc := "(I)J" } : Jvm.MethodName)) ∈ lw_tbl := lw_at lw_m9 52 rfl
theorem q2047 : (Jvm.Cond.instanceMethod ({ cls := "ClockworkOrreriesModel", name := "size", desc := "(I)J" } : Jvm.MethodName)) ∈ lw_all := lw_g (lw_at lw_m9 53 rfl) rfl
theorem q2048 : (Jvm.Cond.code ({ cls := "ClockworkOrreriesModel", name := "size", desc := "(I)J" } : Jvm.MethodName) prog_10_method_60_code (2 : Nat) (Option.some Jvm.ClassFile.FieldType.long)) ∈ lw_all := lw_g (lw_at lw_m9 54 rfl) rfl
theorem q2050 : (Jvm.Cond.instanceMethod ({ cls := "ClockworkOrreriesModel", name := "wheelOf", desc := "(IZ)I" } : Jvm.MethodName)) ∈ lw_all := lw_g (lw_at lw_m9 56 rfl) rfl
theorem q2051 : (Jvm.Cond.selects "ClockworkOrreriesModel" ({ cls := "ClockworkOrreriesModel", name := "wheelOf", desc := "(IZ)I" } : Jvm.MethodName) ({ cls := "ClockworkOrreriesModel", name := "wheelOf", desc := "(IZ)I" } : Jvm.MethodName)) ∈ lw_all := lw_g (lw_at lw_m9 57 rfl) rfl
theorem q2052 : (Jvm.Cond.code ({ cls := "ClockworkOrreriesModel", name := "wheelOf", desc := "(IZ)I" } : Jvm.MethodName) prog_10_method_62_code (3 : Nat) (Option.some Jvm.ClassFile.FieldType.int)) ∈ lw_all := lw_g (lw_at lw_m9 58 rfl) rfl
theorem q2054 : (Jvm.Cond.instanceMethod ({ cls := "ClockworkOrreriesModel", name := "sameTeethIn", desc := "(I)I" } : Jvm.MethodName)) ∈ lw_all := lw_g (lw_at lw_m9 60 rfl) rfl
theorem q2055 : (Jvm.Cond.selects "ClockworkOrreriesModel" ({ cls := "ClockworkOrreriesModel", name := "sameTeethIn", desc := "(I)I" } : Jvm.MethodName) ({ cls := "ClockworkOrreriesModel", name := "sameTeethIn", desc := "(I)I" } : Jvm.MethodName)) ∈ lw_all := lw_g (lw_at lw_m9 61 rfl) rfl
theorem q2056 : (Jvm.Cond.code ({ cls := "ClockworkOrreriesModel", name := "sameTeethIn", desc := "(I)I" } : Jvm.MethodName) prog_10_method_65_code (2 : Nat) (Option.some Jvm.ClassFile.FieldType.int)) ∈ lw_all := lw_g (lw_at lw_m9 62 rfl) rfl
theorem q2057 : (Jvm.Cond.methodLink "ClockworkOrreriesModel" (169 : Nat) ({ cls := "ClockworkOrreriesModel", name := "multiple", desc := "(I)I" } : Jvm.MethodName)) ∈ lw_all := lw_g (lw_at lw_m9 63 rfl) rfl
theorem q2058 : (Jvm.Cond.privateMethod ({ cls := "ClockworkOrreriesModel", name := "multiple", desc := "(I)I" } : Jvm.MethodName)) ∈ lw_tbl := lw_at lw_m9 64 rfl
theorem q2059 : (Jvm.Cond.instanceMethod ({ cls := "ClockworkOrreriesModel", name := "multiple", desc := "(I)I" } : Jvm.MethodName)) ∈ lw_all := lw_g (lw_at lw_m9 65 rfl) rfl
theorem q2060 : (Jvm.Cond.code ({ cls := "ClockworkOrreriesModel", name := "multiple", desc := "(I)I" } : Jvm.MethodName) prog_10_method_64_code (2 : Nat) (Option.some Jvm.ClassFile.FieldType.int)) ∈ lw_all := lw_g (lw_at lw_m9 66 rfl) rfl
theorem q2061 : (Jvm.Cond.methodLink "ClockworkOrreriesModel" (166 : Nat) ({ cls := "ClockworkOrreriesModel", name := "sharedTeeth", desc := "(I)I" } : Jvm.MethodName)) ∈ lw_all := lw_g (lw_at lw_m9 67 rfl) rfl
theorem q2062 : (Jvm.Cond.privateMethod ({ cls := "ClockworkOrreriesModel", name := "sharedTeeth", desc := "(I)I" } : Jvm.MethodName)) ∈ lw_tbl := lw_at lw_m9 68 rfl
theorem q2063 : (Jvm.Cond.instanceMethod ({ cls := "ClockworkOrreriesModel", name := "sharedTeeth", desc := "(I)I" } : Jvm.MethodName)) ∈ lw_all := lw_g (lw_at lw_m9 69 rfl) rfl
theorem q2064 : (Jvm.Cond.code ({ cls := "ClockworkOrreriesModel", name := "sharedTeeth", desc := "(I)I" } : Jvm.MethodName) prog_10_method_63_code (2 : Nat) (Option.some Jvm.ClassFile.FieldType.int)) ∈ lw_all := lw_g (lw_at lw_m9 70 rfl) rfl
theorem q2066 : (Jvm.Cond.instanceMethod ({ cls := "ClockworkOrreriesModel", name := "sameTeethByGoing", desc := "(I)I" } : Jvm.MethodName)) ∈ lw_all := lw_g (lw_at lw_m9 72 rfl) rfl
theorem q2067 : (Jvm.Cond.selects "ClockworkOrreriesModel" ({ cls := "ClockworkOrreriesModel", name := "sameTeethByGoing", desc := "(I)I" } : Jvm.MethodName) ({ cls := "ClockworkOrreriesModel", name := "sameTeethByGoing", desc := "(I)I" } : Jvm.MethodName)) ∈ lw_all := lw_g (lw_at lw_m9 73 rfl) rfl
theorem q2068 : (Jvm.Cond.code ({ cls := "ClockworkOrreriesModel", name := "sameTeethByGoing", desc := "(I)I" } : Jvm.MethodName) prog_10_method_66_code (2 : Nat) (Option.some Jvm.ClassFile.FieldType.int)) ∈ lw_all := lw_g (lw_at lw_m9 74 rfl) rfl
theorem q2070 : (Jvm.Cond.instanceMethod ({ cls := "ClockworkOrreriesModel", name := "isEven", desc := "(I)Z" } : Jvm.MethodName)) ∈ lw_all := lw_g (lw_at lw_m9 76 rfl) rfl
theorem q2071 : (Jvm.Cond.selects "ClockworkOrreriesModel" ({ cls := "ClockworkOrreriesModel", name := "isEven", desc := "(I)Z" } : Jvm.MethodName) ({ cls := "ClockworkOrreriesModel", name := "isEven", desc := "(I)Z" } : Jvm.MethodName)) ∈ lw_all := lw_g (lw_at lw_m9 77 rfl) rfl
theorem q2072 : (Jvm.Cond.code ({ cls := "ClockworkOrreriesModel", name := "isEven", desc := "(I)Z" } : Jvm.MethodName) prog_10_method_67_code (2 : Nat) (Option.some Jvm.ClassFile.FieldType.boolean)) ∈ lw_all := lw_g (lw_at lw_m9 78 rfl) rfl
theorem q2074 : (Jvm.Cond.instanceMethod ({ cls := "ClockworkOrreriesModel", name := "teethGone", desc := "(I)J" } : Jvm.MethodName)) ∈ lw_all := lw_g (lw_at lw_m9 80 rfl) rfl
theorem q2075 : (Jvm.Cond.selects "ClockworkOrreriesModel" ({ cls := "ClockworkOrreriesModel", name := "teethGone", desc := "(I)J" } : Jvm.MethodName) ({ cls := "ClockworkOrreriesModel", name := "teethGone", desc := "(I)J" } : Jvm.MethodName)) ∈ lw_all := lw_g (lw_at lw_m9 81 rfl) rfl
theorem q2076 : (Jvm.Cond.code ({ cls := "ClockworkOrreriesModel", name := "teethGone", desc := "(I)J" } : Jvm.MethodName) prog_10_method_68_code (4 : Nat) (Option.some Jvm.ClassFile.FieldType.long)) ∈ lw_all := lw_g (lw_at lw_m9 82 rfl) rfl
theorem q2078 : (Jvm.Cond.instanceMethod ({ cls := "ClockworkOrreriesModel", name := "arms", desc := "()I" } : Jvm.MethodName)) ∈ lw_all := lw_g (lw_at lw_m9 84 rfl) rfl
theorem q2079 : (Jvm.Cond.selects "ClockworkOrreriesModel" ({ cls := "ClockworkOrreriesModel", name := "arms", desc := "()I" } : Jvm.MethodName) ({ cls := "ClockworkOrreriesModel", name := "arms", desc := "()I" } : Jvm.MethodName)) ∈ lw_all := lw_g (lw_at lw_m9 85 rfl) rfl
theorem q2080 : (Jvm.Cond.code ({ cls := "ClockworkOrreriesModel", name := "arms", desc := "()I" } : Jvm.MethodName) prog_10_method_73_code (1 : Nat) (Option.some Jvm.ClassFile.FieldType.int)) ∈ lw_all := lw_g (lw_at lw_m9 86 rfl) rfl
theorem q2082 : (Jvm.Cond.instanceMethod ({ cls := "ClockworkOrreriesModel", name := "moons", desc := "()I" } : Jvm.MethodName)) ∈ lw_all := lw_g (lw_at lw_m9 88 rfl) rfl
theorem q2083 : (Jvm.Cond.selects "ClockworkOrreriesModel" ({ cls := "ClockworkOrreriesModel", name := "moons", desc := "()I" } : Jvm.MethodName) ({ cls := "ClockworkOrreriesModel", name := "moons", desc := "()I" } : Jvm.MethodName)) ∈ lw_all := lw_g (lw_at lw_m9 89 rfl) rfl
theorem q2084 : (Jvm.Cond.code ({ cls := "ClockworkOrreriesModel", name := "moons", desc := "()I" } : Jvm.MethodName) prog_10_method_74_code (1 : Nat) (Option.some Jvm.ClassFile.FieldType.int)) ∈ lw_all := lw_g (lw_at lw_m9 90 rfl) rfl
theorem q2086 : (Jvm.Cond.instanceMethod ({ cls := "ClockworkOrreriesModel", name := "bendOf", desc := "(I)I" } : Jvm.MethodName)) ∈ lw_all := lw_g (lw_at lw_m9 92 rfl) rfl
theorem q2087 : (Jvm.Cond.selects "ClockworkOrreriesModel" ({ cls := "ClockworkOrreriesModel", name := "bendOf", desc := "(I)I" } : Jvm.MethodName) ({ cls := "ClockworkOrreriesModel", name := "bendOf", desc := "(I)I" } : Jvm.MethodName)) ∈ lw_all := lw_g (lw_at lw_m9 93 rfl) rfl
theorem q2088 : (Jvm.Cond.code ({ cls := "ClockworkOrreriesModel", name := "bendOf", desc := "(I)I" } : Jvm.MethodName) prog_10_method_75_code (2 : Nat) (Option.some Jvm.ClassFile.FieldType.int)) ∈ lw_all := lw_g (lw_at lw_m9 94 rfl) rfl
theorem q2090 : (Jvm.Cond.instanceMethod ({ cls := "ClockworkOrreriesModel", name := "angleOf", desc := "(I)I" } : Jvm.MethodName)) ∈ lw_all := lw_g (lw_at lw_m9 96 rfl) rfl
theorem q2091 : (Jvm.Cond.selects "ClockworkOrreriesModel" ({ cls := "ClockworkOrreriesModel", name := "angleOf", desc := "(I)I" } : Jvm.MethodName) ({ cls := "ClockworkOrreriesModel", name := "angleOf", desc := "(I)I" } : Jvm.MethodName)) ∈ lw_all := lw_g (lw_at lw_m9 97 rfl) rfl
theorem q2092 : (Jvm.Cond.code ({ cls := "ClockworkOrreriesModel", name := "angleOf", desc := "(I)I" } : Jvm.MethodName) prog_10_method_78_code (2 : Nat) (Option.some Jvm.ClassFile.FieldType.int)) ∈ lw_all := lw_g (lw_at lw_m9 98 rfl) rfl
theorem q2093 : (Jvm.Cond.methodLink "ClockworkOrreriesModel" (186 : Nat) ({ cls := "ClockworkOrreriesModel", name := "toldAngle", desc := "(I)I" } : Jvm.MethodName)) ∈ lw_all := lw_g (lw_at lw_m9 99 rfl) rfl
theorem q2094 : (Jvm.Cond.privateMethod ({ cls := "ClockworkOrreriesModel", name := "toldAngle", desc := "(I)I" } : Jvm.MethodName)) ∈ lw_tbl := lw_at lw_m9 100 rfl
theorem q2095 : (Jvm.Cond.instanceMethod ({ cls := "ClockworkOrreriesModel", name := "toldAngle", desc := "(I)I" } : Jvm.MethodName)) ∈ lw_all := lw_g (lw_at lw_m9 101 rfl) rfl
theorem q2096 : (Jvm.Cond.code ({ cls := "ClockworkOrreriesModel", name := "toldAngle", desc := "(I)I" } : Jvm.MethodName) prog_10_method_77_code (2 : Nat) (Option.some Jvm.ClassFile.FieldType.int)) ∈ lw_all := lw_g (lw_at lw_m9 102 rfl) rfl
theorem q2097 : (Jvm.Cond.methodLink "ClockworkOrreriesModel" (180 : Nat) ({ cls := "ClockworkOrreriesModel", name := "asksArm", desc := "(IZ)Z" } : Jvm.MethodName)) ∈ lw_all := lw_g (lw_at lw_m9 103 rfl) rfl
theorem q2098 : (Jvm.Cond.privateMethod ({ cls := "ClockworkOrreriesModel", name := "asksArm", desc := "(IZ)Z" } : Jvm.MethodName)) ∈ lw_tbl := lw_at lw_m9 104 rfl
theorem q2099 : (Jvm.Cond.instanceMethod ({ cls := "ClockworkOrreriesModel", name := "asksArm", desc := "(IZ)Z" } : Jvm.MethodName)) ∈ lw_all := lw_g (lw_at lw_m9 105 rfl) rfl
theorem q2100 : (Jvm.Cond.code ({ cls := "ClockworkOrreriesModel", name := "asksArm", desc := "(IZ)Z" } : Jvm.MethodName) prog_10_method_76_code (4 : Nat) (Option.some Jvm.ClassFile.FieldType.boolean)) ∈ lw_all := lw_g (lw_at lw_m9 106 rfl) rfl
theorem q2101 : (Jvm.Cond.methodLink "ClockworkOrreriesModel" (183 : Nat) ({ cls := "ClockworkOrreriesModel", name := "armAngle", desc := "(II)I" } : Jvm.MethodName)) ∈ lw_all := lw_g (lw_at lw_m9 107 rfl) rfl
theorem q2102 : (Jvm.Cond.privateMethod ({ cls := "ClockworkOrreriesModel", name := "armAngle", desc := "(II)I" } : Jvm.MethodName)) ∈ lw_tbl := lw_at lw_m9 108 rfl
theorem q2103 : (Jvm.Cond.instanceMethod ({ cls := "ClockworkOrreriesModel", name := "armAngle", desc := "(II)I" } : Jvm.MethodName)) ∈ lw_all := lw_g (lw_at lw_m9 109 rfl) rfl
theorem q2104 : (Jvm.Cond.code ({ cls := "ClockworkOrreriesModel", name := "armAngle", desc := "(II)I" } : Jvm.MethodName) prog_10_method_71_code (3 : Nat) (Option.some Jvm.ClassFile.FieldType.int)) ∈ lw_all := lw_g (lw_at lw_m9 110 rfl) rfl
theorem q2105 : (Jvm.Cond.methodLink "ClockworkOrreriesModel" (174 : Nat) ({ cls := "ClockworkOrreriesModel", name := "angle", desc := "(II)I" } : Jvm.MethodName)) ∈ lw_all := lw_g (lw_at lw_m9 111 rfl) rfl
theorem q2106 : (Jvm.Cond.privateMethod ({ cls := "ClockworkOrreriesModel", name := "angle", desc := "(II)I" } : Jvm.MethodName)) ∈ lw_tbl := lw_at lw_m9 112 rfl
theorem q2107 : (Jvm.Cond.instanceMethod ({ cls := "ClockworkOrreriesModel", name := "angle", desc := "(II)I" } : Jvm.MethodName)) ∈ lw_all := lw_g (lw_at lw_m9 113 rfl) rfl
theorem q2108 : (Jvm.Cond.code ({ cls := "ClockworkOrreriesModel", name := "angle", desc := "(II)I" } : Jvm.MethodName) prog_10_method_69_code (5 : Nat) (Option.some Jvm.ClassFile.FieldType.int)) ∈ lw_all := lw_g (lw_at lw_m9 114 rfl) rfl
theorem q2109 : (Jvm.Cond.constantLong "ClockworkOrreriesModel" (172 : Nat) (21600 : Int64)) ∈ lw_all := lw_g (lw_at lw_m9 115 rfl) rfl
theorem q2110 : (Jvm.Cond.methodLink "ClockworkOrreriesModel" (177 : Nat) ({ cls := "ClockworkOrreriesModel", name := "brought", desc := "(I)I" } : Jvm.MethodName)) ∈ lw_all := lw_g (lw_at lw_m9 116 rfl) rfl
theorem q2111 : (Jvm.Cond.static ({ cls := "ClockworkOrreriesModel", name := "brought", desc := "(I)I" } : Jvm.MethodName)) ∈ lw_all := lw_g (lw_at lw_m9 117 rfl) rfl
theorem q2112 : (Jvm.Cond.code ({ cls := "ClockworkOrreriesModel", name := "brought", desc := "(I)I" } : Jvm.MethodName) prog_10_method_70_code (1 : Nat) (Option.some Jvm.ClassFile.FieldType.int)) ∈ lw_all := lw_g (lw_at lw_m9 118 rfl) rfl
theorem q2114 : (Jvm.Cond.instanceMethod ({ cls := "ClockworkOrreriesModel", name := "angleByTeeth", desc := "(I)I" } : Jvm.MethodName)) ∈ lw_all := lw_g (lw_at lw_m9 120 rfl) rfl
theorem q2115 : (Jvm.Cond.selects "ClockworkOrreriesModel" ({ cls := "ClockworkOrreriesModel", name := "angleByTeeth", desc := "(I)I" } : Jvm.MethodName) ({ cls := "ClockworkOrreriesModel", name := "angleByTeeth", desc := "(I)I" } : Jvm.MethodName)) ∈ lw_all := lw_g (lw_at lw_m9 121 rfl) rfl
theorem q2116 : (Jvm.Cond.code ({ cls := "ClockworkOrreriesModel", name := "angleByTeeth", desc := "(I)I" } : Jvm.MethodName) prog_10_method_79_code (2 : Nat) (Option.some Jvm.ClassFile.FieldType.int)) ∈ lw_all := lw_g (lw_at lw_m9 122 rfl) rfl
theorem q2118 : (Jvm.Cond.instanceMethod ({ cls := "ClockworkOrreriesModel", name := "moonAngle", desc := "(I)I" } : Jvm.MethodName)) ∈ lw_all := lw_g (lw_at lw_m9 124 rfl) rfl
theorem q2119 : (Jvm.Cond.selects "ClockworkOrreriesModel" ({ cls := "ClockworkOrreriesModel", name := "moonAngle", desc := "(I)I" } : Jvm.MethodName) ({ cls := "ClockworkOrreriesModel", name := "moonAngle", desc := "(I)I" } : Jvm.MethodName)) ∈ lw_all := lw_g (lw_at lw_m9 125 rfl) rfl
theorem q2120 : (Jvm.Cond.code ({ cls := "ClockworkOrreriesModel", name := "moonAngle", desc := "(I)I" } : Jvm.MethodName) prog_10_method_81_code (2 : Nat) (Option.some Jvm.ClassFile.FieldType.int)) ∈ lw_all := lw_g (lw_at lw_m9 126 rfl) rfl
theorem q2121 : (Jvm.Cond.methodLink "ClockworkOrreriesModel" (192 : Nat) ({ cls := "ClockworkOrreriesModel", name := "asksMoon", desc := "(I)Z" } : Jvm.MethodName)) ∈ lw_all := lw_g (lw_at lw_m9 127 rfl) rfl
theorem q2122 : (Jvm.Cond.privateMethod ({ cls := "ClockworkOrreriesModel", name := "asksMoon", desc := "(I)Z" } : Jvm.MethodName)) ∈ lw_tbl := lw_at lw_m9 128 rfl
theorem q2123 : (Jvm.Cond.instanceMethod ({ cls := "ClockworkOrreriesModel", name := "asksMoon", desc := "(I)Z" } : Jvm.MethodName)) ∈ lw_all := lw_g (lw_at lw_m9 129 rfl) rfl
theorem q2124 : (Jvm.Cond.code ({ cls := "ClockworkOrreriesModel", name := "asksMoon", desc := "(I)Z" } : Jvm.MethodName) prog_10_method_80_code (3 : Nat) (Option.some Jvm.ClassFile.FieldType.boolean)) ∈ lw_all := lw_g (lw_at lw_m9 130 rfl) rfl
theorem q2125 : (Jvm.Cond.methodLink "ClockworkOrreriesModel" (189 : Nat) ({ cls := "ClockworkOrreriesModel", name := "isMoon", desc := "(I)Z" } : Jvm.MethodName)) ∈ lw_all := lw_g (lw_at lw_m9 131 rfl) rfl
theorem q2126 : (Jvm.Cond.privateMethod ({ cls := "ClockworkOrreriesModel", name := "isMoon", desc := "(I)Z" } : Jvm.MethodName)) ∈ lw_tbl := lw_at lw_m9 132 rfl
theorem q2127 : (Jvm.Cond.instanceMethod ({ cls := "ClockworkOrreriesModel", name := "isMoon", desc := "(I)Z" } : Jvm.MethodName)) ∈ lw_all := lw_g (lw_at lw_m9 133 rfl) rfl
theorem q2128 : (Jvm.Cond.code ({ cls := "ClockworkOrreriesModel", name := "isMoon", desc := "(I)Z" } : Jvm.MethodName) prog_10_method_14_code (2 : Nat) (Option.some Jvm.ClassFile.FieldType.boolean)) ∈ lw_all := lw_g (lw_at lw_m9 134 rfl) rfl
theorem q2130 : (Jvm.Cond.instanceMethod ({ cls := "ClockworkOrreriesModel", name := "isSlow", desc := "(I)Z" } : Jvm.MethodName)) ∈ lw_all := lw_g (lw_at lw_m9 136 rfl) rfl
theorem q2131 : (Jvm.Cond.selects "ClockworkOrreriesModel" ({ cls := "ClockworkOrreriesModel", name := "isSlow", desc := "(I)Z" } : Jvm.MethodName) ({ cls := "ClockworkOrreriesModel", name := "isSlow", desc := "(I)Z" } : Jvm.MethodName)) ∈ lw_all := lw_g (lw_at lw_m9 137 rfl) rfl
theorem q2132 : (Jvm.Cond.code ({ cls := "ClockworkOrreriesModel", name := "isSlow", desc := "(I)Z" } : Jvm.MethodName) prog_10_method_82_code (4 : Nat) (Option.some Jvm.ClassFile.FieldType.boolean)) ∈ lw_all := lw_g (lw_at lw_m9 138 rfl) rfl
theorem q2134 : (Jvm.Cond.instanceMethod ({ cls := "ClockworkOrreriesModel", name := "meetIn", desc := "(III)I" } : Jvm.MethodName)) ∈ lw_all := lw_g (lw_at lw_m9 140 rfl) rfl
theorem q2135 : (Jvm.Cond.selects "ClockworkOrreriesModel" ({ cls := "ClockworkOrreriesModel", name := "meetIn", desc := "(III)I" } : Jvm.MethodName) ({ cls := "ClockworkOrreriesModel", name := "meetIn", desc := "(III)I" } : Jvm.MethodName)) ∈ lw_all := lw_g (lw_at lw_m9 141 rfl) rfl
theorem q2136 : (Jvm.Cond.code ({ cls := "ClockworkOrreriesModel", name := "meetIn", desc := "(III)I" } : Jvm.MethodName) prog_10_method_87_code (5 : Nat) (Option.some Jvm.ClassFile.FieldType.int)) ∈ lw_all := lw_g (lw_at lw_m9 142 rfl) rfl
theorem q2137 : (Jvm.Cond.methodLink "ClockworkOrreriesModel" (201 : Nat) ({ cls := "ClockworkOrreriesModel", name := "isTolerance", desc := "(I)Z" } : Jvm.MethodName)) ∈ lw_all := lw_g (lw_at lw_m9 143 rfl) rfl
theorem q2138 : (Jvm.Cond.static ({ cls := "ClockworkOrreriesModel", name := "isTolerance", desc := "(I)Z" } : Jvm.MethodName)) ∈ lw_all := lw_g (lw_at lw_m9 144 rfl) rfl
theorem q2139 : (Jvm.Cond.code ({ cls := "ClockworkOrreriesModel", name := "isTolerance", desc := "(I)Z" } : Jvm.MethodName) prog_10_method_86_code (1 : Nat) (Option.some Jvm.ClassFile.FieldType.boolean)) ∈ lw_all := lw_g (lw_at lw_m9 145 rfl) rfl
theorem q2140 : (Jvm.Cond.methodLink "ClockworkOrreriesModel" (204 : Nat) ({ cls := "ClockworkOrreriesModel", name := "asksArms", desc := "(IIZ)Z" } : Jvm.MethodName)) ∈ lw_all := lw_g (lw_at lw_m9 146 rfl) rfl
theorem q2141 : (Jvm.Cond.privateMethod ({ cls := "ClockworkOrreriesModel", name := "asksArms", desc := "(IIZ)Z" } : Jvm.MethodName)) ∈ lw_tbl := lw_at lw_m9 147 rfl
theorem q2142 : (Jvm.Cond.instanceMethod ({ cls := "ClockworkOrreriesModel", name := "asksArms", desc := "(IIZ)Z" } : Jvm.MethodName)) ∈ lw_all := lw_g (lw_at lw_m9 148 rfl) rfl
theorem q2143 : (Jvm.Cond.code ({ cls := "ClockworkOrreriesModel", name := "asksArms", desc := "(IIZ)Z" } : Jvm.MethodName) prog_10_method_84_code (5 : Nat) (Option.some Jvm.ClassFile.FieldType.boolean)) ∈ lw_all := lw_g (lw_at lw_m9 149 rfl) rfl
theorem q2144 : (Jvm.Cond.methodLink "ClockworkOrreriesModel" (195 : Nat) ({ cls := "ClockworkOrreriesModel", name := "areArms", desc := "(II)Z" } : Jvm.MethodName)) ∈ lw_all := lw_g (lw_at lw_m9 150 rfl) rfl
theorem q2145 : (Jvm.Cond.privateMethod ({ cls := "ClockworkOrreriesModel", name := "areArms", desc := "(II)Z" } : Jvm.MethodName)) ∈ lw_tbl := lw_at lw_m9 151 rfl
theorem q2146 : (Jvm.Cond.instanceMethod ({ cls := "ClockworkOrreriesModel", name := "areArms", desc := "(II)Z" } : Jvm.MethodName)) ∈ lw_all := lw_g (lw_at lw_m9 152 rfl) rfl
theorem q2147 : (Jvm.Cond.code ({ cls := "ClockworkOrreriesModel", name := "areArms", desc := "(II)Z" } : Jvm.MethodName) prog_10_method_83_code (3 : Nat) (Option.some Jvm.ClassFile.FieldType.boolean)) ∈ lw_all := lw_g (lw_at lw_m9 153 rfl) rfl
theorem q2148 : (Jvm.Cond.methodLink "ClockworkOrreriesModel" (208 : Nat) ({ cls := "ClockworkOrreriesModel", name := "meet", desc := "(IIII)Z" } : Jvm.MethodName)) ∈ lw_all := lw_g (lw_at lw_m9 154 rfl) rfl
theorem q2149 : (Jvm.Cond.privateMethod ({ cls := "ClockworkOrreriesModel", name := "meet", desc := "(IIII)Z" } : Jvm.MethodName)) ∈ lw_tbl := lw_at lw_m9 155 rfl
theorem q2150 : (Jvm.Cond.instanceMethod ({ cls := "ClockworkOrreriesModel", name := "meet", desc := "(IIII)Z" } : Jvm.MethodName)) ∈ lw_all := lw_g (lw_at lw_m9 156 rfl) rfl
theorem q2151 : (Jvm.Cond.code ({ cls := "ClockworkOrreriesModel", name := "meet", desc := "(IIII)Z" } : Jvm.MethodName) prog_10_method_85_code (5 : Nat) (Option.some Jvm.ClassFile.FieldType.boolean)) ∈ lw_all := lw_g (lw_at lw_m9 157 rfl) rfl
theorem q2152 : (Jvm.Cond.methodLink "ClockworkOrreriesModel" (198 : Nat) ({ cls := "ClockworkOrreriesModel", name := "apart", desc := "(II)I" } : Jvm.MethodName)) ∈ lw_all := lw_g (lw_at lw_m9 158 rfl) rfl
theorem q2153 : (Jvm.Cond.static ({ cls := "ClockworkOrreriesModel", name := "apart", desc := "(II)I" } : Jvm.MethodName)) ∈ lw_all := lw_g (lw_at lw_m9 159 rfl) rfl
theorem q2154 : (Jvm.Cond.code ({ cls := "ClockworkOrreriesModel", name := "apart", desc := "(II)I" } : Jvm.MethodName) prog_10_method_72_code (3 : Nat) (Option.some Jvm.ClassFile.FieldType.int)) ∈ lw_all := lw_g (lw_at lw_m9 160 rfl) rfl
theorem q2156 : (Jvm.Cond.instanceMethod ({ cls := "ClockworkOrreriesModel", name := "meetings", desc := "(III)I" } : Jvm.MethodName)) ∈ lw_all := lw_g (lw_at lw_m9 162 rfl) rfl
theorem q2157 : (Jvm.Cond.selects "ClockworkOrreriesModel" ({ cls := "ClockworkOrreriesModel", name := "meetings", desc := "(III)I" } : Jvm.MethodName) ({ cls := "ClockworkOrreriesModel", name := "meetings", desc := "(III)I" } : Jvm.MethodName)) ∈ lw_all := lw_g (lw_at lw_m9 163 rfl) rfl
theorem q2158 : (Jvm.Cond.code ({ cls := "ClockworkOrreriesModel", name := "meetings", desc := "(III)I" } : Jvm.MethodName) prog_10_method_88_code (6 : Nat) (Option.some Jvm.ClassFile.FieldType.int)) ∈ lw_all := lw_g (lw_at lw_m9 164 rfl) rfl
theorem q2160 : (Jvm.Cond.instanceMethod ({ cls := "ClockworkOrreriesModel", name := "differenceAbove", desc := "(II)J" } : Jvm.MethodName)) ∈ lw_all := lw_g (lw_at lw_m9 166 rfl) rfl
theorem q2161 : (Jvm.Cond.selects "ClockworkOrreriesModel" ({ cls := "ClockworkOrreriesModel", name := "differenceAbove", desc := "(II)J" } : Jvm.MethodName) ({ cls := "ClockworkOrreriesModel", name := "differenceAbove", desc := "(II)J" } : Jvm.MethodName)) ∈ lw_all := lw_g (lw_at lw_m9 167 rfl) rfl
theorem q2162 : (Jvm.Cond.code ({ cls := "ClockworkOrreriesModel", name := "differenceAbove", desc := "(II)J" } : Jvm.MethodName) prog_10_method_91_code (3 : Nat) (Option.some Jvm.ClassFile.FieldType.long)) ∈ lw_all := lw_g (lw_at lw_m9 168 rfl) rfl
theorem q2163 : (Jvm.Cond.methodLink "ClockworkOrreriesModel" (222 : Nat) ({ cls := "ClockworkOrreriesModel", name := "asksDifference", desc := "(II)Z" } : Jvm.MethodName)) ∈ lw_all := lw_g (lw_at lw_m9 169 rfl) rfl
theorem q2164 : (Jvm.Cond.privateMethod ({ cls := "ClockworkOrreriesModel", name := "asksDifference", desc := "(II)Z" } : Jvm.MethodName)) ∈ lw_tbl := lw_at lw_m9 170 rfl
theorem q2165 : (Jvm.Cond.instanceMethod ({ cls := "ClockworkOrreriesModel", name := "asksDifference", desc := "(II)Z" } : Jvm.MethodName)) ∈ lw_all := lw_g (lw_at lw_m9 171 rfl) rfl
theorem q2166 : (Jvm.Cond.code ({ cls := "ClockworkOrreriesModel", name := "asksDifference", desc := "(II)Z" } : Jvm.MethodName) prog_10_method_90_code (3 : Nat) (Option.some Jvm.ClassFile.FieldType.boolean)) ∈ lw_all := lw_g (lw_at lw_m9 172 rfl) rfl
theorem q2167 : (Jvm.Cond.methodLink "ClockworkOrreriesModel" (219 : Nat) ({ cls := "ClockworkOrreriesModel", name := "differs", desc := "(II)V" } : Jvm.MethodName)) ∈ lw_all := lw_g (lw_at lw_m9 173 rfl) rfl
theorem q2168 : (Jvm.Cond.privateMethod ({ cls := "ClockworkOrreriesModel", name := "differs", desc := "(II)V" } : Jvm.MethodName)) ∈ lw_tbl := lw_at lw_m9 174 rfl
theorem q2169 : (Jvm.Cond.instanceMethod ({ cls := "ClockworkOrreriesModel", name := "differs", desc := "(II)V" } : Jvm.MethodName)) ∈ lw_all := lw_g (lw_at lw_m9 175 rfl) rfl
theorem q2170 : (Jvm.Cond.code ({ cls := "ClockworkOrreriesModel", name := "differs", desc := "(II)V" } : Jvm.MethodName) prog_10_method_89_code (9 : Nat) (Option.none : Option Jvm.ClassFile.FieldType)) ∈ lw_all := lw_g (lw_at lw_m9 176 rfl) rfl
theorem q2172 : (Jvm.Cond.instanceMethod ({ cls := "ClockworkOrreriesModel", name := "comeBackIn", desc := "(II)J" } : Jvm.MethodName)) ∈ lw_all := lw_g (lw_at lw_m9 178 rfl) rfl
theorem q2173 : (Jvm.Cond.selects "ClockworkOrreriesModel" ({ cls := "ClockworkOrreriesModel", name := "comeBackIn", desc := "(II)J" } : Jvm.MethodName) ({ cls := "ClockworkOrreriesModel", name := "comeBackIn", desc := "(II)J" } : Jvm.MethodName)) ∈ lw_all := lw_g (lw_at lw_m9 179 rfl) rfl
theorem q2174 : (Jvm.Cond.code ({ cls := "ClockworkOrreriesModel", name := "comeBackIn", desc := "(II)J" } : Jvm.MethodName) prog_10_method_92_code (3 : Nat) (Option.some Jvm.ClassFile.FieldType.long)) ∈ lw_all := lw_g (lw_at lw_m9 180 rfl) rfl
theorem q2176 : (Jvm.Cond.instanceMethod ({ cls := "ClockworkOrreriesModel", name := "allMeetIn", desc := "(IIII)I" } : Jvm.MethodName)) ∈ lw_all := lw_g (lw_at lw_m9 182 rfl) rfl
theorem q2177 : (Jvm.Cond.selects "ClockworkOrreriesModel" ({ cls := "ClockworkOrreriesModel", name := "allMeetIn", desc := "(IIII)I" } : Jvm.MethodName) ({ cls := "ClockworkOrreriesModel", name := "allMeetIn", desc := "(IIII)I" } : Jvm.MethodName)) ∈ lw_all := lw_g (lw_at lw_m9 183 rfl) rfl
theorem q2178 : (Jvm.Cond.code ({ cls := "ClockworkOrreriesModel", name := "allMeetIn", desc := "(IIII)I" } : Jvm.MethodName) prog_10_method_93_code (8 : Nat) (Option.some Jvm.ClassFile.FieldType.int)) ∈ lw_all := lw_g (lw_at lw_m9 184 rfl) rfl
theorem q2180 : (Jvm.Cond.instanceMethod ({ cls := "ClockworkOrreriesModel", name := "farthestIn", desc := "(II)I" } : Jvm.MethodName)) ∈ lw_all := lw_g (lw_at lw_m9 186 rfl) rfl
theorem q2181 : (Jvm.Cond.selects "ClockworkOrreriesModel" ({ cls := "ClockworkOrreriesModel", name := "farthestIn", desc := "(II)I" } : Jvm.MethodName) ({ cls := "ClockworkOrreriesModel", name := "farthestIn", desc := "(II)I" } : Jvm.MethodName)) ∈ lw_all := lw_g (lw_at lw_m9 187 rfl) rfl
theorem q2182 : (Jvm.Cond.code ({ cls := "ClockworkOrreriesModel", name := "farthestIn", desc := "(II)I" } : Jvm.MethodName) prog_10_method_94_code (7 : Nat) (Option.some Jvm.ClassFile.FieldType.int)) ∈ lw_all := lw_g (lw_at lw_m9 188 rfl) rfl
theorem q2184 : (Jvm.Cond.instanceMethod ({ cls := "ClockworkOrreriesModel", name := "bendFor", desc := "(II)I" } : Jvm.MethodName)) ∈ lw_all := lw_g (lw_at lw_m9 190 rfl) rfl
theorem q2185 : (Jvm.Cond.selects "ClockworkOrreriesModel" ({ cls := "ClockworkOrreriesModel", name := "bendFor", desc := "(II)I" } : Jvm.MethodName) ({ cls := "ClockworkOrreriesModel", name := "bendFor", desc := "(II)I" } : Jvm.MethodName)) ∈ lw_all := lw_g (lw_at lw_m9 191 rfl) rfl
theorem q2186 : (Jvm.Cond.code ({ cls := "ClockworkOrreriesModel", name := "bendFor", desc := "(II)I" } : Jvm.MethodName) prog_10_method_95_code (8 : Nat) (Option.some Jvm.ClassFile.FieldType.int)) ∈ lw_all := lw_g (lw_at lw_m9 192 rfl) rfl
theorem q2188 : (Jvm.Cond.instanceMethod ({ cls := "ClockworkOrreriesModel", name := "day", desc := "()I" } : Jvm.MethodName)) ∈ lw_all := lw_g (lw_at lw_m9 194 rfl) rfl
theorem q2189 : (Jvm.Cond.selects "ClockworkOrreriesModel" ({ cls := "ClockworkOrreriesModel", name := "day", desc := "()I" } : Jvm.MethodName) ({ cls := "ClockworkOrreriesModel", name := "day", desc := "()I" } : Jvm.MethodName)) ∈ lw_all := lw_g (lw_at lw_m9 195 rfl) rfl
theorem q2190 : (Jvm.Cond.code ({ cls := "ClockworkOrreriesModel", name := "day", desc := "()I" } : Jvm.MethodName) prog_10_method_99_code (1 : Nat) (Option.some Jvm.ClassFile.FieldType.int)) ∈ lw_all := lw_g (lw_at lw_m9 196 rfl) rfl
theorem q2192 : (Jvm.Cond.instanceMethod ({ cls := "ClockworkOrreriesModel", name := "date", desc := "()I" } : Jvm.MethodName)) ∈ lw_all := lw_g (lw_at lw_m9 198 rfl) rfl
theorem q2193 : (Jvm.Cond.selects "ClockworkOrreriesModel" ({ cls := "ClockworkOrreriesModel", name := "date", desc := "()I" } : Jvm.MethodName) ({ cls := "ClockworkOrreriesModel", name := "date", desc := "()I" } : Jvm.MethodName)) ∈ lw_all := lw_g (lw_at lw_m9 199 rfl) rfl
theorem q2194 : (Jvm.Cond.code ({ cls := "ClockworkOrreriesModel", name := "date", desc := "()I" } : Jvm.MethodName) prog_10_method_101_code (1 : Nat) (Option.some Jvm.ClassFile.FieldType.int)) ∈ lw_all := lw_g (lw_at lw_m9 200 rfl) rfl
theorem q2195 : (Jvm.Cond.methodLink "ClockworkOrreriesModel" (247 : Nat) ({ cls := "ClockworkOrreriesModel", name := "toldDate", desc := "()I" } : Jvm.MethodName)) ∈ lw_all := lw_g (lw_at lw_m9 201 rfl) rfl
theorem q2196 : (Jvm.Cond.privateMethod ({ cls := "ClockworkOrreriesModel", name := "toldDate", desc := "()I" } : Jvm.MethodName)) ∈ lw_tbl := lw_at lw_m9 202 rfl
theorem q2197 : (Jvm.Cond.instanceMethod ({ cls := "ClockworkOrreriesModel", name := "toldDate", desc := "()I" } : Jvm.MethodName)) ∈ lw_all := lw_g (lw_at lw_m9 203 rfl) rfl
theorem q2198 : (Jvm.Cond.code ({ cls := "ClockworkOrreriesModel", name := "toldDate", desc := "()I" } : Jvm.MethodName) prog_10_method_100_code (1 : Nat) (Option.some Jvm.ClassFile.FieldType.int)) ∈ lw_all := lw_g (lw_at lw_m9 204 rfl) rfl
theorem q2199 : (Jvm.Cond.methodLink "ClockworkOrreriesModel" (243 : Nat) ({ cls := "ClockworkOrreriesModel", name := "finds", desc := "(I)V" } : Jvm.MethodName)) ∈ lw_all := lw_g (lw_at lw_m9 205 rfl) rfl
theorem q2200 : (Jvm.Cond.privateMethod ({ cls := "ClockworkOrreriesModel", name := "finds", desc := "(I)V" } : Jvm.MethodName)) ∈ lw_tbl := lw_at lw_m9 206 rfl
theorem q2201 : (Jvm.Cond.instanceMethod ({ cls := "ClockworkOrreriesModel", name := "finds", desc := "(I)V" } : Jvm.MethodName)) ∈ lw_all := lw_g (lw_at lw_m9 207 rfl) rfl
theorem q2202 : (Jvm.Cond.code ({ cls := "ClockworkOrreriesModel", name := "finds", desc := "(I)V" } : Jvm.MethodName) prog_10_method_98_code (3 : Nat) (Option.none : Option Jvm.ClassFile.FieldType)) ∈ lw_all := lw_g (lw_at lw_m9 208 rfl) rfl
theorem q2203 : (Jvm.Cond.methodLink "ClockworkOrreriesModel" (225 : Nat) ({ cls := "ClockworkOrreriesModel", name := "isLong", desc := "(I)Z" } : Jvm.MethodName)) ∈ lw_all := lw_g (lw_at lw_m9 209 rfl) rfl
theorem q2204 : (Jvm.Cond.static ({ cls := "ClockworkOrreriesModel", name := "isLong", desc := "(I)Z" } : Jvm.MethodName)) ∈ lw_all := lw_g (lw_at lw_m9 210 rfl) rfl
theorem q2205 : (Jvm.Cond.code ({ cls := "ClockworkOrreriesModel", name := "isLong", desc := "(I)Z" } : Jvm.MethodName) prog_10_method_96_code (1 : Nat) (Option.some Jvm.ClassFile.FieldType.boolean)) ∈ lw_all := lw_g (lw_at lw_m9 211 rfl) rfl
theorem q2206 : (Jvm.Cond.methodLink "ClockworkOrreriesModel" (237 : Nat) ({ cls := "ClockworkOrreriesModel", name := "daysOf", desc := "(II)I" } : Jvm.MethodName)) ∈ lw_all := lw_g (lw_at lw_m9 212 rfl) rfl
theorem q2207 : (Jvm.Cond.static ({ cls := "ClockworkOrreriesModel", name := "daysOf", desc := "(II)I" } : Jvm.MethodName)) ∈ lw_all := lw_g (lw_at lw_m9 213 rfl) rfl
theorem q2208 : (Jvm.Cond.code ({ cls := "ClockworkOrreriesModel", name := "daysOf", desc := "(II)I" } : Jvm.MethodName) prog_10_method_97_code (2 : Nat) (Option.some Jvm.ClassFile.FieldType.int)) ∈ lw_all := lw_g (lw_at lw_m9 214 rfl) rfl
theorem q2210 : (Jvm.Cond.instanceMethod ({ cls := "ClockworkOrreriesModel", name := "dateByRule", desc := "()I" } : Jvm.MethodName)) ∈ lw_all := lw_g (lw_at lw_m9 216 rfl) rfl
theorem q2211 : (Jvm.Cond.selects "ClockworkOrreriesModel" ({ cls := "ClockworkOrreriesModel", name := "dateByRule", desc := "()I" } : Jvm.MethodName) ({ cls := "ClockworkOrreriesModel", name := "dateByRule", desc := "()I" } : Jvm.MethodName)) ∈ lw_all := lw_g (lw_at lw_m9 217 rfl) rfl
theorem q2212 : (Jvm.Cond.code ({ cls := "ClockworkOrreriesModel", name := "dateByRule", desc := "()I" } : Jvm.MethodName) prog_10_method_102_code (1 : Nat) (Option.some Jvm.ClassFile.FieldType.int)) ∈ lw_all := lw_g (lw_at lw_m9 218 rfl) rfl
theorem q2214 : (Jvm.Cond.instanceMethod ({ cls := "ClockworkOrreriesModel", name := "dayOf", desc := "(III)I" } : Jvm.MethodName)) ∈ lw_all := lw_g (lw_at lw_m9 220 rfl) rfl
theorem q2215 : (Jvm.Cond.selects "ClockworkOrreriesModel" ({ cls := "ClockworkOrreriesModel", name := "dayOf", desc := "(III)I" } : Jvm.MethodName) ({ cls := "ClockworkOrreriesModel", name := "dayOf", desc := "(III)I" } : Jvm.MethodName)) ∈ lw_all := lw_g (lw_at lw_m9 221 rfl) rfl
theorem q2216 : (Jvm.Cond.code ({ cls := "ClockworkOrreriesModel", name := "dayOf", desc := "(III)I" } : Jvm.MethodName) prog_10_method_103_code (6 : Nat) (Option.some Jvm.ClassFile.FieldType.int)) ∈ lw_all := lw_g (lw_at lw_m9 222 rfl) rfl
theorem q2218 : (Jvm.Cond.instanceMethod ({ cls := "ClockworkOrreriesModel", name := "weekday", desc := "()I" } : Jvm.MethodName)) ∈ lw_all := lw_g (lw_at lw_m9 224 rfl) rfl
theorem q2219 : (Jvm.Cond.selects "ClockworkOrreriesModel" ({ cls := "ClockworkOrreriesModel", name := "weekday", desc := "()I" } : Jvm.MethodName) ({ cls := "ClockworkOrreriesModel", name := "weekday", desc := "()I" } : Jvm.MethodName)) ∈ lw_all := lw_g (lw_at lw_m9 225 rfl) rfl
theorem q2220 : (Jvm.Cond.code ({ cls := "ClockworkOrreriesModel", name := "weekday", desc := "()I" } : Jvm.MethodName) prog_10_method_104_code (1 : Nat) (Option.some Jvm.ClassFile.FieldType.int)) ∈ lw_all := lw_g (lw_at lw_m9 226 rfl) rfl
theorem q2222 : (Jvm.Cond.instanceMethod ({ cls := "ClockworkOrreriesModel", name := "daysUntil", desc := "(II)I" } : Jvm.MethodName)) ∈ lw_all := lw_g (lw_at lw_m9 228 rfl) rfl
theorem q2223 : (Jvm.Cond.selects "ClockworkOrreriesModel" ({ cls := "ClockworkOrreriesModel", name := "daysUntil", desc := "(II)I" } : Jvm.MethodName) ({ cls := "ClockworkOrreriesModel", name := "daysUntil", desc := "(II)I" } : Jvm.MethodName)) ∈ lw_all := lw_g (lw_at lw_m9 229 rfl) rfl
theorem q2224 : (Jvm.Cond.code ({ cls := "ClockworkOrreriesModel", name := "daysUntil", desc := "(II)I" } : Jvm.MethodName) prog_10_method_105_code (4 : Nat) (Option.some Jvm.ClassFile.FieldType.int)) ∈ lw_all := lw_g (lw_at lw_m9 230 rfl) rfl
theorem q2226 : (Jvm.Cond.instanceMethod ({ cls := "ClockworkOrreriesModel", name := "dayOfYear", desc := "()I" } : Jvm.MethodName)) ∈ lw_all := lw_g (lw_at lw_m9 232 rfl) rfl
theorem q2227 : (Jvm.Cond.selects "ClockworkOrreriesModel" ({ cls := "ClockworkOrreriesModel", name := "dayOfYear", desc := "()I" } : Jvm.MethodName) ({ cls := "ClockworkOrreriesModel", name := "dayOfYear", desc := "()I" } : Jvm.MethodName)) ∈ lw_all := lw_g (lw_at lw_m9 233 rfl) rfl
theorem q2228 : (Jvm.Cond.code ({ cls := "ClockworkOrreriesModel", name := "dayOfYear", desc := "()I" } : Jvm.MethodName) prog_10_method_106_code (1 : Nat) (Option.some Jvm.ClassFile.FieldType.int)) ∈ lw_all := lw_g (lw_at lw_m9 234 rfl) rfl
theorem q2230 : (Jvm.Cond.instanceMethod ({ cls := "ClockworkOrreriesModel", name := "periodOf", desc := "(I)I" } : Jvm.MethodName)) ∈ lw_all := lw_g (lw_at lw_m9 236 rfl) rfl
theorem q2231 : (Jvm.Cond.selects "ClockworkOrreriesModel" ({ cls := "ClockworkOrreriesModel", name := "periodOf", desc := "(I)I" } : Jvm.MethodName) ({ cls := "ClockworkOrreriesModel", name := "periodOf", desc := "(I)I" } : Jvm.MethodName)) ∈ lw_all := lw_g (lw_at lw_m9 237 rfl) rfl
theorem q2232 : (Jvm.Cond.code ({ cls := "ClockworkOrreriesModel", name := "periodOf", desc := "(I)I" } : Jvm.MethodName) prog_10_method_107_code (2 : Nat) (Option.some Jvm.ClassFile.FieldType.int)) ∈ lw_all := lw_g (lw_at lw_m9 238 rfl) rfl
theorem q2234 : (Jvm.Cond.instanceMethod ({ cls := "ClockworkOrreriesModel", name := "errorBits", desc := "(I)J" } : Jvm.MethodName)) ∈ lw_all := lw_g (lw_at lw_m10 0 rfl) rfl
theorem q2235 : (Jvm.Cond.selects "ClockworkOrreriesModel" ({ cls := "ClockworkOrreriesModel", name := "errorBits", desc := "(I)J" } : Jvm.MethodName) ({ cls := "ClockworkOrreriesModel", name := "errorBits", desc := "(I)J" } : Jvm.MethodName)) ∈ lw_all := lw_g (lw_at lw_m10 1 rfl) rfl
theorem q2236 : (Jvm.Cond.code ({ cls := "ClockworkOrreriesModel", name := "errorBits", desc := "(I)J" } : Jvm.MethodName) prog_10_method_108_code (6 : Nat) (Option.some Jvm.ClassFile.FieldType.long)) ∈ lw_all := lw_g (lw_at lw_m10 2 rfl) rfl
theorem q2237 : (Jvm.Cond.constantDouble "ClockworkOrreriesModel" (250 : Nat) (4652007308841189376 : UInt64)) ∈ lw_all := lw_g (lw_at lw_m10 3 rfl) rfl
theorem q2238 : (Jvm.Cond.methodLink "ClockworkOrreriesModel" (252 : Nat) ({ cls := "java/lang/Double", name := "doubleToLongBits", desc := "(D)J" } : Jvm.MethodName)) ∈ lw_all := lw_g (lw_at lw_m10 4 rfl) rfl
theorem q2240 : (Jvm.Cond.instanceMethod ({ cls := "ClockworkOrreriesModel", name := "bestPair", desc := "(II)I" } : Jvm.MethodName)) ∈ lw_all := lw_g (lw_at lw_m10 6 rfl) rfl
theorem q2241 : (Jvm.Cond.selects "ClockworkOrreriesModel" ({ cls := "ClockworkOrreriesModel", name := "bestPair", desc := "(II)I" } : Jvm.MethodName) ({ cls := "ClockworkOrreriesModel", name := "bestPair", desc := "(II)I" } : Jvm.MethodName)) ∈ lw_all := lw_g (lw_at lw_m10 7 rfl) rfl
theorem q2242 : (Jvm.Cond.code ({ cls := "ClockworkOrreriesModel", name := "bestPair", desc := "(II)I" } : Jvm.MethodName) prog_10_method_109_code (12 : Nat) (Option.some Jvm.ClassFile.FieldType.int)) ∈ lw_all := lw_g (lw_at lw_m10 8 rfl) rfl
theorem q2244 : (Jvm.Cond.instanceMethod ({ cls := "ClockworkOrreriesModel", name := "degrees", desc := "(I)F" } : Jvm.MethodName)) ∈ lw_all := lw_g (lw_at lw_m10 10 rfl) rfl
theorem q2245 : (Jvm.Cond.selects "ClockworkOrreriesModel" ({ cls := "ClockworkOrreriesModel", name := "degrees", desc := "(I)F" } : Jvm.MethodName) ({ cls := "ClockworkOrreriesModel", name := "degrees", desc := "(I)F" } : Jvm.MethodName)) ∈ lw_all := lw_g (lw_at lw_m10 11 rfl) rfl
theorem q2246 : (Jvm.Cond.code ({ cls := "ClockworkOrreriesModel", name := "degrees", desc := "(I)F" } : Jvm.MethodName) prog_10_method_110_code (2 : Nat) (Option.some Jvm.ClassFile.FieldType.float)) ∈ lw_all := lw_g (lw_at lw_m10 12 rfl) rfl
theorem q2247 : (Jvm.Cond.constantFloat "ClockworkOrreriesModel" (258 : Nat) (1114636288 : UInt32)) ∈ lw_all := lw_g (lw_at lw_m10 13 rfl) rfl
theorem q2249 : (Jvm.Cond.instanceMethod ({ cls := "ClockworkOrreriesModel", name := "degreeBits", desc := "(I)I" } : Jvm.MethodName)) ∈ lw_all := lw_g (lw_at lw_m10 15 rfl) rfl
theorem q2250 : (Jvm.Cond.selects "ClockworkOrreriesModel" ({ cls := "ClockworkOrreriesModel", name := "degreeBits", desc := "(I)I" } : Jvm.MethodName) ({ cls := "ClockworkOrreriesModel", name := "degreeBits", desc := "(I)I" } : Jvm.MethodName)) ∈ lw_all := lw_g (lw_at lw_m10 16 rfl) rfl
theorem q2251 : (Jvm.Cond.code ({ cls := "ClockworkOrreriesModel", name := "degreeBits", desc := "(I)I" } : Jvm.MethodName) prog_10_method_111_code (2 : Nat) (Option.some Jvm.ClassFile.FieldType.int)) ∈ lw_all := lw_g (lw_at lw_m10 17 rfl) rfl
theorem q2252 : (Jvm.Cond.methodLink "ClockworkOrreriesModel" (259 : Nat) ({ cls := "java/lang/Float", name := "floatToIntBits", desc := "(F)I" } : Jvm.MethodName)) ∈ lw_all := lw_g (lw_at lw_m10 18 rfl) rfl
theorem q2254 : (Jvm.Cond.instanceMethod ({ cls := "ClockworkOrreriesModel", name := "bestTrain", desc := "(I)I" } : Jvm.MethodName)) ∈ lw_all := lw_g (lw_at lw_m10 20 rfl) rfl
theorem q2255 : (Jvm.Cond.selects "ClockworkOrreriesModel" ({ cls := "ClockworkOrreriesModel", name := "bestTrain", desc := "(I)I" } : Jvm.MethodName) ({ cls := "ClockworkOrreriesModel", name := "bestTrain", desc := "(I)I" } : Jvm.MethodName)) ∈ lw_all := lw_g (lw_at lw_m10 21 rfl) rfl
theorem q2256 : (Jvm.Cond.code ({ cls := "ClockworkOrreriesModel", name := "bestTrain", desc := "(I)I" } : Jvm.MethodName) prog_10_method_112_code (20 : Nat) (Option.some Jvm.ClassFile.FieldType.int)) ∈ lw_all := lw_g (lw_at lw_m10 22 rfl) rfl
theorem q2257 : (Jvm.Cond.constantLong "ClockworkOrreriesModel" (265 : Nat) (1000 : Int64)) ∈ lw_all := lw_g (lw_at lw_m10 23 rfl) rfl
theorem q2259 : (Jvm.Cond.instanceMethod ({ cls := "ClockworkOrreriesModel", name := "passed", desc := "()I" } : Jvm.MethodName)) ∈ lw_all := lw_g (lw_at lw_m10 25 rfl) rfl
theorem q2260 : (Jvm.Cond.selects "ClockworkOrreriesModel" ({ cls := "ClockworkOrreriesModel", name := "passed", desc := "()I" } : Jvm.MethodName) ({ cls := "ClockworkOrreriesModel", name := "passed", desc := "()I" } : Jvm.MethodName)) ∈ lw_all := lw_g (lw_at lw_m10 26 rfl) rfl
theorem q2261 : (Jvm.Cond.code ({ cls := "ClockworkOrreriesModel", name := "passed", desc := "()I" } : Jvm.MethodName) prog_10_method_113_code (1 : Nat) (Option.some Jvm.ClassFile.FieldType.int)) ∈ lw_all := lw_g (lw_at lw_m10 27 rfl) rfl
theorem q2263 : (Jvm.Cond.instanceMethod ({ cls := "ClockworkOrreriesModel", name := "driven", desc := "()I" } : Jvm.MethodName)) ∈ lw_all := lw_g (lw_at lw_m10 29 rfl) rfl
theorem q2264 : (Jvm.Cond.selects "ClockworkOrreriesModel" ({ cls := "ClockworkOrreriesModel", name := "driven", desc := "()I" } : Jvm.MethodName) ({ cls := "ClockworkOrreriesModel", name := "driven", desc := "()I" } : Jvm.MethodName)) ∈ lw_all := lw_g (lw_at lw_m10 30 rfl) rfl
theorem q2265 : (Jvm.Cond.code ({ cls := "ClockworkOrreriesModel", name := "driven", desc := "()I" } : Jvm.MethodName) prog_10_method_114_code (1 : Nat) (Option.some Jvm.ClassFile.FieldType.int)) ∈ lw_all := lw_g (lw_at lw_m10 31 rfl) rfl
theorem q2267 : (Jvm.Cond.instanceMethod ({ cls := "ClockworkOrreriesModel", name := "allTeeth", desc := "()I" } : Jvm.MethodName)) ∈ lw_all := lw_g (lw_at lw_m10 33 rfl) rfl
theorem q2268 : (Jvm.Cond.selects "ClockworkOrreriesModel" ({ cls := "ClockworkOrreriesModel", name := "allTeeth", desc := "()I" } : Jvm.MethodName) ({ cls := "ClockworkOrreriesModel", name := "allTeeth", desc := "()I" } : Jvm.MethodName)) ∈ lw_all := lw_g (lw_at lw_m10 34 rfl) rfl
theorem q2269 : (Jvm.Cond.code ({ cls := "ClockworkOrreriesModel", name := "allTeeth", desc := "()I" } : Jvm.MethodName) prog_10_method_115_code (3 : Nat) (Option.some Jvm.ClassFile.FieldType.int)) ∈ lw_all := lw_g (lw_at lw_m10 35 rfl) rfl
theorem q2271 : (Jvm.Cond.instanceMethod ({ cls := "ClockworkOrreriesModel", name := "states", desc := "()I" } : Jvm.MethodName)) ∈ lw_all := lw_g (lw_at lw_m10 37 rfl) rfl
theorem q2272 : (Jvm.Cond.selects "ClockworkOrreriesModel" ({ cls := "ClockworkOrreriesModel", name := "states", desc := "()I" } : Jvm.MethodName) ({ cls := "ClockworkOrreriesModel", name := "states", desc := "()I" } : Jvm.MethodName)) ∈ lw_all := lw_g (lw_at lw_m10 38 rfl) rfl
theorem q2273 : (Jvm.Cond.code ({ cls := "ClockworkOrreriesModel", name := "states", desc := "()I" } : Jvm.MethodName) prog_10_method_116_code (1 : Nat) (Option.some Jvm.ClassFile.FieldType.int)) ∈ lw_all := lw_g (lw_at lw_m10 39 rfl) rfl
theorem q2275 : (Jvm.Cond.instanceMethod ({ cls := "ClockworkOrreriesModel", name := "type", desc := "(I)I" } : Jvm.MethodName)) ∈ lw_all := lw_g (lw_at lw_m10 41 rfl) rfl
theorem q2276 : (Jvm.Cond.selects "ClockworkOrreriesModel" ({ cls := "ClockworkOrreriesModel", name := "type", desc := "(I)I" } : Jvm.MethodName) ({ cls := "ClockworkOrreriesModel", name := "type", desc := "(I)I" } : Jvm.MethodName)) ∈ lw_all := lw_g (lw_at lw_m10 42 rfl) rfl
theorem q2277 : (Jvm.Cond.code ({ cls := "ClockworkOrreriesModel", name := "type", desc := "(I)I" } : Jvm.MethodName) prog_10_method_117_code (2 : Nat) (Option.some Jvm.ClassFile.FieldType.int)) ∈ lw_all := lw_g (lw_at lw_m10 43 rfl) rfl
theorem q2279 : (Jvm.Cond.instanceMethod ({ cls := "ClockworkOrreriesModel", name := "clearText", desc := "()I" } : Jvm.MethodName)) ∈ lw_all := lw_g (lw_at lw_m10 45 rfl) rfl
theorem q2280 : (Jvm.Cond.selects "ClockworkOrreriesModel" ({ cls := "ClockworkOrreriesModel", name := "clearText", desc := "()I" } : Jvm.MethodName) ({ cls := "ClockworkOrreriesModel", name := "clearText", desc := "()I" } : Jvm.MethodName)) ∈ lw_all := lw_g (lw_at lw_m10 46 rfl) rfl
theorem q2281 : (Jvm.Cond.code ({ cls := "ClockworkOrreriesModel", name := "clearText", desc := "()I" } : Jvm.MethodName) prog_10_method_118_code (2 : Nat) (Option.some Jvm.ClassFile.FieldType.int)) ∈ lw_all := lw_g (lw_at lw_m10 47 rfl) rfl
theorem q2283 : (Jvm.Cond.instanceMethod ({ cls := "ClockworkOrreriesModel", name := "faultPosition", desc := "()I" } : Jvm.MethodName)) ∈ lw_all := lw_g (lw_at lw_m10 49 rfl) rfl
theorem q2284 : (Jvm.Cond.selects "ClockworkOrreriesModel" ({ cls := "ClockworkOrreriesModel", name := "faultPosition", desc := "()I" } : Jvm.MethodName) ({ cls := "ClockworkOrreriesModel", name := "faultPosition", desc := "()I" } : Jvm.MethodName)) ∈ lw_all := lw_g (lw_at lw_m10 50 rfl) rfl
theorem q2285 : (Jvm.Cond.code ({ cls := "ClockworkOrreriesModel", name := "faultPosition", desc := "()I" } : Jvm.MethodName) prog_10_method_126_code (1 : Nat) (Option.some Jvm.ClassFile.FieldType.int)) ∈ lw_all := lw_g (lw_at lw_m10 51 rfl) rfl
theorem q2286 : (Jvm.Cond.methodLink "ClockworkOrreriesModel" (312 : Nat) ({ cls := "ClockworkOrreriesModel", name := "faultTold", desc := "(I)I" } : Jvm.MethodName)) ∈ lw_all := lw_g (lw_at lw_m10 52 rfl) rfl
theorem q2287 : (Jvm.Cond.privateMethod ({ cls := "ClockworkOrreriesModel", name := "faultTold", desc := "(I)I" } : Jvm.MethodName)) ∈ lw_tbl := lw_at lw_m10 53 rfl
theorem q2288 : (Jvm.Cond.instanceMethod ({ cls := "ClockworkOrreriesModel", name := "faultTold", desc := "(I)I" } : Jvm.MethodName)) ∈ lw_all := lw_g (lw_at lw_m10 54 rfl) rfl
theorem q2289 : (Jvm.Cond.code ({ cls := "ClockworkOrreriesModel", name := "faultTold", desc := "(I)I" } : Jvm.MethodName) prog_10_method_125_code (3 : Nat) (Option.some Jvm.ClassFile.FieldType.int)) ∈ lw_all := lw_g (lw_at lw_m10 55 rfl) rfl
theorem q2290 : (Jvm.Cond.methodLink "ClockworkOrreriesModel" (309 : Nat) ({ cls := "ClockworkOrreriesModel", name := "doesAll", desc := "()I" } : Jvm.MethodName)) ∈ lw_all := lw_g (lw_at lw_m10 56 rfl) rfl
theorem q2291 : (Jvm.Cond.privateMethod ({ cls := "ClockworkOrreriesModel", name := "doesAll", desc := "()I" } : Jvm.MethodName)) ∈ lw_tbl := lw_at lw_m10 57 rfl
theorem q2292 : (Jvm.Cond.instanceMethod ({ cls := "ClockworkOrreriesModel", name := "doesAll", desc := "()I" } : Jvm.MethodName)) ∈ lw_all := lw_g (lw_at lw_m10 58 rfl) rfl
theorem q2293 : (Jvm.Cond.code ({ cls := "ClockworkOrreriesModel", name := "doesAll", desc := "()I" } : Jvm.MethodName) prog_10_method_124_code (3 : Nat) (Option.some Jvm.ClassFile.FieldType.int)) ∈ lw_all := lw_g (lw_at lw_m10 59 rfl) rfl
theorem q2294 : (Jvm.Cond.methodLink "ClockworkOrreriesModel" (300 : Nat) ({ cls := "ClockworkOrreriesModel", name := "takesOrder", desc := "()V" } : Jvm.MethodName)) ∈ lw_all := lw_g (lw_at lw_m10 60 rfl) rfl
theorem q2295 : (Jvm.Cond.privateMethod ({ cls := "ClockworkOrreriesModel", name := "takesOrder", desc := "()V" } : Jvm.MethodName)) ∈ lw_tbl := lw_at lw_m10 61 rfl
theorem q2296 : (Jvm.Cond.instanceMethod ({ cls := "ClockworkOrreriesModel", name := "takesOrder", desc := "()V" } : Jvm.MethodName)) ∈ lw_all := lw_g (lw_at lw_m10 62 rfl) rfl
theorem q2297 : (Jvm.Cond.code ({ cls := "ClockworkOrreriesModel", name := "takesOrder", desc := "()V" } : Jvm.MethodName) prog_10_method_122_code (3 : Nat) (Option.none : Option Jvm.ClassFile.FieldType)) ∈ lw_all := lw_g (lw_at lw_m10 63 rfl) rfl
theorem q2298 : (Jvm.Cond.methodLink "ClockworkOrreriesModel" (276 : Nat) ({ cls := "ClockworkOrreriesModel", name := "here", desc := "()I" } : Jvm.MethodName)) ∈ lw_all := lw_g (lw_at lw_m10 64 rfl) rfl
theorem q2299 : (Jvm.Cond.privateMethod ({ cls := "ClockworkOrreriesModel", name := "here", desc := "()I" } : Jvm.MethodName)) ∈ lw_tbl := lw_at lw_m10 65 rfl
theorem q2300 : (Jvm.Cond.instanceMethod ({ cls := "ClockworkOrreriesModel", name := "here", desc := "()I" } : Jvm.MethodName)) ∈ lw_all := lw_g (lw_at lw_m10 66 rfl) rfl
theorem q2301 : (Jvm.Cond.code ({ cls := "ClockworkOrreriesModel", name := "here", desc := "()I" } : Jvm.MethodName) prog_10_method_119_code (1 : Nat) (Option.some Jvm.ClassFile.FieldType.int)) ∈ lw_all := lw_g (lw_at lw_m10 67 rfl) rfl
theorem q2302 : (Jvm.Cond.methodLink "ClockworkOrreriesModel" (285 : Nat) ({ cls := "ClockworkOrreriesModel", name := "takes", desc := "(Z)V" } : Jvm.MethodName)) ∈ lw_all := lw_g (lw_at lw_m10 68 rfl) rfl
theorem q2303 : (Jvm.Cond.privateMethod ({ cls := "ClockworkOrreriesModel", name := "takes", desc := "(Z)V" } : Jvm.MethodName)) ∈ lw_tbl := lw_at lw_m10 69 rfl
theorem q2304 : (Jvm.Cond.instanceMethod ({ cls := "ClockworkOrreriesModel", name := "takes", desc := "(Z)V" } : Jvm.MethodName)) ∈ lw_all := lw_g (lw_at lw_m10 70 rfl) rfl
theorem q2305 : (Jvm.Cond.code ({ cls := "ClockworkOrreriesModel", name := "takes", desc := "(Z)V" } : Jvm.MethodName) prog_10_method_120_code (2 : Nat) (Option.none : Option Jvm.ClassFile.FieldType)) ∈ lw_all := lw_g (lw_at lw_m10 71 rfl) rfl
theorem q2306 : (Jvm.Cond.methodLink "ClockworkOrreriesModel" (289 : Nat) ({ cls := "ClockworkOrreriesModel", name := "takesNumber", desc := "()I" } : Jvm.MethodName)) ∈ lw_all := lw_g (lw_at lw_m10 72 rfl) rfl
theorem q2307 : (Jvm.Cond.privateMethod ({ cls := "ClockworkOrreriesModel", name := "takesNumber", desc := "()I" } : Jvm.MethodName)) ∈ lw_tbl := lw_at lw_m10 73 rfl
theorem q2308 : (Jvm.Cond.instanceMethod ({ cls := "ClockworkOrreriesModel", name := "takesNumber", desc := "()I" } : Jvm.MethodName)) ∈ lw_all := lw_g (lw_at lw_m10 74 rfl) rfl
theorem q2309 : (Jvm.Cond.code ({ cls := "ClockworkOrreriesModel", name := "takesNumber", desc := "()I" } : Jvm.MethodName) prog_10_method_121_code (3 : Nat) (Option.some Jvm.ClassFile.FieldType.int)) ∈ lw_all := lw_g (lw_at lw_m10 75 rfl) rfl
theorem q2310 : (Jvm.Cond.methodLink "ClockworkOrreriesModel" (303 : Nat) ({ cls := "ClockworkOrreriesModel", name := "doesOrder", desc := "()I" } : Jvm.MethodName)) ∈ lw_all := lw_g (lw_at lw_m10 76 rfl) rfl
theorem q2311 : (Jvm.Cond.privateMethod ({ cls := "ClockworkOrreriesModel", name := "doesOrder", desc := "()I" } : Jvm.MethodName)) ∈ lw_tbl := lw_at lw_m10 77 rfl
theorem q2312 : (Jvm.Cond.instanceMethod ({ cls := "ClockworkOrreriesModel", name := "doesOrder", desc := "()I" } : Jvm.MethodName)) ∈ lw_all := lw_g (lw_at lw_m10 78 rfl) rfl
theorem q2313 : (Jvm.Cond.code ({ cls := "ClockworkOrreriesModel", name := "doesOrder", desc := "()I" } : Jvm.MethodName) prog_10_method_123_code (1 : Nat) (Option.some Jvm.ClassFile.FieldType.int)) ∈ lw_all := lw_g (lw_at lw_m10 79 rfl) rfl
theorem q2315 : (Jvm.Cond.instanceMethod ({ cls := "ClockworkOrreriesModel", name := "faultReason", desc := "()I" } : Jvm.MethodName)) ∈ lw_all := lw_g (lw_at lw_m10 81 rfl) rfl
theorem q2316 : (Jvm.Cond.selects "ClockworkOrreriesModel" ({ cls := "ClockworkOrreriesModel", name := "faultReason", desc := "()I" } : Jvm.MethodName) ({ cls := "ClockworkOrreriesModel", name := "faultReason", desc := "()I" } : Jvm.MethodName)) ∈ lw_all := lw_g (lw_at lw_m10 82 rfl) rfl
theorem q2317 : (Jvm.Cond.code ({ cls := "ClockworkOrreriesModel", name := "faultReason", desc := "()I" } : Jvm.MethodName) prog_10_method_127_code (1 : Nat) (Option.some Jvm.ClassFile.FieldType.int)) ∈ lw_all := lw_g (lw_at lw_m10 83 rfl) rfl
theorem q2319 : (Jvm.Cond.instanceMethod ({ cls := "ClockworkOrreriesModel", name := "faultCause", desc := "()I" } : Jvm.MethodName)) ∈ lw_all := lw_g (lw_at lw_m10 85 rfl) rfl
theorem q2320 : (Jvm.Cond.selects "ClockworkOrreriesModel" ({ cls := "ClockworkOrreriesModel", name := "faultCause", desc := "()I" } : Jvm.MethodName) ({ cls := "ClockworkOrreriesModel", name := "faultCause", desc := "()I" } : Jvm.MethodName)) ∈ lw_all := lw_g (lw_at lw_m10 86 rfl) rfl
theorem q2321 : (Jvm.Cond.code ({ cls := "ClockworkOrreriesModel", name := "faultCause", desc := "()I" } : Jvm.MethodName) prog_10_method_128_code (1 : Nat) (Option.some Jvm.ClassFile.FieldType.int)) ∈ lw_all := lw_g (lw_at lw_m10 87 rfl) rfl
theorem q2323 : (Jvm.Cond.instanceMethod ({ cls := "ClockworkOrreriesModel", name := "play", desc := "()I" } : Jvm.MethodName)) ∈ lw_all := lw_g (lw_at lw_m10 89 rfl) rfl
theorem q2324 : (Jvm.Cond.selects "ClockworkOrreriesModel" ({ cls := "ClockworkOrreriesModel", name := "play", desc := "()I" } : Jvm.MethodName) ({ cls := "ClockworkOrreriesModel", name := "play", desc := "()I" } : Jvm.MethodName)) ∈ lw_all := lw_g (lw_at lw_m10 90 rfl) rfl
theorem q2325 : (Jvm.Cond.code ({ cls := "ClockworkOrreriesModel", name := "play", desc := "()I" } : Jvm.MethodName) prog_10_method_129_code (2 : Nat) (Option.some Jvm.ClassFile.FieldType.int)) ∈ lw_all := lw_g (lw_at lw_m10 91 rfl) rfl
theorem q2347 : (Jvm.Cond.castable "ClockworkOrreriesModel" "java/lang/Object") ∈ lw_tbl := lw_at lw_m10 113 rfl
theorem in_X3 : ∀ w ∈ wsX30, w ∈ lw_all := lw_in wsX30 [1756, 1758, 1760, 1762, 1764, 1766, 1768, 1770, 1772, 1774, 1776, 1778, 1780, 1782, 1784, 1786, 1788, 1790, 1792, 1794, 1796, 1798, 1800, 1802, 1804, 1806, 1808, 1810] (by decide +kernel) (by decide +kernel)
